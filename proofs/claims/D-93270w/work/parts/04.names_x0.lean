/-! KeptLeaves -/
set_option maxRecDepth 100000
def RX0 : String := "KeptLeaves"
def TX0 : u_T := fun k => match k with
  | 0 => ("KeptLeaves", "now", "LKeptLeaves$State;", true)
  | 1 => ("KeptLeaves", "image", "LKeptLeaves$State;", true)
  | 2 => ("KeptLeaves", "aside", "LKeptLeaves$State;", true)
  | 3 => ("KeptLeaves", "hasImage", "Z", false)
  | 4 => ("KeptLeaves", "beside", "LKeptLeaves$Shelf;", true)
  | 5 => ("KeptLeaves", "on", "LKeptLeaves$Shelf;", false)
  | 6 => ("KeptLeaves", "pile", "[I", true)
  | 7 => ("KeptLeaves", "tape", "[B", true)
  | 8 => ("KeptLeaves", "taped", "I", false)
  | 9 => ("KeptLeaves", "fault", "LKeptLeaves$Fault;", true)
  | 10 => ("KeptLeaves", "from", "I", false)
  | 11 => ("KeptLeaves", "to", "I", false)
  | 12 => ("KeptLeaves", "end", "I", false)
  | 13 => ("KeptLeaves", "parens", "I", false)
  | 14 => ("KeptLeaves", "nots", "I", false)
  | 15 => ("KeptLeaves", "wordMany", "I", false)
  | 16 => ("KeptLeaves", "keyRead", "I", false)
  | 17 => ("KeptLeaves", "named", "[I", true)
  | 18 => ("KeptLeaves", "rooms", "[I", true)
  | 19 => ("KeptLeaves", "misses", "[I", true)
  | 20 => ("KeptLeaves", "chains", "[I", true)
  | 21 => ("KeptLeaves", "fits", "[Z", true)
  | 22 => ("KeptLeaves", "from1", "[I", true)
  | 23 => ("KeptLeaves", "inside", "[I", true)
  | 24 => ("KeptLeaves", "thoughtRow", "[I", true)
  | 25 => ("KeptLeaves", "sheets", "[LKeptLeaves$Sheet;", true)
  | 26 => ("KeptLeaves", "slots", "[LKeptLeaves$Slot;", true)
  | 27 => ("KeptLeaves", "carried", "[F", true)
  | 28 => ("KeptLeaves", "waits", "[I", true)
  | 29 => ("KeptLeaves", "waitMany", "I", false)
  | _ => ("KeptLeaves", "rows", "[I", true)
def tyX0 : Nat → FieldType := fun k => match k with
  | 0 => .object "KeptLeaves$State"
  | 1 => .object "KeptLeaves$State"
  | 2 => .object "KeptLeaves$State"
  | 3 => .boolean
  | 4 => .object "KeptLeaves$Shelf"
  | 5 => .object "KeptLeaves$Shelf"
  | 6 => .array .int
  | 7 => .array .byte
  | 8 => .int
  | 9 => .object "KeptLeaves$Fault"
  | 10 => .int
  | 11 => .int
  | 12 => .int
  | 13 => .int
  | 14 => .int
  | 15 => .int
  | 16 => .int
  | 17 => .array .int
  | 18 => .array .int
  | 19 => .array .int
  | 20 => .array .int
  | 21 => .array .boolean
  | 22 => .array .int
  | 23 => .array .int
  | 24 => .array .int
  | 25 => .array (.object "KeptLeaves$Sheet")
  | 26 => .array (.object "KeptLeaves$Slot")
  | 27 => .array .float
  | 28 => .array .int
  | 29 => .int
  | _ => .array .int
abbrev wsX00 : List Cond := u_ws RX0 TX0 31
set_option maxRecDepth 100000 in
theorem nmX0 : ∀ a, a < 31 → ∀ b, b < 31 → a ≠ b → (TX0 a).2.1 ≠ (TX0 b).2.1 := by decide +kernel
set_option maxRecDepth 100000 in
theorem tyX0_ok : ∀ k, k < 31 → parseFieldDescriptor (TX0 k).2.2.1 = some (tyX0 k) := by decide +kernel
abbrev cX0_init : ByteArray := prog_1_method_6_code
def yX0_init : MethodName := ⟨RX0, "<init>", "()V"⟩
def dkwX0_init_12 : List UInt8 := [181, 0, 130, 177]
abbrev dktX0_init_12 : List UInt8 := dkwX0_init_12 ++ []
def dkwX0_init_11 : List UInt8 := [181, 0, 119, 42, 16, 24, 188, 6, 181, 0, 123, 42, 16, 60, 188, 10, 181, 0, 127, 42, 16, 60, 188, 10]
abbrev dktX0_init_11 : List UInt8 := dkwX0_init_11 ++ dktX0_init_12
def dkwX0_init_10 : List UInt8 := [183, 0, 118, 83, 89, 6, 187, 0, 116, 89, 183, 0, 118, 83, 89, 7, 187, 0, 116, 89, 183, 0, 118, 83]
abbrev dktX0_init_10 : List UInt8 := dkwX0_init_10 ++ dktX0_init_11
def dkwX0_init_9 : List UInt8 := [187, 0, 116, 89, 183, 0, 118, 83, 89, 4, 187, 0, 116, 89, 183, 0, 118, 83, 89, 5, 187, 0, 116, 89]
abbrev dktX0_init_9 : List UInt8 := dkwX0_init_9 ++ dktX0_init_10
def dkwX0_init_8 : List UInt8 := [183, 0, 111, 83, 89, 6, 187, 0, 109, 89, 183, 0, 111, 83, 181, 0, 112, 42, 8, 189, 0, 116, 89, 3]
abbrev dktX0_init_8 : List UInt8 := dkwX0_init_8 ++ dktX0_init_9
def dkwX0_init_7 : List UInt8 := [187, 0, 109, 89, 183, 0, 111, 83, 89, 4, 187, 0, 109, 89, 183, 0, 111, 83, 89, 5, 187, 0, 109, 89]
abbrev dktX0_init_7 : List UInt8 := dkwX0_init_7 ++ dktX0_init_8
def dkwX0_init_6 : List UInt8 := [17, 1, 0, 188, 10, 181, 0, 103, 42, 6, 188, 10, 181, 0, 106, 42, 7, 189, 0, 109, 89, 3]
abbrev dktX0_init_6 : List UInt8 := dkwX0_init_6 ++ dktX0_init_7
def dkwX0_init_5 : List UInt8 := [181, 0, 93, 42, 17, 1, 0, 188, 4, 181, 0, 96, 42, 17, 1, 0, 188, 10, 181, 0, 100, 42]
abbrev dktX0_init_5 : List UInt8 := dkwX0_init_5 ++ dktX0_init_6
def dkwX0_init_4 : List UInt8 := [181, 0, 84, 42, 16, 8, 188, 10, 181, 0, 87, 42, 16, 8, 188, 10, 181, 0, 90, 42, 16, 8, 188, 10]
abbrev dktX0_init_4 : List UInt8 := dkwX0_init_4 ++ dktX0_init_5
def dkwX0_init_3 : List UInt8 := [16, 96, 188, 8, 181, 0, 73, 42, 187, 0, 77, 89, 183, 0, 79, 181, 0, 80, 42, 17, 0, 128, 188, 10]
abbrev dktX0_init_3 : List UInt8 := dkwX0_init_3 ++ dktX0_init_4
def dkwX0_init_2 : List UInt8 := [181, 0, 59, 42, 42, 180, 0, 46, 180, 0, 63, 181, 0, 66, 42, 16, 96, 188, 10, 181, 0, 69, 42]
abbrev dktX0_init_2 : List UInt8 := dkwX0_init_2 ++ dktX0_init_3
def dkwX0_init_1 : List UInt8 := [181, 0, 50, 42, 187, 0, 43, 89, 183, 0, 45, 181, 0, 53, 42, 187, 0, 56, 89, 183, 0, 58]
abbrev dktX0_init_1 : List UInt8 := dkwX0_init_1 ++ dktX0_init_2
def dkwX0_init_0 : List UInt8 := [42, 183, 0, 40, 42, 187, 0, 43, 89, 183, 0, 45, 181, 0, 46, 42, 187, 0, 43, 89, 183, 0, 45]
abbrev dktX0_init_0 : List UInt8 := dkwX0_init_0 ++ dktX0_init_1
theorem dksX0_init_0 : cX0_init.data.toList.drop 0 = dktX0_init_0 := by decide +kernel
theorem dksX0_init_1 : cX0_init.data.toList.drop 23 = dktX0_init_1 := dk_seg dksX0_init_0 23 rfl rfl
theorem dksX0_init_2 : cX0_init.data.toList.drop 45 = dktX0_init_2 := dk_seg dksX0_init_1 22 rfl rfl
theorem dksX0_init_3 : cX0_init.data.toList.drop 68 = dktX0_init_3 := dk_seg dksX0_init_2 23 rfl rfl
theorem dksX0_init_4 : cX0_init.data.toList.drop 92 = dktX0_init_4 := dk_seg dksX0_init_3 24 rfl rfl
theorem dksX0_init_5 : cX0_init.data.toList.drop 116 = dktX0_init_5 := dk_seg dksX0_init_4 24 rfl rfl
theorem dksX0_init_6 : cX0_init.data.toList.drop 138 = dktX0_init_6 := dk_seg dksX0_init_5 22 rfl rfl
theorem dksX0_init_7 : cX0_init.data.toList.drop 160 = dktX0_init_7 := dk_seg dksX0_init_6 22 rfl rfl
theorem dksX0_init_8 : cX0_init.data.toList.drop 184 = dktX0_init_8 := dk_seg dksX0_init_7 24 rfl rfl
theorem dksX0_init_9 : cX0_init.data.toList.drop 208 = dktX0_init_9 := dk_seg dksX0_init_8 24 rfl rfl
theorem dksX0_init_10 : cX0_init.data.toList.drop 232 = dktX0_init_10 := dk_seg dksX0_init_9 24 rfl rfl
theorem dksX0_init_11 : cX0_init.data.toList.drop 256 = dktX0_init_11 := dk_seg dksX0_init_10 24 rfl rfl
theorem dksX0_init_12 : cX0_init.data.toList.drop 280 = dktX0_init_12 := dk_seg dksX0_init_11 24 rfl rfl
theorem dX0_init_0 : decode cX0_init 0 = .ok (.aload_n 0, 1) := dk_42 (dk_at dksX0_init_0 0 rfl rfl)
theorem dX0_init_1 : decode cX0_init 1 = .ok (.invokespecial 40, 3) := dk_183 0 40 (dk_at dksX0_init_0 1 rfl rfl)
theorem dX0_init_4 : decode cX0_init 4 = .ok (.aload_n 0, 1) := dk_42 (dk_at dksX0_init_0 4 rfl rfl)
theorem dX0_init_5 : decode cX0_init 5 = .ok (.new 43, 3) := dk_187 0 43 (dk_at dksX0_init_0 5 rfl rfl)
theorem dX0_init_8 : decode cX0_init 8 = .ok (.dup, 1) := dk_89 (dk_at dksX0_init_0 8 rfl rfl)
theorem dX0_init_9 : decode cX0_init 9 = .ok (.invokespecial 45, 3) := dk_183 0 45 (dk_at dksX0_init_0 9 rfl rfl)
theorem dX0_init_12 : decode cX0_init 12 = .ok (.putfield 46, 3) := dk_181 0 46 (dk_at dksX0_init_0 12 rfl rfl)
theorem dX0_init_15 : decode cX0_init 15 = .ok (.aload_n 0, 1) := dk_42 (dk_at dksX0_init_0 15 rfl rfl)
theorem dX0_init_16 : decode cX0_init 16 = .ok (.new 43, 3) := dk_187 0 43 (dk_at dksX0_init_0 16 rfl rfl)
theorem dX0_init_19 : decode cX0_init 19 = .ok (.dup, 1) := dk_89 (dk_at dksX0_init_0 19 rfl rfl)
theorem dX0_init_20 : decode cX0_init 20 = .ok (.invokespecial 45, 3) := dk_183 0 45 (dk_at dksX0_init_0 20 rfl rfl)
theorem dX0_init_23 : decode cX0_init 23 = .ok (.putfield 50, 3) := dk_181 0 50 (dk_at dksX0_init_1 0 rfl rfl)
theorem dX0_init_26 : decode cX0_init 26 = .ok (.aload_n 0, 1) := dk_42 (dk_at dksX0_init_1 3 rfl rfl)
theorem dX0_init_27 : decode cX0_init 27 = .ok (.new 43, 3) := dk_187 0 43 (dk_at dksX0_init_1 4 rfl rfl)
theorem dX0_init_30 : decode cX0_init 30 = .ok (.dup, 1) := dk_89 (dk_at dksX0_init_1 7 rfl rfl)
theorem dX0_init_31 : decode cX0_init 31 = .ok (.invokespecial 45, 3) := dk_183 0 45 (dk_at dksX0_init_1 8 rfl rfl)
theorem dX0_init_34 : decode cX0_init 34 = .ok (.putfield 53, 3) := dk_181 0 53 (dk_at dksX0_init_1 11 rfl rfl)
theorem dX0_init_37 : decode cX0_init 37 = .ok (.aload_n 0, 1) := dk_42 (dk_at dksX0_init_1 14 rfl rfl)
theorem dX0_init_38 : decode cX0_init 38 = .ok (.new 56, 3) := dk_187 0 56 (dk_at dksX0_init_1 15 rfl rfl)
theorem dX0_init_41 : decode cX0_init 41 = .ok (.dup, 1) := dk_89 (dk_at dksX0_init_1 18 rfl rfl)
theorem dX0_init_42 : decode cX0_init 42 = .ok (.invokespecial 58, 3) := dk_183 0 58 (dk_at dksX0_init_1 19 rfl rfl)
theorem dX0_init_45 : decode cX0_init 45 = .ok (.putfield 59, 3) := dk_181 0 59 (dk_at dksX0_init_2 0 rfl rfl)
theorem dX0_init_48 : decode cX0_init 48 = .ok (.aload_n 0, 1) := dk_42 (dk_at dksX0_init_2 3 rfl rfl)
theorem dX0_init_49 : decode cX0_init 49 = .ok (.aload_n 0, 1) := dk_42 (dk_at dksX0_init_2 4 rfl rfl)
theorem dX0_init_50 : decode cX0_init 50 = .ok (.getfield 46, 3) := dk_180 0 46 (dk_at dksX0_init_2 5 rfl rfl)
theorem dX0_init_53 : decode cX0_init 53 = .ok (.getfield 63, 3) := dk_180 0 63 (dk_at dksX0_init_2 8 rfl rfl)
theorem dX0_init_56 : decode cX0_init 56 = .ok (.putfield 66, 3) := dk_181 0 66 (dk_at dksX0_init_2 11 rfl rfl)
theorem dX0_init_59 : decode cX0_init 59 = .ok (.aload_n 0, 1) := dk_42 (dk_at dksX0_init_2 14 rfl rfl)
theorem dX0_init_60 : decode cX0_init 60 = .ok (.bipush 96, 2) := dk_16 96 (dk_at dksX0_init_2 15 rfl rfl)
theorem dX0_init_62 : decode cX0_init 62 = .ok (.newarray .int, 2) := dk_188_10 (dk_at dksX0_init_2 17 rfl rfl)
theorem dX0_init_64 : decode cX0_init 64 = .ok (.putfield 69, 3) := dk_181 0 69 (dk_at dksX0_init_2 19 rfl rfl)
theorem dX0_init_67 : decode cX0_init 67 = .ok (.aload_n 0, 1) := dk_42 (dk_at dksX0_init_2 22 rfl rfl)
theorem dX0_init_68 : decode cX0_init 68 = .ok (.bipush 96, 2) := dk_16 96 (dk_at dksX0_init_3 0 rfl rfl)
theorem dX0_init_70 : decode cX0_init 70 = .ok (.newarray .byte, 2) := dk_188_8 (dk_at dksX0_init_3 2 rfl rfl)
theorem dX0_init_72 : decode cX0_init 72 = .ok (.putfield 73, 3) := dk_181 0 73 (dk_at dksX0_init_3 4 rfl rfl)
theorem dX0_init_75 : decode cX0_init 75 = .ok (.aload_n 0, 1) := dk_42 (dk_at dksX0_init_3 7 rfl rfl)
theorem dX0_init_76 : decode cX0_init 76 = .ok (.new 77, 3) := dk_187 0 77 (dk_at dksX0_init_3 8 rfl rfl)
theorem dX0_init_79 : decode cX0_init 79 = .ok (.dup, 1) := dk_89 (dk_at dksX0_init_3 11 rfl rfl)
theorem dX0_init_80 : decode cX0_init 80 = .ok (.invokespecial 79, 3) := dk_183 0 79 (dk_at dksX0_init_3 12 rfl rfl)
theorem dX0_init_83 : decode cX0_init 83 = .ok (.putfield 80, 3) := dk_181 0 80 (dk_at dksX0_init_3 15 rfl rfl)
theorem dX0_init_86 : decode cX0_init 86 = .ok (.aload_n 0, 1) := dk_42 (dk_at dksX0_init_3 18 rfl rfl)
theorem dX0_init_87 : decode cX0_init 87 = .ok (.sipush 128, 3) := dk_17 0 128 (dk_at dksX0_init_3 19 rfl rfl)
theorem dX0_init_90 : decode cX0_init 90 = .ok (.newarray .int, 2) := dk_188_10 (dk_at dksX0_init_3 22 rfl rfl)
theorem dX0_init_92 : decode cX0_init 92 = .ok (.putfield 84, 3) := dk_181 0 84 (dk_at dksX0_init_4 0 rfl rfl)
theorem dX0_init_95 : decode cX0_init 95 = .ok (.aload_n 0, 1) := dk_42 (dk_at dksX0_init_4 3 rfl rfl)
theorem dX0_init_96 : decode cX0_init 96 = .ok (.bipush 8, 2) := dk_16 8 (dk_at dksX0_init_4 4 rfl rfl)
theorem dX0_init_98 : decode cX0_init 98 = .ok (.newarray .int, 2) := dk_188_10 (dk_at dksX0_init_4 6 rfl rfl)
theorem dX0_init_100 : decode cX0_init 100 = .ok (.putfield 87, 3) := dk_181 0 87 (dk_at dksX0_init_4 8 rfl rfl)
theorem dX0_init_103 : decode cX0_init 103 = .ok (.aload_n 0, 1) := dk_42 (dk_at dksX0_init_4 11 rfl rfl)
theorem dX0_init_104 : decode cX0_init 104 = .ok (.bipush 8, 2) := dk_16 8 (dk_at dksX0_init_4 12 rfl rfl)
theorem dX0_init_106 : decode cX0_init 106 = .ok (.newarray .int, 2) := dk_188_10 (dk_at dksX0_init_4 14 rfl rfl)
theorem dX0_init_108 : decode cX0_init 108 = .ok (.putfield 90, 3) := dk_181 0 90 (dk_at dksX0_init_4 16 rfl rfl)
theorem dX0_init_111 : decode cX0_init 111 = .ok (.aload_n 0, 1) := dk_42 (dk_at dksX0_init_4 19 rfl rfl)
theorem dX0_init_112 : decode cX0_init 112 = .ok (.bipush 8, 2) := dk_16 8 (dk_at dksX0_init_4 20 rfl rfl)
theorem dX0_init_114 : decode cX0_init 114 = .ok (.newarray .int, 2) := dk_188_10 (dk_at dksX0_init_4 22 rfl rfl)
theorem dX0_init_116 : decode cX0_init 116 = .ok (.putfield 93, 3) := dk_181 0 93 (dk_at dksX0_init_5 0 rfl rfl)
theorem dX0_init_119 : decode cX0_init 119 = .ok (.aload_n 0, 1) := dk_42 (dk_at dksX0_init_5 3 rfl rfl)
theorem dX0_init_120 : decode cX0_init 120 = .ok (.sipush 256, 3) := dk_17 1 0 (dk_at dksX0_init_5 4 rfl rfl)
theorem dX0_init_123 : decode cX0_init 123 = .ok (.newarray .boolean, 2) := dk_188_4 (dk_at dksX0_init_5 7 rfl rfl)
theorem dX0_init_125 : decode cX0_init 125 = .ok (.putfield 96, 3) := dk_181 0 96 (dk_at dksX0_init_5 9 rfl rfl)
theorem dX0_init_128 : decode cX0_init 128 = .ok (.aload_n 0, 1) := dk_42 (dk_at dksX0_init_5 12 rfl rfl)
theorem dX0_init_129 : decode cX0_init 129 = .ok (.sipush 256, 3) := dk_17 1 0 (dk_at dksX0_init_5 13 rfl rfl)
theorem dX0_init_132 : decode cX0_init 132 = .ok (.newarray .int, 2) := dk_188_10 (dk_at dksX0_init_5 16 rfl rfl)
theorem dX0_init_134 : decode cX0_init 134 = .ok (.putfield 100, 3) := dk_181 0 100 (dk_at dksX0_init_5 18 rfl rfl)
theorem dX0_init_137 : decode cX0_init 137 = .ok (.aload_n 0, 1) := dk_42 (dk_at dksX0_init_5 21 rfl rfl)
theorem dX0_init_138 : decode cX0_init 138 = .ok (.sipush 256, 3) := dk_17 1 0 (dk_at dksX0_init_6 0 rfl rfl)
theorem dX0_init_141 : decode cX0_init 141 = .ok (.newarray .int, 2) := dk_188_10 (dk_at dksX0_init_6 3 rfl rfl)
theorem dX0_init_143 : decode cX0_init 143 = .ok (.putfield 103, 3) := dk_181 0 103 (dk_at dksX0_init_6 5 rfl rfl)
theorem dX0_init_146 : decode cX0_init 146 = .ok (.aload_n 0, 1) := dk_42 (dk_at dksX0_init_6 8 rfl rfl)
theorem dX0_init_147 : decode cX0_init 147 = .ok (.iconst 3, 1) := dk_6 (dk_at dksX0_init_6 9 rfl rfl)
theorem dX0_init_148 : decode cX0_init 148 = .ok (.newarray .int, 2) := dk_188_10 (dk_at dksX0_init_6 10 rfl rfl)
theorem dX0_init_150 : decode cX0_init 150 = .ok (.putfield 106, 3) := dk_181 0 106 (dk_at dksX0_init_6 12 rfl rfl)
theorem dX0_init_153 : decode cX0_init 153 = .ok (.aload_n 0, 1) := dk_42 (dk_at dksX0_init_6 15 rfl rfl)
theorem dX0_init_154 : decode cX0_init 154 = .ok (.iconst 4, 1) := dk_7 (dk_at dksX0_init_6 16 rfl rfl)
theorem dX0_init_155 : decode cX0_init 155 = .ok (.anewarray 109, 3) := dk_189 0 109 (dk_at dksX0_init_6 17 rfl rfl)
theorem dX0_init_158 : decode cX0_init 158 = .ok (.dup, 1) := dk_89 (dk_at dksX0_init_6 20 rfl rfl)
theorem dX0_init_159 : decode cX0_init 159 = .ok (.iconst 0, 1) := dk_3 (dk_at dksX0_init_6 21 rfl rfl)
theorem dX0_init_160 : decode cX0_init 160 = .ok (.new 109, 3) := dk_187 0 109 (dk_at dksX0_init_7 0 rfl rfl)
theorem dX0_init_163 : decode cX0_init 163 = .ok (.dup, 1) := dk_89 (dk_at dksX0_init_7 3 rfl rfl)
theorem dX0_init_164 : decode cX0_init 164 = .ok (.invokespecial 111, 3) := dk_183 0 111 (dk_at dksX0_init_7 4 rfl rfl)
theorem dX0_init_167 : decode cX0_init 167 = .ok (.aastore, 1) := dk_83 (dk_at dksX0_init_7 7 rfl rfl)
theorem dX0_init_168 : decode cX0_init 168 = .ok (.dup, 1) := dk_89 (dk_at dksX0_init_7 8 rfl rfl)
theorem dX0_init_169 : decode cX0_init 169 = .ok (.iconst 1, 1) := dk_4 (dk_at dksX0_init_7 9 rfl rfl)
theorem dX0_init_170 : decode cX0_init 170 = .ok (.new 109, 3) := dk_187 0 109 (dk_at dksX0_init_7 10 rfl rfl)
theorem dX0_init_173 : decode cX0_init 173 = .ok (.dup, 1) := dk_89 (dk_at dksX0_init_7 13 rfl rfl)
theorem dX0_init_174 : decode cX0_init 174 = .ok (.invokespecial 111, 3) := dk_183 0 111 (dk_at dksX0_init_7 14 rfl rfl)
theorem dX0_init_177 : decode cX0_init 177 = .ok (.aastore, 1) := dk_83 (dk_at dksX0_init_7 17 rfl rfl)
theorem dX0_init_178 : decode cX0_init 178 = .ok (.dup, 1) := dk_89 (dk_at dksX0_init_7 18 rfl rfl)
theorem dX0_init_179 : decode cX0_init 179 = .ok (.iconst 2, 1) := dk_5 (dk_at dksX0_init_7 19 rfl rfl)
theorem dX0_init_180 : decode cX0_init 180 = .ok (.new 109, 3) := dk_187 0 109 (dk_at dksX0_init_7 20 rfl rfl)
theorem dX0_init_183 : decode cX0_init 183 = .ok (.dup, 1) := dk_89 (dk_at dksX0_init_7 23 rfl rfl)
theorem dX0_init_184 : decode cX0_init 184 = .ok (.invokespecial 111, 3) := dk_183 0 111 (dk_at dksX0_init_8 0 rfl rfl)
theorem dX0_init_187 : decode cX0_init 187 = .ok (.aastore, 1) := dk_83 (dk_at dksX0_init_8 3 rfl rfl)
theorem dX0_init_188 : decode cX0_init 188 = .ok (.dup, 1) := dk_89 (dk_at dksX0_init_8 4 rfl rfl)
theorem dX0_init_189 : decode cX0_init 189 = .ok (.iconst 3, 1) := dk_6 (dk_at dksX0_init_8 5 rfl rfl)
theorem dX0_init_190 : decode cX0_init 190 = .ok (.new 109, 3) := dk_187 0 109 (dk_at dksX0_init_8 6 rfl rfl)
theorem dX0_init_193 : decode cX0_init 193 = .ok (.dup, 1) := dk_89 (dk_at dksX0_init_8 9 rfl rfl)
theorem dX0_init_194 : decode cX0_init 194 = .ok (.invokespecial 111, 3) := dk_183 0 111 (dk_at dksX0_init_8 10 rfl rfl)
theorem dX0_init_197 : decode cX0_init 197 = .ok (.aastore, 1) := dk_83 (dk_at dksX0_init_8 13 rfl rfl)
theorem dX0_init_198 : decode cX0_init 198 = .ok (.putfield 112, 3) := dk_181 0 112 (dk_at dksX0_init_8 14 rfl rfl)
theorem dX0_init_201 : decode cX0_init 201 = .ok (.aload_n 0, 1) := dk_42 (dk_at dksX0_init_8 17 rfl rfl)
theorem dX0_init_202 : decode cX0_init 202 = .ok (.iconst 5, 1) := dk_8 (dk_at dksX0_init_8 18 rfl rfl)
theorem dX0_init_203 : decode cX0_init 203 = .ok (.anewarray 116, 3) := dk_189 0 116 (dk_at dksX0_init_8 19 rfl rfl)
theorem dX0_init_206 : decode cX0_init 206 = .ok (.dup, 1) := dk_89 (dk_at dksX0_init_8 22 rfl rfl)
theorem dX0_init_207 : decode cX0_init 207 = .ok (.iconst 0, 1) := dk_3 (dk_at dksX0_init_8 23 rfl rfl)
theorem dX0_init_208 : decode cX0_init 208 = .ok (.new 116, 3) := dk_187 0 116 (dk_at dksX0_init_9 0 rfl rfl)
theorem dX0_init_211 : decode cX0_init 211 = .ok (.dup, 1) := dk_89 (dk_at dksX0_init_9 3 rfl rfl)
theorem dX0_init_212 : decode cX0_init 212 = .ok (.invokespecial 118, 3) := dk_183 0 118 (dk_at dksX0_init_9 4 rfl rfl)
theorem dX0_init_215 : decode cX0_init 215 = .ok (.aastore, 1) := dk_83 (dk_at dksX0_init_9 7 rfl rfl)
theorem dX0_init_216 : decode cX0_init 216 = .ok (.dup, 1) := dk_89 (dk_at dksX0_init_9 8 rfl rfl)
theorem dX0_init_217 : decode cX0_init 217 = .ok (.iconst 1, 1) := dk_4 (dk_at dksX0_init_9 9 rfl rfl)
theorem dX0_init_218 : decode cX0_init 218 = .ok (.new 116, 3) := dk_187 0 116 (dk_at dksX0_init_9 10 rfl rfl)
theorem dX0_init_221 : decode cX0_init 221 = .ok (.dup, 1) := dk_89 (dk_at dksX0_init_9 13 rfl rfl)
theorem dX0_init_222 : decode cX0_init 222 = .ok (.invokespecial 118, 3) := dk_183 0 118 (dk_at dksX0_init_9 14 rfl rfl)
theorem dX0_init_225 : decode cX0_init 225 = .ok (.aastore, 1) := dk_83 (dk_at dksX0_init_9 17 rfl rfl)
theorem dX0_init_226 : decode cX0_init 226 = .ok (.dup, 1) := dk_89 (dk_at dksX0_init_9 18 rfl rfl)
theorem dX0_init_227 : decode cX0_init 227 = .ok (.iconst 2, 1) := dk_5 (dk_at dksX0_init_9 19 rfl rfl)
theorem dX0_init_228 : decode cX0_init 228 = .ok (.new 116, 3) := dk_187 0 116 (dk_at dksX0_init_9 20 rfl rfl)
theorem dX0_init_231 : decode cX0_init 231 = .ok (.dup, 1) := dk_89 (dk_at dksX0_init_9 23 rfl rfl)
theorem dX0_init_232 : decode cX0_init 232 = .ok (.invokespecial 118, 3) := dk_183 0 118 (dk_at dksX0_init_10 0 rfl rfl)
theorem dX0_init_235 : decode cX0_init 235 = .ok (.aastore, 1) := dk_83 (dk_at dksX0_init_10 3 rfl rfl)
theorem dX0_init_236 : decode cX0_init 236 = .ok (.dup, 1) := dk_89 (dk_at dksX0_init_10 4 rfl rfl)
theorem dX0_init_237 : decode cX0_init 237 = .ok (.iconst 3, 1) := dk_6 (dk_at dksX0_init_10 5 rfl rfl)
theorem dX0_init_238 : decode cX0_init 238 = .ok (.new 116, 3) := dk_187 0 116 (dk_at dksX0_init_10 6 rfl rfl)
theorem dX0_init_241 : decode cX0_init 241 = .ok (.dup, 1) := dk_89 (dk_at dksX0_init_10 9 rfl rfl)
theorem dX0_init_242 : decode cX0_init 242 = .ok (.invokespecial 118, 3) := dk_183 0 118 (dk_at dksX0_init_10 10 rfl rfl)
theorem dX0_init_245 : decode cX0_init 245 = .ok (.aastore, 1) := dk_83 (dk_at dksX0_init_10 13 rfl rfl)
theorem dX0_init_246 : decode cX0_init 246 = .ok (.dup, 1) := dk_89 (dk_at dksX0_init_10 14 rfl rfl)
theorem dX0_init_247 : decode cX0_init 247 = .ok (.iconst 4, 1) := dk_7 (dk_at dksX0_init_10 15 rfl rfl)
theorem dX0_init_248 : decode cX0_init 248 = .ok (.new 116, 3) := dk_187 0 116 (dk_at dksX0_init_10 16 rfl rfl)
theorem dX0_init_251 : decode cX0_init 251 = .ok (.dup, 1) := dk_89 (dk_at dksX0_init_10 19 rfl rfl)
theorem dX0_init_252 : decode cX0_init 252 = .ok (.invokespecial 118, 3) := dk_183 0 118 (dk_at dksX0_init_10 20 rfl rfl)
theorem dX0_init_255 : decode cX0_init 255 = .ok (.aastore, 1) := dk_83 (dk_at dksX0_init_10 23 rfl rfl)
theorem dX0_init_256 : decode cX0_init 256 = .ok (.putfield 119, 3) := dk_181 0 119 (dk_at dksX0_init_11 0 rfl rfl)
theorem dX0_init_259 : decode cX0_init 259 = .ok (.aload_n 0, 1) := dk_42 (dk_at dksX0_init_11 3 rfl rfl)
theorem dX0_init_260 : decode cX0_init 260 = .ok (.bipush 24, 2) := dk_16 24 (dk_at dksX0_init_11 4 rfl rfl)
theorem dX0_init_262 : decode cX0_init 262 = .ok (.newarray .float, 2) := dk_188_6 (dk_at dksX0_init_11 6 rfl rfl)
theorem dX0_init_264 : decode cX0_init 264 = .ok (.putfield 123, 3) := dk_181 0 123 (dk_at dksX0_init_11 8 rfl rfl)
theorem dX0_init_267 : decode cX0_init 267 = .ok (.aload_n 0, 1) := dk_42 (dk_at dksX0_init_11 11 rfl rfl)
theorem dX0_init_268 : decode cX0_init 268 = .ok (.bipush 60, 2) := dk_16 60 (dk_at dksX0_init_11 12 rfl rfl)
theorem dX0_init_270 : decode cX0_init 270 = .ok (.newarray .int, 2) := dk_188_10 (dk_at dksX0_init_11 14 rfl rfl)
theorem dX0_init_272 : decode cX0_init 272 = .ok (.putfield 127, 3) := dk_181 0 127 (dk_at dksX0_init_11 16 rfl rfl)
theorem dX0_init_275 : decode cX0_init 275 = .ok (.aload_n 0, 1) := dk_42 (dk_at dksX0_init_11 19 rfl rfl)
theorem dX0_init_276 : decode cX0_init 276 = .ok (.bipush 60, 2) := dk_16 60 (dk_at dksX0_init_11 20 rfl rfl)
theorem dX0_init_278 : decode cX0_init 278 = .ok (.newarray .int, 2) := dk_188_10 (dk_at dksX0_init_11 22 rfl rfl)
theorem dX0_init_280 : decode cX0_init 280 = .ok (.putfield 130, 3) := dk_181 0 130 (dk_at dksX0_init_12 0 rfl rfl)
theorem dX0_init_283 : decode cX0_init 283 = .ok (.return_, 1) := dk_177 (dk_at dksX0_init_12 3 rfl rfl)
abbrev cX0_feed : ByteArray := prog_1_method_10_code
def yX0_feed : MethodName := ⟨RX0, "feed", "(III)I"⟩
def dkwX0_feed_1 : List UInt8 := [182, 0, 160, 42, 29, 182, 0, 160, 42, 180, 0, 156, 172]
abbrev dktX0_feed_1 : List UInt8 := dkwX0_feed_1 ++ []
def dkwX0_feed_0 : List UInt8 := [42, 180, 0, 156, 16, 12, 96, 16, 96, 164, 0, 6, 18, 159, 172, 42, 27, 182, 0, 160, 42, 28]
abbrev dktX0_feed_0 : List UInt8 := dkwX0_feed_0 ++ dktX0_feed_1
theorem dksX0_feed_0 : cX0_feed.data.toList.drop 0 = dktX0_feed_0 := by decide +kernel
theorem dksX0_feed_1 : cX0_feed.data.toList.drop 22 = dktX0_feed_1 := dk_seg dksX0_feed_0 22 rfl rfl
theorem dX0_feed_0 : decode cX0_feed 0 = .ok (.aload_n 0, 1) := dk_42 (dk_at dksX0_feed_0 0 rfl rfl)
theorem dX0_feed_1 : decode cX0_feed 1 = .ok (.getfield 156, 3) := dk_180 0 156 (dk_at dksX0_feed_0 1 rfl rfl)
theorem dX0_feed_4 : decode cX0_feed 4 = .ok (.bipush 12, 2) := dk_16 12 (dk_at dksX0_feed_0 4 rfl rfl)
theorem dX0_feed_6 : decode cX0_feed 6 = .ok (.iadd, 1) := dk_96 (dk_at dksX0_feed_0 6 rfl rfl)
theorem dX0_feed_7 : decode cX0_feed 7 = .ok (.bipush 96, 2) := dk_16 96 (dk_at dksX0_feed_0 7 rfl rfl)
theorem dX0_feed_9 : decode cX0_feed 9 = .ok (.if_icmp .le 6, 3) := dk_164 0 6 (dk_at dksX0_feed_0 9 rfl rfl)
theorem dX0_feed_12 : decode cX0_feed 12 = .ok (.ldc 159, 2) := dk_18 159 (dk_at dksX0_feed_0 12 rfl rfl)
theorem dX0_feed_14 : decode cX0_feed 14 = .ok (.ireturn, 1) := dk_172 (dk_at dksX0_feed_0 14 rfl rfl)
theorem dX0_feed_15 : decode cX0_feed 15 = .ok (.aload_n 0, 1) := dk_42 (dk_at dksX0_feed_0 15 rfl rfl)
theorem dX0_feed_16 : decode cX0_feed 16 = .ok (.iload_n 1, 1) := dk_27 (dk_at dksX0_feed_0 16 rfl rfl)
theorem dX0_feed_17 : decode cX0_feed 17 = .ok (.invokevirtual 160, 3) := dk_182 0 160 (dk_at dksX0_feed_0 17 rfl rfl)
theorem dX0_feed_20 : decode cX0_feed 20 = .ok (.aload_n 0, 1) := dk_42 (dk_at dksX0_feed_0 20 rfl rfl)
theorem dX0_feed_21 : decode cX0_feed 21 = .ok (.iload_n 2, 1) := dk_28 (dk_at dksX0_feed_0 21 rfl rfl)
theorem dX0_feed_22 : decode cX0_feed 22 = .ok (.invokevirtual 160, 3) := dk_182 0 160 (dk_at dksX0_feed_1 0 rfl rfl)
theorem dX0_feed_25 : decode cX0_feed 25 = .ok (.aload_n 0, 1) := dk_42 (dk_at dksX0_feed_1 3 rfl rfl)
theorem dX0_feed_26 : decode cX0_feed 26 = .ok (.iload_n 3, 1) := dk_29 (dk_at dksX0_feed_1 4 rfl rfl)
theorem dX0_feed_27 : decode cX0_feed 27 = .ok (.invokevirtual 160, 3) := dk_182 0 160 (dk_at dksX0_feed_1 5 rfl rfl)
theorem dX0_feed_30 : decode cX0_feed 30 = .ok (.aload_n 0, 1) := dk_42 (dk_at dksX0_feed_1 8 rfl rfl)
theorem dX0_feed_31 : decode cX0_feed 31 = .ok (.getfield 156, 3) := dk_180 0 156 (dk_at dksX0_feed_1 9 rfl rfl)
theorem dX0_feed_34 : decode cX0_feed 34 = .ok (.ireturn, 1) := dk_172 (dk_at dksX0_feed_1 12 rfl rfl)
abbrev cX0_four : ByteArray := prog_1_method_11_code
def yX0_four : MethodName := ⟨RX0, "four", "(I)V"⟩
def dkwX0_four_1 : List UInt8 := [180, 0, 156, 4, 96, 181, 0, 156, 132, 2, 248, 167, 255, 226, 177]
abbrev dktX0_four_1 : List UInt8 := dkwX0_four_1 ++ []
def dkwX0_four_0 : List UInt8 := [16, 24, 61, 28, 155, 0, 32, 42, 180, 0, 73, 42, 180, 0, 156, 27, 28, 122, 145, 84, 42, 89]
abbrev dktX0_four_0 : List UInt8 := dkwX0_four_0 ++ dktX0_four_1
theorem dksX0_four_0 : cX0_four.data.toList.drop 0 = dktX0_four_0 := by decide +kernel
theorem dksX0_four_1 : cX0_four.data.toList.drop 22 = dktX0_four_1 := dk_seg dksX0_four_0 22 rfl rfl
theorem dX0_four_0 : decode cX0_four 0 = .ok (.bipush 24, 2) := dk_16 24 (dk_at dksX0_four_0 0 rfl rfl)
theorem dX0_four_2 : decode cX0_four 2 = .ok (.istore_n 2, 1) := dk_61 (dk_at dksX0_four_0 2 rfl rfl)
theorem dX0_four_3 : decode cX0_four 3 = .ok (.iload_n 2, 1) := dk_28 (dk_at dksX0_four_0 3 rfl rfl)
theorem dX0_four_4 : decode cX0_four 4 = .ok (.ifCond .lt 32, 3) := dk_155 0 32 (dk_at dksX0_four_0 4 rfl rfl)
theorem dX0_four_7 : decode cX0_four 7 = .ok (.aload_n 0, 1) := dk_42 (dk_at dksX0_four_0 7 rfl rfl)
theorem dX0_four_8 : decode cX0_four 8 = .ok (.getfield 73, 3) := dk_180 0 73 (dk_at dksX0_four_0 8 rfl rfl)
theorem dX0_four_11 : decode cX0_four 11 = .ok (.aload_n 0, 1) := dk_42 (dk_at dksX0_four_0 11 rfl rfl)
theorem dX0_four_12 : decode cX0_four 12 = .ok (.getfield 156, 3) := dk_180 0 156 (dk_at dksX0_four_0 12 rfl rfl)
theorem dX0_four_15 : decode cX0_four 15 = .ok (.iload_n 1, 1) := dk_27 (dk_at dksX0_four_0 15 rfl rfl)
theorem dX0_four_16 : decode cX0_four 16 = .ok (.iload_n 2, 1) := dk_28 (dk_at dksX0_four_0 16 rfl rfl)
theorem dX0_four_17 : decode cX0_four 17 = .ok (.ishr, 1) := dk_122 (dk_at dksX0_four_0 17 rfl rfl)
theorem dX0_four_18 : decode cX0_four 18 = .ok (.i2b, 1) := dk_145 (dk_at dksX0_four_0 18 rfl rfl)
theorem dX0_four_19 : decode cX0_four 19 = .ok (.bastore, 1) := dk_84 (dk_at dksX0_four_0 19 rfl rfl)
theorem dX0_four_20 : decode cX0_four 20 = .ok (.aload_n 0, 1) := dk_42 (dk_at dksX0_four_0 20 rfl rfl)
theorem dX0_four_21 : decode cX0_four 21 = .ok (.dup, 1) := dk_89 (dk_at dksX0_four_0 21 rfl rfl)
theorem dX0_four_22 : decode cX0_four 22 = .ok (.getfield 156, 3) := dk_180 0 156 (dk_at dksX0_four_1 0 rfl rfl)
theorem dX0_four_25 : decode cX0_four 25 = .ok (.iconst 1, 1) := dk_4 (dk_at dksX0_four_1 3 rfl rfl)
theorem dX0_four_26 : decode cX0_four 26 = .ok (.iadd, 1) := dk_96 (dk_at dksX0_four_1 4 rfl rfl)
theorem dX0_four_27 : decode cX0_four 27 = .ok (.putfield 156, 3) := dk_181 0 156 (dk_at dksX0_four_1 5 rfl rfl)
theorem dX0_four_30 : decode cX0_four 30 = .ok (.iinc 2 (-8), 3) := dk_132 2 248 (dk_at dksX0_four_1 8 rfl rfl)
theorem dX0_four_33 : decode cX0_four 33 = .ok (.goto (-30), 3) := dk_167 255 226 (dk_at dksX0_four_1 11 rfl rfl)
theorem dX0_four_36 : decode cX0_four 36 = .ok (.return_, 1) := dk_177 (dk_at dksX0_four_1 14 rfl rfl)
abbrev cX0_trim : ByteArray := prog_1_method_12_code
def yX0_trim : MethodName := ⟨RX0, "trim", "(I)I"⟩
def dkwX0_trim_0 : List UInt8 := [27, 3, 42, 180, 0, 156, 184, 0, 137, 154, 0, 6, 18, 164, 172, 42, 27, 181, 0, 156, 27, 172]
abbrev dktX0_trim_0 : List UInt8 := dkwX0_trim_0 ++ []
theorem dksX0_trim_0 : cX0_trim.data.toList.drop 0 = dktX0_trim_0 := by decide +kernel
theorem dX0_trim_0 : decode cX0_trim 0 = .ok (.iload_n 1, 1) := dk_27 (dk_at dksX0_trim_0 0 rfl rfl)
theorem dX0_trim_1 : decode cX0_trim 1 = .ok (.iconst 0, 1) := dk_3 (dk_at dksX0_trim_0 1 rfl rfl)
theorem dX0_trim_2 : decode cX0_trim 2 = .ok (.aload_n 0, 1) := dk_42 (dk_at dksX0_trim_0 2 rfl rfl)
theorem dX0_trim_3 : decode cX0_trim 3 = .ok (.getfield 156, 3) := dk_180 0 156 (dk_at dksX0_trim_0 3 rfl rfl)
theorem dX0_trim_6 : decode cX0_trim 6 = .ok (.invokestatic 137, 3) := dk_184 0 137 (dk_at dksX0_trim_0 6 rfl rfl)
theorem dX0_trim_9 : decode cX0_trim 9 = .ok (.ifCond .ne 6, 3) := dk_154 0 6 (dk_at dksX0_trim_0 9 rfl rfl)
theorem dX0_trim_12 : decode cX0_trim 12 = .ok (.ldc 164, 2) := dk_18 164 (dk_at dksX0_trim_0 12 rfl rfl)
theorem dX0_trim_14 : decode cX0_trim 14 = .ok (.ireturn, 1) := dk_172 (dk_at dksX0_trim_0 14 rfl rfl)
theorem dX0_trim_15 : decode cX0_trim 15 = .ok (.aload_n 0, 1) := dk_42 (dk_at dksX0_trim_0 15 rfl rfl)
theorem dX0_trim_16 : decode cX0_trim 16 = .ok (.iload_n 1, 1) := dk_27 (dk_at dksX0_trim_0 16 rfl rfl)
theorem dX0_trim_17 : decode cX0_trim 17 = .ok (.putfield 156, 3) := dk_181 0 156 (dk_at dksX0_trim_0 17 rfl rfl)
theorem dX0_trim_20 : decode cX0_trim 20 = .ok (.iload_n 1, 1) := dk_27 (dk_at dksX0_trim_0 20 rfl rfl)
theorem dX0_trim_21 : decode cX0_trim 21 = .ok (.ireturn, 1) := dk_172 (dk_at dksX0_trim_0 21 rfl rfl)
abbrev cX0_isIn : ByteArray := prog_1_method_1_code
def yX0_isIn : MethodName := ⟨RX0, "isIn", "(III)Z"⟩
def dkwX0_isIn_0 : List UInt8 := [26, 27, 161, 0, 12, 26, 28, 163, 0, 7, 4, 167, 0, 4, 3, 172]
abbrev dktX0_isIn_0 : List UInt8 := dkwX0_isIn_0 ++ []
theorem dksX0_isIn_0 : cX0_isIn.data.toList.drop 0 = dktX0_isIn_0 := by decide +kernel
theorem dX0_isIn_0 : decode cX0_isIn 0 = .ok (.iload_n 0, 1) := dk_26 (dk_at dksX0_isIn_0 0 rfl rfl)
theorem dX0_isIn_1 : decode cX0_isIn 1 = .ok (.iload_n 1, 1) := dk_27 (dk_at dksX0_isIn_0 1 rfl rfl)
theorem dX0_isIn_2 : decode cX0_isIn 2 = .ok (.if_icmp .lt 12, 3) := dk_161 0 12 (dk_at dksX0_isIn_0 2 rfl rfl)
theorem dX0_isIn_5 : decode cX0_isIn 5 = .ok (.iload_n 0, 1) := dk_26 (dk_at dksX0_isIn_0 5 rfl rfl)
theorem dX0_isIn_6 : decode cX0_isIn 6 = .ok (.iload_n 2, 1) := dk_28 (dk_at dksX0_isIn_0 6 rfl rfl)
theorem dX0_isIn_7 : decode cX0_isIn 7 = .ok (.if_icmp .gt 7, 3) := dk_163 0 7 (dk_at dksX0_isIn_0 7 rfl rfl)
theorem dX0_isIn_10 : decode cX0_isIn 10 = .ok (.iconst 1, 1) := dk_4 (dk_at dksX0_isIn_0 10 rfl rfl)
theorem dX0_isIn_11 : decode cX0_isIn 11 = .ok (.goto 4, 3) := dk_167 0 4 (dk_at dksX0_isIn_0 11 rfl rfl)
theorem dX0_isIn_14 : decode cX0_isIn 14 = .ok (.iconst 0, 1) := dk_3 (dk_at dksX0_isIn_0 14 rfl rfl)
theorem dX0_isIn_15 : decode cX0_isIn 15 = .ok (.ireturn, 1) := dk_172 (dk_at dksX0_isIn_0 15 rfl rfl)
abbrev cX0_text : ByteArray := prog_1_method_30_code
def yX0_text : MethodName := ⟨RX0, "text", "()I"⟩
def dkwX0_text_4 : List UInt8 := [181, 0, 156, 45, 191]
abbrev dktX0_text_4 : List UInt8 := dkwX0_text_4 ++ []
def dkwX0_text_3 : List UInt8 := [181, 0, 156, 28, 172, 76, 16, 156, 43, 180, 0, 168, 100, 61, 42, 3, 181, 0, 156, 28, 172, 78, 42, 3]
abbrev dktX0_text_3 : List UInt8 := dkwX0_text_3 ++ dktX0_text_4
def dkwX0_text_2 : List UInt8 := [180, 0, 46, 89, 180, 1, 15, 4, 96, 181, 1, 15, 42, 180, 0, 46, 180, 1, 15, 4, 100, 61, 42, 3]
abbrev dktX0_text_2 : List UInt8 := dkwX0_text_2 ++ dktX0_text_3
def dkwX0_text_1 : List UInt8 := [181, 0, 156, 28, 172, 42, 180, 0, 46, 180, 1, 18, 42, 180, 0, 46, 180, 1, 15, 43, 83, 42]
abbrev dktX0_text_1 : List UInt8 := dkwX0_text_1 ++ dktX0_text_2
def dkwX0_text_0 : List UInt8 := [42, 182, 1, 11, 76, 42, 180, 0, 46, 180, 1, 15, 16, 14, 160, 0, 13, 18, 159, 61, 42, 3]
abbrev dktX0_text_0 : List UInt8 := dkwX0_text_0 ++ dktX0_text_1
theorem dksX0_text_0 : cX0_text.data.toList.drop 0 = dktX0_text_0 := by decide +kernel
theorem dksX0_text_1 : cX0_text.data.toList.drop 22 = dktX0_text_1 := dk_seg dksX0_text_0 22 rfl rfl
theorem dksX0_text_2 : cX0_text.data.toList.drop 44 = dktX0_text_2 := dk_seg dksX0_text_1 22 rfl rfl
theorem dksX0_text_3 : cX0_text.data.toList.drop 68 = dktX0_text_3 := dk_seg dksX0_text_2 24 rfl rfl
theorem dksX0_text_4 : cX0_text.data.toList.drop 92 = dktX0_text_4 := dk_seg dksX0_text_3 24 rfl rfl
theorem dX0_text_0 : decode cX0_text 0 = .ok (.aload_n 0, 1) := dk_42 (dk_at dksX0_text_0 0 rfl rfl)
theorem dX0_text_1 : decode cX0_text 1 = .ok (.invokevirtual 267, 3) := dk_182 1 11 (dk_at dksX0_text_0 1 rfl rfl)
theorem dX0_text_4 : decode cX0_text 4 = .ok (.astore_n 1, 1) := dk_76 (dk_at dksX0_text_0 4 rfl rfl)
theorem dX0_text_5 : decode cX0_text 5 = .ok (.aload_n 0, 1) := dk_42 (dk_at dksX0_text_0 5 rfl rfl)
theorem dX0_text_6 : decode cX0_text 6 = .ok (.getfield 46, 3) := dk_180 0 46 (dk_at dksX0_text_0 6 rfl rfl)
theorem dX0_text_9 : decode cX0_text 9 = .ok (.getfield 271, 3) := dk_180 1 15 (dk_at dksX0_text_0 9 rfl rfl)
theorem dX0_text_12 : decode cX0_text 12 = .ok (.bipush 14, 2) := dk_16 14 (dk_at dksX0_text_0 12 rfl rfl)
theorem dX0_text_14 : decode cX0_text 14 = .ok (.if_icmp .ne 13, 3) := dk_160 0 13 (dk_at dksX0_text_0 14 rfl rfl)
theorem dX0_text_17 : decode cX0_text 17 = .ok (.ldc 159, 2) := dk_18 159 (dk_at dksX0_text_0 17 rfl rfl)
theorem dX0_text_19 : decode cX0_text 19 = .ok (.istore_n 2, 1) := dk_61 (dk_at dksX0_text_0 19 rfl rfl)
theorem dX0_text_20 : decode cX0_text 20 = .ok (.aload_n 0, 1) := dk_42 (dk_at dksX0_text_0 20 rfl rfl)
theorem dX0_text_21 : decode cX0_text 21 = .ok (.iconst 0, 1) := dk_3 (dk_at dksX0_text_0 21 rfl rfl)
theorem dX0_text_22 : decode cX0_text 22 = .ok (.putfield 156, 3) := dk_181 0 156 (dk_at dksX0_text_1 0 rfl rfl)
theorem dX0_text_25 : decode cX0_text 25 = .ok (.iload_n 2, 1) := dk_28 (dk_at dksX0_text_1 3 rfl rfl)
theorem dX0_text_26 : decode cX0_text 26 = .ok (.ireturn, 1) := dk_172 (dk_at dksX0_text_1 4 rfl rfl)
theorem dX0_text_27 : decode cX0_text 27 = .ok (.aload_n 0, 1) := dk_42 (dk_at dksX0_text_1 5 rfl rfl)
theorem dX0_text_28 : decode cX0_text 28 = .ok (.getfield 46, 3) := dk_180 0 46 (dk_at dksX0_text_1 6 rfl rfl)
theorem dX0_text_31 : decode cX0_text 31 = .ok (.getfield 274, 3) := dk_180 1 18 (dk_at dksX0_text_1 9 rfl rfl)
theorem dX0_text_34 : decode cX0_text 34 = .ok (.aload_n 0, 1) := dk_42 (dk_at dksX0_text_1 12 rfl rfl)
theorem dX0_text_35 : decode cX0_text 35 = .ok (.getfield 46, 3) := dk_180 0 46 (dk_at dksX0_text_1 13 rfl rfl)
theorem dX0_text_38 : decode cX0_text 38 = .ok (.getfield 271, 3) := dk_180 1 15 (dk_at dksX0_text_1 16 rfl rfl)
theorem dX0_text_41 : decode cX0_text 41 = .ok (.aload_n 1, 1) := dk_43 (dk_at dksX0_text_1 19 rfl rfl)
theorem dX0_text_42 : decode cX0_text 42 = .ok (.aastore, 1) := dk_83 (dk_at dksX0_text_1 20 rfl rfl)
theorem dX0_text_43 : decode cX0_text 43 = .ok (.aload_n 0, 1) := dk_42 (dk_at dksX0_text_1 21 rfl rfl)
theorem dX0_text_44 : decode cX0_text 44 = .ok (.getfield 46, 3) := dk_180 0 46 (dk_at dksX0_text_2 0 rfl rfl)
theorem dX0_text_47 : decode cX0_text 47 = .ok (.dup, 1) := dk_89 (dk_at dksX0_text_2 3 rfl rfl)
theorem dX0_text_48 : decode cX0_text 48 = .ok (.getfield 271, 3) := dk_180 1 15 (dk_at dksX0_text_2 4 rfl rfl)
theorem dX0_text_51 : decode cX0_text 51 = .ok (.iconst 1, 1) := dk_4 (dk_at dksX0_text_2 7 rfl rfl)
theorem dX0_text_52 : decode cX0_text 52 = .ok (.iadd, 1) := dk_96 (dk_at dksX0_text_2 8 rfl rfl)
theorem dX0_text_53 : decode cX0_text 53 = .ok (.putfield 271, 3) := dk_181 1 15 (dk_at dksX0_text_2 9 rfl rfl)
theorem dX0_text_56 : decode cX0_text 56 = .ok (.aload_n 0, 1) := dk_42 (dk_at dksX0_text_2 12 rfl rfl)
theorem dX0_text_57 : decode cX0_text 57 = .ok (.getfield 46, 3) := dk_180 0 46 (dk_at dksX0_text_2 13 rfl rfl)
theorem dX0_text_60 : decode cX0_text 60 = .ok (.getfield 271, 3) := dk_180 1 15 (dk_at dksX0_text_2 16 rfl rfl)
theorem dX0_text_63 : decode cX0_text 63 = .ok (.iconst 1, 1) := dk_4 (dk_at dksX0_text_2 19 rfl rfl)
theorem dX0_text_64 : decode cX0_text 64 = .ok (.isub, 1) := dk_100 (dk_at dksX0_text_2 20 rfl rfl)
theorem dX0_text_65 : decode cX0_text 65 = .ok (.istore_n 2, 1) := dk_61 (dk_at dksX0_text_2 21 rfl rfl)
theorem dX0_text_66 : decode cX0_text 66 = .ok (.aload_n 0, 1) := dk_42 (dk_at dksX0_text_2 22 rfl rfl)
theorem dX0_text_67 : decode cX0_text 67 = .ok (.iconst 0, 1) := dk_3 (dk_at dksX0_text_2 23 rfl rfl)
theorem dX0_text_68 : decode cX0_text 68 = .ok (.putfield 156, 3) := dk_181 0 156 (dk_at dksX0_text_3 0 rfl rfl)
theorem dX0_text_71 : decode cX0_text 71 = .ok (.iload_n 2, 1) := dk_28 (dk_at dksX0_text_3 3 rfl rfl)
theorem dX0_text_72 : decode cX0_text 72 = .ok (.ireturn, 1) := dk_172 (dk_at dksX0_text_3 4 rfl rfl)
theorem dX0_text_73 : decode cX0_text 73 = .ok (.astore_n 1, 1) := dk_76 (dk_at dksX0_text_3 5 rfl rfl)
theorem dX0_text_74 : decode cX0_text 74 = .ok (.bipush (-100), 2) := dk_16 156 (dk_at dksX0_text_3 6 rfl rfl)
theorem dX0_text_76 : decode cX0_text 76 = .ok (.aload_n 1, 1) := dk_43 (dk_at dksX0_text_3 8 rfl rfl)
theorem dX0_text_77 : decode cX0_text 77 = .ok (.getfield 168, 3) := dk_180 0 168 (dk_at dksX0_text_3 9 rfl rfl)
theorem dX0_text_80 : decode cX0_text 80 = .ok (.isub, 1) := dk_100 (dk_at dksX0_text_3 12 rfl rfl)
theorem dX0_text_81 : decode cX0_text 81 = .ok (.istore_n 2, 1) := dk_61 (dk_at dksX0_text_3 13 rfl rfl)
theorem dX0_text_82 : decode cX0_text 82 = .ok (.aload_n 0, 1) := dk_42 (dk_at dksX0_text_3 14 rfl rfl)
theorem dX0_text_83 : decode cX0_text 83 = .ok (.iconst 0, 1) := dk_3 (dk_at dksX0_text_3 15 rfl rfl)
theorem dX0_text_84 : decode cX0_text 84 = .ok (.putfield 156, 3) := dk_181 0 156 (dk_at dksX0_text_3 16 rfl rfl)
theorem dX0_text_87 : decode cX0_text 87 = .ok (.iload_n 2, 1) := dk_28 (dk_at dksX0_text_3 19 rfl rfl)
theorem dX0_text_88 : decode cX0_text 88 = .ok (.ireturn, 1) := dk_172 (dk_at dksX0_text_3 20 rfl rfl)
theorem dX0_text_89 : decode cX0_text 89 = .ok (.astore_n 3, 1) := dk_78 (dk_at dksX0_text_3 21 rfl rfl)
theorem dX0_text_90 : decode cX0_text 90 = .ok (.aload_n 0, 1) := dk_42 (dk_at dksX0_text_3 22 rfl rfl)
theorem dX0_text_91 : decode cX0_text 91 = .ok (.iconst 0, 1) := dk_3 (dk_at dksX0_text_3 23 rfl rfl)
theorem dX0_text_92 : decode cX0_text 92 = .ok (.putfield 156, 3) := dk_181 0 156 (dk_at dksX0_text_4 0 rfl rfl)
theorem dX0_text_95 : decode cX0_text 95 = .ok (.aload_n 3, 1) := dk_45 (dk_at dksX0_text_4 3 rfl rfl)
theorem dX0_text_96 : decode cX0_text 96 = .ok (.athrow, 1) := dk_191 (dk_at dksX0_text_4 4 rfl rfl)
abbrev cX0_textRead : ByteArray := prog_1_method_29_code
def yX0_textRead : MethodName := ⟨RX0, "textRead", "()LKeptLeaves$Text;"⟩
def dkwX0_textRead_3 : List UInt8 := [180, 0, 236, 183, 1, 8, 176]
abbrev dktX0_textRead_3 : List UInt8 := dkwX0_textRead_3 ++ []
def dkwX0_textRead_2 : List UInt8 := [180, 0, 165, 42, 180, 0, 174, 162, 0, 7, 42, 182, 0, 184, 187, 1, 6, 89, 42, 180, 0, 227, 43, 42]
abbrev dktX0_textRead_2 : List UInt8 := dkwX0_textRead_2 ++ dktX0_textRead_3
def dkwX0_textRead_1 : List UInt8 := [3, 181, 0, 236, 42, 182, 0, 197, 42, 42, 182, 0, 255, 181, 0, 227, 42, 182, 1, 2, 76, 42]
abbrev dktX0_textRead_1 : List UInt8 := dkwX0_textRead_1 ++ dktX0_textRead_2
def dkwX0_textRead_0 : List UInt8 := [42, 42, 180, 0, 156, 181, 0, 174, 42, 3, 181, 0, 171, 42, 3, 181, 0, 233, 42, 3, 181, 0, 230, 42]
abbrev dktX0_textRead_0 : List UInt8 := dkwX0_textRead_0 ++ dktX0_textRead_1
theorem dksX0_textRead_0 : cX0_textRead.data.toList.drop 0 = dktX0_textRead_0 := by decide +kernel
theorem dksX0_textRead_1 : cX0_textRead.data.toList.drop 24 = dktX0_textRead_1 := dk_seg dksX0_textRead_0 24 rfl rfl
theorem dksX0_textRead_2 : cX0_textRead.data.toList.drop 46 = dktX0_textRead_2 := dk_seg dksX0_textRead_1 22 rfl rfl
theorem dksX0_textRead_3 : cX0_textRead.data.toList.drop 70 = dktX0_textRead_3 := dk_seg dksX0_textRead_2 24 rfl rfl
theorem dX0_textRead_0 : decode cX0_textRead 0 = .ok (.aload_n 0, 1) := dk_42 (dk_at dksX0_textRead_0 0 rfl rfl)
theorem dX0_textRead_1 : decode cX0_textRead 1 = .ok (.aload_n 0, 1) := dk_42 (dk_at dksX0_textRead_0 1 rfl rfl)
theorem dX0_textRead_2 : decode cX0_textRead 2 = .ok (.getfield 156, 3) := dk_180 0 156 (dk_at dksX0_textRead_0 2 rfl rfl)
theorem dX0_textRead_5 : decode cX0_textRead 5 = .ok (.putfield 174, 3) := dk_181 0 174 (dk_at dksX0_textRead_0 5 rfl rfl)
theorem dX0_textRead_8 : decode cX0_textRead 8 = .ok (.aload_n 0, 1) := dk_42 (dk_at dksX0_textRead_0 8 rfl rfl)
theorem dX0_textRead_9 : decode cX0_textRead 9 = .ok (.iconst 0, 1) := dk_3 (dk_at dksX0_textRead_0 9 rfl rfl)
theorem dX0_textRead_10 : decode cX0_textRead 10 = .ok (.putfield 171, 3) := dk_181 0 171 (dk_at dksX0_textRead_0 10 rfl rfl)
theorem dX0_textRead_13 : decode cX0_textRead 13 = .ok (.aload_n 0, 1) := dk_42 (dk_at dksX0_textRead_0 13 rfl rfl)
theorem dX0_textRead_14 : decode cX0_textRead 14 = .ok (.iconst 0, 1) := dk_3 (dk_at dksX0_textRead_0 14 rfl rfl)
theorem dX0_textRead_15 : decode cX0_textRead 15 = .ok (.putfield 233, 3) := dk_181 0 233 (dk_at dksX0_textRead_0 15 rfl rfl)
theorem dX0_textRead_18 : decode cX0_textRead 18 = .ok (.aload_n 0, 1) := dk_42 (dk_at dksX0_textRead_0 18 rfl rfl)
theorem dX0_textRead_19 : decode cX0_textRead 19 = .ok (.iconst 0, 1) := dk_3 (dk_at dksX0_textRead_0 19 rfl rfl)
theorem dX0_textRead_20 : decode cX0_textRead 20 = .ok (.putfield 230, 3) := dk_181 0 230 (dk_at dksX0_textRead_0 20 rfl rfl)
theorem dX0_textRead_23 : decode cX0_textRead 23 = .ok (.aload_n 0, 1) := dk_42 (dk_at dksX0_textRead_0 23 rfl rfl)
theorem dX0_textRead_24 : decode cX0_textRead 24 = .ok (.iconst 0, 1) := dk_3 (dk_at dksX0_textRead_1 0 rfl rfl)
theorem dX0_textRead_25 : decode cX0_textRead 25 = .ok (.putfield 236, 3) := dk_181 0 236 (dk_at dksX0_textRead_1 1 rfl rfl)
theorem dX0_textRead_28 : decode cX0_textRead 28 = .ok (.aload_n 0, 1) := dk_42 (dk_at dksX0_textRead_1 4 rfl rfl)
theorem dX0_textRead_29 : decode cX0_textRead 29 = .ok (.invokevirtual 197, 3) := dk_182 0 197 (dk_at dksX0_textRead_1 5 rfl rfl)
theorem dX0_textRead_32 : decode cX0_textRead 32 = .ok (.aload_n 0, 1) := dk_42 (dk_at dksX0_textRead_1 8 rfl rfl)
theorem dX0_textRead_33 : decode cX0_textRead 33 = .ok (.aload_n 0, 1) := dk_42 (dk_at dksX0_textRead_1 9 rfl rfl)
theorem dX0_textRead_34 : decode cX0_textRead 34 = .ok (.invokevirtual 255, 3) := dk_182 0 255 (dk_at dksX0_textRead_1 10 rfl rfl)
theorem dX0_textRead_37 : decode cX0_textRead 37 = .ok (.putfield 227, 3) := dk_181 0 227 (dk_at dksX0_textRead_1 13 rfl rfl)
theorem dX0_textRead_40 : decode cX0_textRead 40 = .ok (.aload_n 0, 1) := dk_42 (dk_at dksX0_textRead_1 16 rfl rfl)
theorem dX0_textRead_41 : decode cX0_textRead 41 = .ok (.invokevirtual 258, 3) := dk_182 1 2 (dk_at dksX0_textRead_1 17 rfl rfl)
theorem dX0_textRead_44 : decode cX0_textRead 44 = .ok (.astore_n 1, 1) := dk_76 (dk_at dksX0_textRead_1 20 rfl rfl)
theorem dX0_textRead_45 : decode cX0_textRead 45 = .ok (.aload_n 0, 1) := dk_42 (dk_at dksX0_textRead_1 21 rfl rfl)
theorem dX0_textRead_46 : decode cX0_textRead 46 = .ok (.getfield 165, 3) := dk_180 0 165 (dk_at dksX0_textRead_2 0 rfl rfl)
theorem dX0_textRead_49 : decode cX0_textRead 49 = .ok (.aload_n 0, 1) := dk_42 (dk_at dksX0_textRead_2 3 rfl rfl)
theorem dX0_textRead_50 : decode cX0_textRead 50 = .ok (.getfield 174, 3) := dk_180 0 174 (dk_at dksX0_textRead_2 4 rfl rfl)
theorem dX0_textRead_53 : decode cX0_textRead 53 = .ok (.if_icmp .ge 7, 3) := dk_162 0 7 (dk_at dksX0_textRead_2 7 rfl rfl)
theorem dX0_textRead_56 : decode cX0_textRead 56 = .ok (.aload_n 0, 1) := dk_42 (dk_at dksX0_textRead_2 10 rfl rfl)
theorem dX0_textRead_57 : decode cX0_textRead 57 = .ok (.invokevirtual 184, 3) := dk_182 0 184 (dk_at dksX0_textRead_2 11 rfl rfl)
theorem dX0_textRead_60 : decode cX0_textRead 60 = .ok (.new 262, 3) := dk_187 1 6 (dk_at dksX0_textRead_2 14 rfl rfl)
theorem dX0_textRead_63 : decode cX0_textRead 63 = .ok (.dup, 1) := dk_89 (dk_at dksX0_textRead_2 17 rfl rfl)
theorem dX0_textRead_64 : decode cX0_textRead 64 = .ok (.aload_n 0, 1) := dk_42 (dk_at dksX0_textRead_2 18 rfl rfl)
theorem dX0_textRead_65 : decode cX0_textRead 65 = .ok (.getfield 227, 3) := dk_180 0 227 (dk_at dksX0_textRead_2 19 rfl rfl)
theorem dX0_textRead_68 : decode cX0_textRead 68 = .ok (.aload_n 1, 1) := dk_43 (dk_at dksX0_textRead_2 22 rfl rfl)
theorem dX0_textRead_69 : decode cX0_textRead 69 = .ok (.aload_n 0, 1) := dk_42 (dk_at dksX0_textRead_2 23 rfl rfl)
theorem dX0_textRead_70 : decode cX0_textRead 70 = .ok (.getfield 236, 3) := dk_180 0 236 (dk_at dksX0_textRead_3 0 rfl rfl)
theorem dX0_textRead_73 : decode cX0_textRead 73 = .ok (.invokespecial 264, 3) := dk_183 1 8 (dk_at dksX0_textRead_3 3 rfl rfl)
theorem dX0_textRead_76 : decode cX0_textRead 76 = .ok (.areturn, 1) := dk_176 (dk_at dksX0_textRead_3 6 rfl rfl)
abbrev cX0_goes : ByteArray := prog_1_method_16_code
def yX0_goes : MethodName := ⟨RX0, "goes", "()V"⟩
def dkwX0_goes_12 : List UInt8 := [29, 153, 0, 7, 42, 182, 0, 184, 177]
abbrev dktX0_goes_12 : List UInt8 := dkwX0_goes_12 ++ []
def dkwX0_goes_11 : List UInt8 := [100, 51, 184, 0, 181, 153, 0, 7, 4, 167, 0, 4, 3, 54, 4, 21, 4, 153, 0, 15, 28, 154, 0, 7]
abbrev dktX0_goes_11 : List UInt8 := dkwX0_goes_11 ++ dktX0_goes_12
def dkwX0_goes_10 : List UInt8 := [27, 158, 0, 35, 42, 180, 0, 73, 27, 4, 100, 51, 184, 0, 177, 154, 0, 17, 42, 180, 0, 73, 27, 4]
abbrev dktX0_goes_10 : List UInt8 := dkwX0_goes_10 ++ dktX0_goes_11
def dkwX0_goes_9 : List UInt8 := [180, 0, 174, 162, 0, 13, 42, 89, 180, 0, 171, 4, 96, 181, 0, 171, 42, 180, 0, 165, 27, 160, 0, 39]
abbrev dktX0_goes_9 : List UInt8 := dkwX0_goes_9 ++ dktX0_goes_10
def dkwX0_goes_8 : List UInt8 := [184, 0, 181, 153, 0, 37, 42, 89, 180, 0, 171, 4, 96, 181, 0, 171, 167, 255, 220, 42, 180, 0, 165, 42]
abbrev dktX0_goes_8 : List UInt8 := dkwX0_goes_8 ++ dktX0_goes_9
def dkwX0_goes_7 : List UInt8 := [29, 153, 0, 42, 42, 180, 0, 171, 42, 180, 0, 174, 162, 0, 52, 42, 180, 0, 73, 42, 180, 0, 171, 51]
abbrev dktX0_goes_7 : List UInt8 := dkwX0_goes_7 ++ dktX0_goes_8
def dkwX0_goes_6 : List UInt8 := [42, 180, 0, 171, 51, 184, 0, 177, 153, 0, 80, 42, 89, 180, 0, 171, 4, 96, 181, 0, 171, 167, 255, 220]
abbrev dktX0_goes_6 : List UInt8 := dkwX0_goes_6 ++ dktX0_goes_7
def dkwX0_goes_5 : List UInt8 := [167, 0, 4, 3, 62, 28, 153, 0, 42, 42, 180, 0, 171, 42, 180, 0, 174, 162, 0, 95, 42, 180, 0, 73]
abbrev dktX0_goes_5 : List UInt8 := dkwX0_goes_5 ++ dktX0_goes_6
def dkwX0_goes_4 : List UInt8 := [42, 180, 0, 174, 162, 0, 22, 42, 180, 0, 73, 42, 180, 0, 165, 51, 184, 0, 181, 153, 0, 7, 4]
abbrev dktX0_goes_4 : List UInt8 := dkwX0_goes_4 ++ dktX0_goes_5
def dkwX0_goes_3 : List UInt8 := [180, 0, 73, 42, 180, 0, 165, 51, 184, 0, 177, 153, 0, 7, 4, 167, 0, 4, 3, 61, 42, 180, 0, 165]
abbrev dktX0_goes_3 : List UInt8 := dkwX0_goes_3 ++ dktX0_goes_4
def dkwX0_goes_2 : List UInt8 := [167, 255, 221, 42, 42, 180, 0, 165, 181, 0, 171, 42, 180, 0, 165, 42, 180, 0, 174, 162, 0, 22, 42]
abbrev dktX0_goes_2 : List UInt8 := dkwX0_goes_2 ++ dktX0_goes_3
def dkwX0_goes_1 : List UInt8 := [42, 180, 0, 73, 42, 180, 0, 165, 51, 16, 32, 160, 0, 16, 42, 89, 180, 0, 165, 4, 96, 181, 0, 165]
abbrev dktX0_goes_1 : List UInt8 := dkwX0_goes_1 ++ dktX0_goes_2
def dkwX0_goes_0 : List UInt8 := [42, 180, 0, 171, 60, 42, 42, 180, 0, 171, 181, 0, 165, 42, 180, 0, 165, 42, 180, 0, 174, 162, 0, 30]
abbrev dktX0_goes_0 : List UInt8 := dkwX0_goes_0 ++ dktX0_goes_1
theorem dksX0_goes_0 : cX0_goes.data.toList.drop 0 = dktX0_goes_0 := by decide +kernel
theorem dksX0_goes_1 : cX0_goes.data.toList.drop 24 = dktX0_goes_1 := dk_seg dksX0_goes_0 24 rfl rfl
theorem dksX0_goes_2 : cX0_goes.data.toList.drop 48 = dktX0_goes_2 := dk_seg dksX0_goes_1 24 rfl rfl
theorem dksX0_goes_3 : cX0_goes.data.toList.drop 71 = dktX0_goes_3 := dk_seg dksX0_goes_2 23 rfl rfl
theorem dksX0_goes_4 : cX0_goes.data.toList.drop 95 = dktX0_goes_4 := dk_seg dksX0_goes_3 24 rfl rfl
theorem dksX0_goes_5 : cX0_goes.data.toList.drop 118 = dktX0_goes_5 := dk_seg dksX0_goes_4 23 rfl rfl
theorem dksX0_goes_6 : cX0_goes.data.toList.drop 142 = dktX0_goes_6 := dk_seg dksX0_goes_5 24 rfl rfl
theorem dksX0_goes_7 : cX0_goes.data.toList.drop 166 = dktX0_goes_7 := dk_seg dksX0_goes_6 24 rfl rfl
theorem dksX0_goes_8 : cX0_goes.data.toList.drop 190 = dktX0_goes_8 := dk_seg dksX0_goes_7 24 rfl rfl
theorem dksX0_goes_9 : cX0_goes.data.toList.drop 214 = dktX0_goes_9 := dk_seg dksX0_goes_8 24 rfl rfl
theorem dksX0_goes_10 : cX0_goes.data.toList.drop 238 = dktX0_goes_10 := dk_seg dksX0_goes_9 24 rfl rfl
theorem dksX0_goes_11 : cX0_goes.data.toList.drop 262 = dktX0_goes_11 := dk_seg dksX0_goes_10 24 rfl rfl
theorem dksX0_goes_12 : cX0_goes.data.toList.drop 286 = dktX0_goes_12 := dk_seg dksX0_goes_11 24 rfl rfl
theorem dX0_goes_0 : decode cX0_goes 0 = .ok (.aload_n 0, 1) := dk_42 (dk_at dksX0_goes_0 0 rfl rfl)
theorem dX0_goes_1 : decode cX0_goes 1 = .ok (.getfield 171, 3) := dk_180 0 171 (dk_at dksX0_goes_0 1 rfl rfl)
theorem dX0_goes_4 : decode cX0_goes 4 = .ok (.istore_n 1, 1) := dk_60 (dk_at dksX0_goes_0 4 rfl rfl)
theorem dX0_goes_5 : decode cX0_goes 5 = .ok (.aload_n 0, 1) := dk_42 (dk_at dksX0_goes_0 5 rfl rfl)
theorem dX0_goes_6 : decode cX0_goes 6 = .ok (.aload_n 0, 1) := dk_42 (dk_at dksX0_goes_0 6 rfl rfl)
theorem dX0_goes_7 : decode cX0_goes 7 = .ok (.getfield 171, 3) := dk_180 0 171 (dk_at dksX0_goes_0 7 rfl rfl)
theorem dX0_goes_10 : decode cX0_goes 10 = .ok (.putfield 165, 3) := dk_181 0 165 (dk_at dksX0_goes_0 10 rfl rfl)
theorem dX0_goes_13 : decode cX0_goes 13 = .ok (.aload_n 0, 1) := dk_42 (dk_at dksX0_goes_0 13 rfl rfl)
theorem dX0_goes_14 : decode cX0_goes 14 = .ok (.getfield 165, 3) := dk_180 0 165 (dk_at dksX0_goes_0 14 rfl rfl)
theorem dX0_goes_17 : decode cX0_goes 17 = .ok (.aload_n 0, 1) := dk_42 (dk_at dksX0_goes_0 17 rfl rfl)
theorem dX0_goes_18 : decode cX0_goes 18 = .ok (.getfield 174, 3) := dk_180 0 174 (dk_at dksX0_goes_0 18 rfl rfl)
theorem dX0_goes_21 : decode cX0_goes 21 = .ok (.if_icmp .ge 30, 3) := dk_162 0 30 (dk_at dksX0_goes_0 21 rfl rfl)
theorem dX0_goes_24 : decode cX0_goes 24 = .ok (.aload_n 0, 1) := dk_42 (dk_at dksX0_goes_1 0 rfl rfl)
theorem dX0_goes_25 : decode cX0_goes 25 = .ok (.getfield 73, 3) := dk_180 0 73 (dk_at dksX0_goes_1 1 rfl rfl)
theorem dX0_goes_28 : decode cX0_goes 28 = .ok (.aload_n 0, 1) := dk_42 (dk_at dksX0_goes_1 4 rfl rfl)
theorem dX0_goes_29 : decode cX0_goes 29 = .ok (.getfield 165, 3) := dk_180 0 165 (dk_at dksX0_goes_1 5 rfl rfl)
theorem dX0_goes_32 : decode cX0_goes 32 = .ok (.baload, 1) := dk_51 (dk_at dksX0_goes_1 8 rfl rfl)
theorem dX0_goes_33 : decode cX0_goes 33 = .ok (.bipush 32, 2) := dk_16 32 (dk_at dksX0_goes_1 9 rfl rfl)
theorem dX0_goes_35 : decode cX0_goes 35 = .ok (.if_icmp .ne 16, 3) := dk_160 0 16 (dk_at dksX0_goes_1 11 rfl rfl)
theorem dX0_goes_38 : decode cX0_goes 38 = .ok (.aload_n 0, 1) := dk_42 (dk_at dksX0_goes_1 14 rfl rfl)
theorem dX0_goes_39 : decode cX0_goes 39 = .ok (.dup, 1) := dk_89 (dk_at dksX0_goes_1 15 rfl rfl)
theorem dX0_goes_40 : decode cX0_goes 40 = .ok (.getfield 165, 3) := dk_180 0 165 (dk_at dksX0_goes_1 16 rfl rfl)
theorem dX0_goes_43 : decode cX0_goes 43 = .ok (.iconst 1, 1) := dk_4 (dk_at dksX0_goes_1 19 rfl rfl)
theorem dX0_goes_44 : decode cX0_goes 44 = .ok (.iadd, 1) := dk_96 (dk_at dksX0_goes_1 20 rfl rfl)
theorem dX0_goes_45 : decode cX0_goes 45 = .ok (.putfield 165, 3) := dk_181 0 165 (dk_at dksX0_goes_1 21 rfl rfl)
theorem dX0_goes_48 : decode cX0_goes 48 = .ok (.goto (-35), 3) := dk_167 255 221 (dk_at dksX0_goes_2 0 rfl rfl)
theorem dX0_goes_51 : decode cX0_goes 51 = .ok (.aload_n 0, 1) := dk_42 (dk_at dksX0_goes_2 3 rfl rfl)
theorem dX0_goes_52 : decode cX0_goes 52 = .ok (.aload_n 0, 1) := dk_42 (dk_at dksX0_goes_2 4 rfl rfl)
theorem dX0_goes_53 : decode cX0_goes 53 = .ok (.getfield 165, 3) := dk_180 0 165 (dk_at dksX0_goes_2 5 rfl rfl)
theorem dX0_goes_56 : decode cX0_goes 56 = .ok (.putfield 171, 3) := dk_181 0 171 (dk_at dksX0_goes_2 8 rfl rfl)
theorem dX0_goes_59 : decode cX0_goes 59 = .ok (.aload_n 0, 1) := dk_42 (dk_at dksX0_goes_2 11 rfl rfl)
theorem dX0_goes_60 : decode cX0_goes 60 = .ok (.getfield 165, 3) := dk_180 0 165 (dk_at dksX0_goes_2 12 rfl rfl)
theorem dX0_goes_63 : decode cX0_goes 63 = .ok (.aload_n 0, 1) := dk_42 (dk_at dksX0_goes_2 15 rfl rfl)
theorem dX0_goes_64 : decode cX0_goes 64 = .ok (.getfield 174, 3) := dk_180 0 174 (dk_at dksX0_goes_2 16 rfl rfl)
theorem dX0_goes_67 : decode cX0_goes 67 = .ok (.if_icmp .ge 22, 3) := dk_162 0 22 (dk_at dksX0_goes_2 19 rfl rfl)
theorem dX0_goes_70 : decode cX0_goes 70 = .ok (.aload_n 0, 1) := dk_42 (dk_at dksX0_goes_2 22 rfl rfl)
theorem dX0_goes_71 : decode cX0_goes 71 = .ok (.getfield 73, 3) := dk_180 0 73 (dk_at dksX0_goes_3 0 rfl rfl)
theorem dX0_goes_74 : decode cX0_goes 74 = .ok (.aload_n 0, 1) := dk_42 (dk_at dksX0_goes_3 3 rfl rfl)
theorem dX0_goes_75 : decode cX0_goes 75 = .ok (.getfield 165, 3) := dk_180 0 165 (dk_at dksX0_goes_3 4 rfl rfl)
theorem dX0_goes_78 : decode cX0_goes 78 = .ok (.baload, 1) := dk_51 (dk_at dksX0_goes_3 7 rfl rfl)
theorem dX0_goes_79 : decode cX0_goes 79 = .ok (.invokestatic 177, 3) := dk_184 0 177 (dk_at dksX0_goes_3 8 rfl rfl)
theorem dX0_goes_82 : decode cX0_goes 82 = .ok (.ifCond .eq 7, 3) := dk_153 0 7 (dk_at dksX0_goes_3 11 rfl rfl)
theorem dX0_goes_85 : decode cX0_goes 85 = .ok (.iconst 1, 1) := dk_4 (dk_at dksX0_goes_3 14 rfl rfl)
theorem dX0_goes_86 : decode cX0_goes 86 = .ok (.goto 4, 3) := dk_167 0 4 (dk_at dksX0_goes_3 15 rfl rfl)
theorem dX0_goes_89 : decode cX0_goes 89 = .ok (.iconst 0, 1) := dk_3 (dk_at dksX0_goes_3 18 rfl rfl)
theorem dX0_goes_90 : decode cX0_goes 90 = .ok (.istore_n 2, 1) := dk_61 (dk_at dksX0_goes_3 19 rfl rfl)
theorem dX0_goes_91 : decode cX0_goes 91 = .ok (.aload_n 0, 1) := dk_42 (dk_at dksX0_goes_3 20 rfl rfl)
theorem dX0_goes_92 : decode cX0_goes 92 = .ok (.getfield 165, 3) := dk_180 0 165 (dk_at dksX0_goes_3 21 rfl rfl)
theorem dX0_goes_95 : decode cX0_goes 95 = .ok (.aload_n 0, 1) := dk_42 (dk_at dksX0_goes_4 0 rfl rfl)
theorem dX0_goes_96 : decode cX0_goes 96 = .ok (.getfield 174, 3) := dk_180 0 174 (dk_at dksX0_goes_4 1 rfl rfl)
theorem dX0_goes_99 : decode cX0_goes 99 = .ok (.if_icmp .ge 22, 3) := dk_162 0 22 (dk_at dksX0_goes_4 4 rfl rfl)
theorem dX0_goes_102 : decode cX0_goes 102 = .ok (.aload_n 0, 1) := dk_42 (dk_at dksX0_goes_4 7 rfl rfl)
theorem dX0_goes_103 : decode cX0_goes 103 = .ok (.getfield 73, 3) := dk_180 0 73 (dk_at dksX0_goes_4 8 rfl rfl)
theorem dX0_goes_106 : decode cX0_goes 106 = .ok (.aload_n 0, 1) := dk_42 (dk_at dksX0_goes_4 11 rfl rfl)
theorem dX0_goes_107 : decode cX0_goes 107 = .ok (.getfield 165, 3) := dk_180 0 165 (dk_at dksX0_goes_4 12 rfl rfl)
theorem dX0_goes_110 : decode cX0_goes 110 = .ok (.baload, 1) := dk_51 (dk_at dksX0_goes_4 15 rfl rfl)
theorem dX0_goes_111 : decode cX0_goes 111 = .ok (.invokestatic 181, 3) := dk_184 0 181 (dk_at dksX0_goes_4 16 rfl rfl)
theorem dX0_goes_114 : decode cX0_goes 114 = .ok (.ifCond .eq 7, 3) := dk_153 0 7 (dk_at dksX0_goes_4 19 rfl rfl)
theorem dX0_goes_117 : decode cX0_goes 117 = .ok (.iconst 1, 1) := dk_4 (dk_at dksX0_goes_4 22 rfl rfl)
theorem dX0_goes_118 : decode cX0_goes 118 = .ok (.goto 4, 3) := dk_167 0 4 (dk_at dksX0_goes_5 0 rfl rfl)
theorem dX0_goes_121 : decode cX0_goes 121 = .ok (.iconst 0, 1) := dk_3 (dk_at dksX0_goes_5 3 rfl rfl)
theorem dX0_goes_122 : decode cX0_goes 122 = .ok (.istore_n 3, 1) := dk_62 (dk_at dksX0_goes_5 4 rfl rfl)
theorem dX0_goes_123 : decode cX0_goes 123 = .ok (.iload_n 2, 1) := dk_28 (dk_at dksX0_goes_5 5 rfl rfl)
theorem dX0_goes_124 : decode cX0_goes 124 = .ok (.ifCond .eq 42, 3) := dk_153 0 42 (dk_at dksX0_goes_5 6 rfl rfl)
theorem dX0_goes_127 : decode cX0_goes 127 = .ok (.aload_n 0, 1) := dk_42 (dk_at dksX0_goes_5 9 rfl rfl)
theorem dX0_goes_128 : decode cX0_goes 128 = .ok (.getfield 171, 3) := dk_180 0 171 (dk_at dksX0_goes_5 10 rfl rfl)
theorem dX0_goes_131 : decode cX0_goes 131 = .ok (.aload_n 0, 1) := dk_42 (dk_at dksX0_goes_5 13 rfl rfl)
theorem dX0_goes_132 : decode cX0_goes 132 = .ok (.getfield 174, 3) := dk_180 0 174 (dk_at dksX0_goes_5 14 rfl rfl)
theorem dX0_goes_135 : decode cX0_goes 135 = .ok (.if_icmp .ge 95, 3) := dk_162 0 95 (dk_at dksX0_goes_5 17 rfl rfl)
theorem dX0_goes_138 : decode cX0_goes 138 = .ok (.aload_n 0, 1) := dk_42 (dk_at dksX0_goes_5 20 rfl rfl)
theorem dX0_goes_139 : decode cX0_goes 139 = .ok (.getfield 73, 3) := dk_180 0 73 (dk_at dksX0_goes_5 21 rfl rfl)
theorem dX0_goes_142 : decode cX0_goes 142 = .ok (.aload_n 0, 1) := dk_42 (dk_at dksX0_goes_6 0 rfl rfl)
theorem dX0_goes_143 : decode cX0_goes 143 = .ok (.getfield 171, 3) := dk_180 0 171 (dk_at dksX0_goes_6 1 rfl rfl)
theorem dX0_goes_146 : decode cX0_goes 146 = .ok (.baload, 1) := dk_51 (dk_at dksX0_goes_6 4 rfl rfl)
theorem dX0_goes_147 : decode cX0_goes 147 = .ok (.invokestatic 177, 3) := dk_184 0 177 (dk_at dksX0_goes_6 5 rfl rfl)
theorem dX0_goes_150 : decode cX0_goes 150 = .ok (.ifCond .eq 80, 3) := dk_153 0 80 (dk_at dksX0_goes_6 8 rfl rfl)
theorem dX0_goes_153 : decode cX0_goes 153 = .ok (.aload_n 0, 1) := dk_42 (dk_at dksX0_goes_6 11 rfl rfl)
theorem dX0_goes_154 : decode cX0_goes 154 = .ok (.dup, 1) := dk_89 (dk_at dksX0_goes_6 12 rfl rfl)
theorem dX0_goes_155 : decode cX0_goes 155 = .ok (.getfield 171, 3) := dk_180 0 171 (dk_at dksX0_goes_6 13 rfl rfl)
theorem dX0_goes_158 : decode cX0_goes 158 = .ok (.iconst 1, 1) := dk_4 (dk_at dksX0_goes_6 16 rfl rfl)
theorem dX0_goes_159 : decode cX0_goes 159 = .ok (.iadd, 1) := dk_96 (dk_at dksX0_goes_6 17 rfl rfl)
theorem dX0_goes_160 : decode cX0_goes 160 = .ok (.putfield 171, 3) := dk_181 0 171 (dk_at dksX0_goes_6 18 rfl rfl)
theorem dX0_goes_163 : decode cX0_goes 163 = .ok (.goto (-36), 3) := dk_167 255 220 (dk_at dksX0_goes_6 21 rfl rfl)
theorem dX0_goes_166 : decode cX0_goes 166 = .ok (.iload_n 3, 1) := dk_29 (dk_at dksX0_goes_7 0 rfl rfl)
theorem dX0_goes_167 : decode cX0_goes 167 = .ok (.ifCond .eq 42, 3) := dk_153 0 42 (dk_at dksX0_goes_7 1 rfl rfl)
theorem dX0_goes_170 : decode cX0_goes 170 = .ok (.aload_n 0, 1) := dk_42 (dk_at dksX0_goes_7 4 rfl rfl)
theorem dX0_goes_171 : decode cX0_goes 171 = .ok (.getfield 171, 3) := dk_180 0 171 (dk_at dksX0_goes_7 5 rfl rfl)
theorem dX0_goes_174 : decode cX0_goes 174 = .ok (.aload_n 0, 1) := dk_42 (dk_at dksX0_goes_7 8 rfl rfl)
theorem dX0_goes_175 : decode cX0_goes 175 = .ok (.getfield 174, 3) := dk_180 0 174 (dk_at dksX0_goes_7 9 rfl rfl)
theorem dX0_goes_178 : decode cX0_goes 178 = .ok (.if_icmp .ge 52, 3) := dk_162 0 52 (dk_at dksX0_goes_7 12 rfl rfl)
theorem dX0_goes_181 : decode cX0_goes 181 = .ok (.aload_n 0, 1) := dk_42 (dk_at dksX0_goes_7 15 rfl rfl)
theorem dX0_goes_182 : decode cX0_goes 182 = .ok (.getfield 73, 3) := dk_180 0 73 (dk_at dksX0_goes_7 16 rfl rfl)
theorem dX0_goes_185 : decode cX0_goes 185 = .ok (.aload_n 0, 1) := dk_42 (dk_at dksX0_goes_7 19 rfl rfl)
theorem dX0_goes_186 : decode cX0_goes 186 = .ok (.getfield 171, 3) := dk_180 0 171 (dk_at dksX0_goes_7 20 rfl rfl)
theorem dX0_goes_189 : decode cX0_goes 189 = .ok (.baload, 1) := dk_51 (dk_at dksX0_goes_7 23 rfl rfl)
theorem dX0_goes_190 : decode cX0_goes 190 = .ok (.invokestatic 181, 3) := dk_184 0 181 (dk_at dksX0_goes_8 0 rfl rfl)
theorem dX0_goes_193 : decode cX0_goes 193 = .ok (.ifCond .eq 37, 3) := dk_153 0 37 (dk_at dksX0_goes_8 3 rfl rfl)
theorem dX0_goes_196 : decode cX0_goes 196 = .ok (.aload_n 0, 1) := dk_42 (dk_at dksX0_goes_8 6 rfl rfl)
theorem dX0_goes_197 : decode cX0_goes 197 = .ok (.dup, 1) := dk_89 (dk_at dksX0_goes_8 7 rfl rfl)
theorem dX0_goes_198 : decode cX0_goes 198 = .ok (.getfield 171, 3) := dk_180 0 171 (dk_at dksX0_goes_8 8 rfl rfl)
theorem dX0_goes_201 : decode cX0_goes 201 = .ok (.iconst 1, 1) := dk_4 (dk_at dksX0_goes_8 11 rfl rfl)
theorem dX0_goes_202 : decode cX0_goes 202 = .ok (.iadd, 1) := dk_96 (dk_at dksX0_goes_8 12 rfl rfl)
theorem dX0_goes_203 : decode cX0_goes 203 = .ok (.putfield 171, 3) := dk_181 0 171 (dk_at dksX0_goes_8 13 rfl rfl)
theorem dX0_goes_206 : decode cX0_goes 206 = .ok (.goto (-36), 3) := dk_167 255 220 (dk_at dksX0_goes_8 16 rfl rfl)
theorem dX0_goes_209 : decode cX0_goes 209 = .ok (.aload_n 0, 1) := dk_42 (dk_at dksX0_goes_8 19 rfl rfl)
theorem dX0_goes_210 : decode cX0_goes 210 = .ok (.getfield 165, 3) := dk_180 0 165 (dk_at dksX0_goes_8 20 rfl rfl)
theorem dX0_goes_213 : decode cX0_goes 213 = .ok (.aload_n 0, 1) := dk_42 (dk_at dksX0_goes_8 23 rfl rfl)
theorem dX0_goes_214 : decode cX0_goes 214 = .ok (.getfield 174, 3) := dk_180 0 174 (dk_at dksX0_goes_9 0 rfl rfl)
theorem dX0_goes_217 : decode cX0_goes 217 = .ok (.if_icmp .ge 13, 3) := dk_162 0 13 (dk_at dksX0_goes_9 3 rfl rfl)
theorem dX0_goes_220 : decode cX0_goes 220 = .ok (.aload_n 0, 1) := dk_42 (dk_at dksX0_goes_9 6 rfl rfl)
theorem dX0_goes_221 : decode cX0_goes 221 = .ok (.dup, 1) := dk_89 (dk_at dksX0_goes_9 7 rfl rfl)
theorem dX0_goes_222 : decode cX0_goes 222 = .ok (.getfield 171, 3) := dk_180 0 171 (dk_at dksX0_goes_9 8 rfl rfl)
theorem dX0_goes_225 : decode cX0_goes 225 = .ok (.iconst 1, 1) := dk_4 (dk_at dksX0_goes_9 11 rfl rfl)
theorem dX0_goes_226 : decode cX0_goes 226 = .ok (.iadd, 1) := dk_96 (dk_at dksX0_goes_9 12 rfl rfl)
theorem dX0_goes_227 : decode cX0_goes 227 = .ok (.putfield 171, 3) := dk_181 0 171 (dk_at dksX0_goes_9 13 rfl rfl)
theorem dX0_goes_230 : decode cX0_goes 230 = .ok (.aload_n 0, 1) := dk_42 (dk_at dksX0_goes_9 16 rfl rfl)
theorem dX0_goes_231 : decode cX0_goes 231 = .ok (.getfield 165, 3) := dk_180 0 165 (dk_at dksX0_goes_9 17 rfl rfl)
theorem dX0_goes_234 : decode cX0_goes 234 = .ok (.iload_n 1, 1) := dk_27 (dk_at dksX0_goes_9 20 rfl rfl)
theorem dX0_goes_235 : decode cX0_goes 235 = .ok (.if_icmp .ne 39, 3) := dk_160 0 39 (dk_at dksX0_goes_9 21 rfl rfl)
theorem dX0_goes_238 : decode cX0_goes 238 = .ok (.iload_n 1, 1) := dk_27 (dk_at dksX0_goes_10 0 rfl rfl)
theorem dX0_goes_239 : decode cX0_goes 239 = .ok (.ifCond .le 35, 3) := dk_158 0 35 (dk_at dksX0_goes_10 1 rfl rfl)
theorem dX0_goes_242 : decode cX0_goes 242 = .ok (.aload_n 0, 1) := dk_42 (dk_at dksX0_goes_10 4 rfl rfl)
theorem dX0_goes_243 : decode cX0_goes 243 = .ok (.getfield 73, 3) := dk_180 0 73 (dk_at dksX0_goes_10 5 rfl rfl)
theorem dX0_goes_246 : decode cX0_goes 246 = .ok (.iload_n 1, 1) := dk_27 (dk_at dksX0_goes_10 8 rfl rfl)
theorem dX0_goes_247 : decode cX0_goes 247 = .ok (.iconst 1, 1) := dk_4 (dk_at dksX0_goes_10 9 rfl rfl)
theorem dX0_goes_248 : decode cX0_goes 248 = .ok (.isub, 1) := dk_100 (dk_at dksX0_goes_10 10 rfl rfl)
theorem dX0_goes_249 : decode cX0_goes 249 = .ok (.baload, 1) := dk_51 (dk_at dksX0_goes_10 11 rfl rfl)
theorem dX0_goes_250 : decode cX0_goes 250 = .ok (.invokestatic 177, 3) := dk_184 0 177 (dk_at dksX0_goes_10 12 rfl rfl)
theorem dX0_goes_253 : decode cX0_goes 253 = .ok (.ifCond .ne 17, 3) := dk_154 0 17 (dk_at dksX0_goes_10 15 rfl rfl)
theorem dX0_goes_256 : decode cX0_goes 256 = .ok (.aload_n 0, 1) := dk_42 (dk_at dksX0_goes_10 18 rfl rfl)
theorem dX0_goes_257 : decode cX0_goes 257 = .ok (.getfield 73, 3) := dk_180 0 73 (dk_at dksX0_goes_10 19 rfl rfl)
theorem dX0_goes_260 : decode cX0_goes 260 = .ok (.iload_n 1, 1) := dk_27 (dk_at dksX0_goes_10 22 rfl rfl)
theorem dX0_goes_261 : decode cX0_goes 261 = .ok (.iconst 1, 1) := dk_4 (dk_at dksX0_goes_10 23 rfl rfl)
theorem dX0_goes_262 : decode cX0_goes 262 = .ok (.isub, 1) := dk_100 (dk_at dksX0_goes_11 0 rfl rfl)
theorem dX0_goes_263 : decode cX0_goes 263 = .ok (.baload, 1) := dk_51 (dk_at dksX0_goes_11 1 rfl rfl)
theorem dX0_goes_264 : decode cX0_goes 264 = .ok (.invokestatic 181, 3) := dk_184 0 181 (dk_at dksX0_goes_11 2 rfl rfl)
theorem dX0_goes_267 : decode cX0_goes 267 = .ok (.ifCond .eq 7, 3) := dk_153 0 7 (dk_at dksX0_goes_11 5 rfl rfl)
theorem dX0_goes_270 : decode cX0_goes 270 = .ok (.iconst 1, 1) := dk_4 (dk_at dksX0_goes_11 8 rfl rfl)
theorem dX0_goes_271 : decode cX0_goes 271 = .ok (.goto 4, 3) := dk_167 0 4 (dk_at dksX0_goes_11 9 rfl rfl)
theorem dX0_goes_274 : decode cX0_goes 274 = .ok (.iconst 0, 1) := dk_3 (dk_at dksX0_goes_11 12 rfl rfl)
theorem dX0_goes_275 : decode cX0_goes 275 = .ok (.istore 4, 2) := dk_54 4 (dk_at dksX0_goes_11 13 rfl rfl)
theorem dX0_goes_277 : decode cX0_goes 277 = .ok (.iload 4, 2) := dk_21 4 (dk_at dksX0_goes_11 15 rfl rfl)
theorem dX0_goes_279 : decode cX0_goes 279 = .ok (.ifCond .eq 15, 3) := dk_153 0 15 (dk_at dksX0_goes_11 17 rfl rfl)
theorem dX0_goes_282 : decode cX0_goes 282 = .ok (.iload_n 2, 1) := dk_28 (dk_at dksX0_goes_11 20 rfl rfl)
theorem dX0_goes_283 : decode cX0_goes 283 = .ok (.ifCond .ne 7, 3) := dk_154 0 7 (dk_at dksX0_goes_11 21 rfl rfl)
theorem dX0_goes_286 : decode cX0_goes 286 = .ok (.iload_n 3, 1) := dk_29 (dk_at dksX0_goes_12 0 rfl rfl)
theorem dX0_goes_287 : decode cX0_goes 287 = .ok (.ifCond .eq 7, 3) := dk_153 0 7 (dk_at dksX0_goes_12 1 rfl rfl)
theorem dX0_goes_290 : decode cX0_goes 290 = .ok (.aload_n 0, 1) := dk_42 (dk_at dksX0_goes_12 4 rfl rfl)
theorem dX0_goes_291 : decode cX0_goes 291 = .ok (.invokevirtual 184, 3) := dk_182 0 184 (dk_at dksX0_goes_12 5 rfl rfl)
theorem dX0_goes_294 : decode cX0_goes 294 = .ok (.return_, 1) := dk_177 (dk_at dksX0_goes_12 8 rfl rfl)
abbrev cX0_isLetter : ByteArray := prog_1_method_14_code
def yX0_isLetter : MethodName := ⟨RX0, "isLetter", "(I)Z"⟩
def dkwX0_isLetter_0 : List UInt8 := [26, 16, 97, 16, 122, 184, 0, 137, 172]
abbrev dktX0_isLetter_0 : List UInt8 := dkwX0_isLetter_0 ++ []
theorem dksX0_isLetter_0 : cX0_isLetter.data.toList.drop 0 = dktX0_isLetter_0 := by decide +kernel
theorem dX0_isLetter_0 : decode cX0_isLetter 0 = .ok (.iload_n 0, 1) := dk_26 (dk_at dksX0_isLetter_0 0 rfl rfl)
theorem dX0_isLetter_1 : decode cX0_isLetter 1 = .ok (.bipush 97, 2) := dk_16 97 (dk_at dksX0_isLetter_0 1 rfl rfl)
theorem dX0_isLetter_3 : decode cX0_isLetter 3 = .ok (.bipush 122, 2) := dk_16 122 (dk_at dksX0_isLetter_0 3 rfl rfl)
theorem dX0_isLetter_5 : decode cX0_isLetter 5 = .ok (.invokestatic 137, 3) := dk_184 0 137 (dk_at dksX0_isLetter_0 5 rfl rfl)
theorem dX0_isLetter_8 : decode cX0_isLetter 8 = .ok (.ireturn, 1) := dk_172 (dk_at dksX0_isLetter_0 8 rfl rfl)
abbrev cX0_isDigit : ByteArray := prog_1_method_15_code
def yX0_isDigit : MethodName := ⟨RX0, "isDigit", "(I)Z"⟩
def dkwX0_isDigit_0 : List UInt8 := [26, 16, 48, 16, 57, 184, 0, 137, 172]
abbrev dktX0_isDigit_0 : List UInt8 := dkwX0_isDigit_0 ++ []
theorem dksX0_isDigit_0 : cX0_isDigit.data.toList.drop 0 = dktX0_isDigit_0 := by decide +kernel
theorem dX0_isDigit_0 : decode cX0_isDigit 0 = .ok (.iload_n 0, 1) := dk_26 (dk_at dksX0_isDigit_0 0 rfl rfl)
theorem dX0_isDigit_1 : decode cX0_isDigit 1 = .ok (.bipush 48, 2) := dk_16 48 (dk_at dksX0_isDigit_0 1 rfl rfl)
theorem dX0_isDigit_3 : decode cX0_isDigit 3 = .ok (.bipush 57, 2) := dk_16 57 (dk_at dksX0_isDigit_0 3 rfl rfl)
theorem dX0_isDigit_5 : decode cX0_isDigit 5 = .ok (.invokestatic 137, 3) := dk_184 0 137 (dk_at dksX0_isDigit_0 5 rfl rfl)
theorem dX0_isDigit_8 : decode cX0_isDigit 8 = .ok (.ireturn, 1) := dk_172 (dk_at dksX0_isDigit_0 8 rfl rfl)
abbrev cX0_wrong : ByteArray := prog_1_method_13_code
def yX0_wrong : MethodName := ⟨RX0, "wrong", "()V"⟩
def dkwX0_wrong_0 : List UInt8 := [42, 180, 0, 80, 42, 180, 0, 165, 181, 0, 168, 42, 180, 0, 80, 191]
abbrev dktX0_wrong_0 : List UInt8 := dkwX0_wrong_0 ++ []
theorem dksX0_wrong_0 : cX0_wrong.data.toList.drop 0 = dktX0_wrong_0 := by decide +kernel
theorem dX0_wrong_0 : decode cX0_wrong 0 = .ok (.aload_n 0, 1) := dk_42 (dk_at dksX0_wrong_0 0 rfl rfl)
theorem dX0_wrong_1 : decode cX0_wrong 1 = .ok (.getfield 80, 3) := dk_180 0 80 (dk_at dksX0_wrong_0 1 rfl rfl)
theorem dX0_wrong_4 : decode cX0_wrong 4 = .ok (.aload_n 0, 1) := dk_42 (dk_at dksX0_wrong_0 4 rfl rfl)
theorem dX0_wrong_5 : decode cX0_wrong 5 = .ok (.getfield 165, 3) := dk_180 0 165 (dk_at dksX0_wrong_0 5 rfl rfl)
theorem dX0_wrong_8 : decode cX0_wrong 8 = .ok (.putfield 168, 3) := dk_181 0 168 (dk_at dksX0_wrong_0 8 rfl rfl)
theorem dX0_wrong_11 : decode cX0_wrong 11 = .ok (.aload_n 0, 1) := dk_42 (dk_at dksX0_wrong_0 11 rfl rfl)
theorem dX0_wrong_12 : decode cX0_wrong 12 = .ok (.getfield 80, 3) := dk_180 0 80 (dk_at dksX0_wrong_0 12 rfl rfl)
theorem dX0_wrong_15 : decode cX0_wrong 15 = .ok (.athrow, 1) := dk_191 (dk_at dksX0_wrong_0 15 rfl rfl)
abbrev cX0_key : ByteArray := prog_1_method_28_code
def yX0_key : MethodName := ⟨RX0, "key", "()I"⟩
def dkwX0_key_2 : List UInt8 := [182, 0, 184, 42, 182, 0, 197, 27, 172]
abbrev dktX0_key_2 : List UInt8 := dkwX0_key_2 ++ []
def dkwX0_key_1 : List UInt8 := [167, 0, 17, 42, 18, 253, 182, 0, 247, 153, 0, 7, 5, 167, 0, 4, 2, 60, 27, 2, 160, 0, 7, 42]
abbrev dktX0_key_1 : List UInt8 := dkwX0_key_1 ++ dktX0_key_2
def dkwX0_key_0 : List UInt8 := [42, 18, 245, 182, 0, 247, 153, 0, 7, 3, 167, 0, 30, 42, 18, 251, 182, 0, 247, 153, 0, 7, 4]
abbrev dktX0_key_0 : List UInt8 := dkwX0_key_0 ++ dktX0_key_1
theorem dksX0_key_0 : cX0_key.data.toList.drop 0 = dktX0_key_0 := by decide +kernel
theorem dksX0_key_1 : cX0_key.data.toList.drop 23 = dktX0_key_1 := dk_seg dksX0_key_0 23 rfl rfl
theorem dksX0_key_2 : cX0_key.data.toList.drop 47 = dktX0_key_2 := dk_seg dksX0_key_1 24 rfl rfl
theorem dX0_key_0 : decode cX0_key 0 = .ok (.aload_n 0, 1) := dk_42 (dk_at dksX0_key_0 0 rfl rfl)
theorem dX0_key_1 : decode cX0_key 1 = .ok (.ldc 245, 2) := dk_18 245 (dk_at dksX0_key_0 1 rfl rfl)
theorem dX0_key_3 : decode cX0_key 3 = .ok (.invokevirtual 247, 3) := dk_182 0 247 (dk_at dksX0_key_0 3 rfl rfl)
theorem dX0_key_6 : decode cX0_key 6 = .ok (.ifCond .eq 7, 3) := dk_153 0 7 (dk_at dksX0_key_0 6 rfl rfl)
theorem dX0_key_9 : decode cX0_key 9 = .ok (.iconst 0, 1) := dk_3 (dk_at dksX0_key_0 9 rfl rfl)
theorem dX0_key_10 : decode cX0_key 10 = .ok (.goto 30, 3) := dk_167 0 30 (dk_at dksX0_key_0 10 rfl rfl)
theorem dX0_key_13 : decode cX0_key 13 = .ok (.aload_n 0, 1) := dk_42 (dk_at dksX0_key_0 13 rfl rfl)
theorem dX0_key_14 : decode cX0_key 14 = .ok (.ldc 251, 2) := dk_18 251 (dk_at dksX0_key_0 14 rfl rfl)
theorem dX0_key_16 : decode cX0_key 16 = .ok (.invokevirtual 247, 3) := dk_182 0 247 (dk_at dksX0_key_0 16 rfl rfl)
theorem dX0_key_19 : decode cX0_key 19 = .ok (.ifCond .eq 7, 3) := dk_153 0 7 (dk_at dksX0_key_0 19 rfl rfl)
theorem dX0_key_22 : decode cX0_key 22 = .ok (.iconst 1, 1) := dk_4 (dk_at dksX0_key_0 22 rfl rfl)
theorem dX0_key_23 : decode cX0_key 23 = .ok (.goto 17, 3) := dk_167 0 17 (dk_at dksX0_key_1 0 rfl rfl)
theorem dX0_key_26 : decode cX0_key 26 = .ok (.aload_n 0, 1) := dk_42 (dk_at dksX0_key_1 3 rfl rfl)
theorem dX0_key_27 : decode cX0_key 27 = .ok (.ldc 253, 2) := dk_18 253 (dk_at dksX0_key_1 4 rfl rfl)
theorem dX0_key_29 : decode cX0_key 29 = .ok (.invokevirtual 247, 3) := dk_182 0 247 (dk_at dksX0_key_1 6 rfl rfl)
theorem dX0_key_32 : decode cX0_key 32 = .ok (.ifCond .eq 7, 3) := dk_153 0 7 (dk_at dksX0_key_1 9 rfl rfl)
theorem dX0_key_35 : decode cX0_key 35 = .ok (.iconst 2, 1) := dk_5 (dk_at dksX0_key_1 12 rfl rfl)
theorem dX0_key_36 : decode cX0_key 36 = .ok (.goto 4, 3) := dk_167 0 4 (dk_at dksX0_key_1 13 rfl rfl)
theorem dX0_key_39 : decode cX0_key 39 = .ok (.iconst (-1), 1) := dk_2 (dk_at dksX0_key_1 16 rfl rfl)
theorem dX0_key_40 : decode cX0_key 40 = .ok (.istore_n 1, 1) := dk_60 (dk_at dksX0_key_1 17 rfl rfl)
theorem dX0_key_41 : decode cX0_key 41 = .ok (.iload_n 1, 1) := dk_27 (dk_at dksX0_key_1 18 rfl rfl)
theorem dX0_key_42 : decode cX0_key 42 = .ok (.iconst (-1), 1) := dk_2 (dk_at dksX0_key_1 19 rfl rfl)
theorem dX0_key_43 : decode cX0_key 43 = .ok (.if_icmp .ne 7, 3) := dk_160 0 7 (dk_at dksX0_key_1 20 rfl rfl)
theorem dX0_key_46 : decode cX0_key 46 = .ok (.aload_n 0, 1) := dk_42 (dk_at dksX0_key_1 23 rfl rfl)
theorem dX0_key_47 : decode cX0_key 47 = .ok (.invokevirtual 184, 3) := dk_182 0 184 (dk_at dksX0_key_2 0 rfl rfl)
theorem dX0_key_50 : decode cX0_key 50 = .ok (.aload_n 0, 1) := dk_42 (dk_at dksX0_key_2 3 rfl rfl)
theorem dX0_key_51 : decode cX0_key 51 = .ok (.invokevirtual 197, 3) := dk_182 0 197 (dk_at dksX0_key_2 4 rfl rfl)
theorem dX0_key_54 : decode cX0_key 54 = .ok (.iload_n 1, 1) := dk_27 (dk_at dksX0_key_2 7 rfl rfl)
theorem dX0_key_55 : decode cX0_key 55 = .ok (.ireturn, 1) := dk_172 (dk_at dksX0_key_2 8 rfl rfl)
abbrev cX0_isWord : ByteArray := prog_1_method_17_code
def yX0_isWord : MethodName := ⟨RX0, "isWord", "(Ljava/lang/String;)Z"⟩
def dkwX0_isWord_2 : List UInt8 := [29, 182, 0, 193, 160, 0, 7, 4, 167, 0, 4, 3, 61, 132, 3, 1, 167, 255, 216, 28, 172]
abbrev dktX0_isWord_2 : List UInt8 := dkwX0_isWord_2 ++ []
def dkwX0_isWord_1 : List UInt8 := [29, 43, 182, 0, 187, 162, 0, 38, 28, 153, 0, 34, 42, 180, 0, 73, 42, 180, 0, 165, 29, 96, 51, 43]
abbrev dktX0_isWord_1 : List UInt8 := dkwX0_isWord_1 ++ dktX0_isWord_2
def dkwX0_isWord_0 : List UInt8 := [42, 180, 0, 171, 42, 180, 0, 165, 100, 43, 182, 0, 187, 160, 0, 7, 4, 167, 0, 4, 3, 61, 3, 62]
abbrev dktX0_isWord_0 : List UInt8 := dkwX0_isWord_0 ++ dktX0_isWord_1
theorem dksX0_isWord_0 : cX0_isWord.data.toList.drop 0 = dktX0_isWord_0 := by decide +kernel
theorem dksX0_isWord_1 : cX0_isWord.data.toList.drop 24 = dktX0_isWord_1 := dk_seg dksX0_isWord_0 24 rfl rfl
theorem dksX0_isWord_2 : cX0_isWord.data.toList.drop 48 = dktX0_isWord_2 := dk_seg dksX0_isWord_1 24 rfl rfl
theorem dX0_isWord_0 : decode cX0_isWord 0 = .ok (.aload_n 0, 1) := dk_42 (dk_at dksX0_isWord_0 0 rfl rfl)
theorem dX0_isWord_1 : decode cX0_isWord 1 = .ok (.getfield 171, 3) := dk_180 0 171 (dk_at dksX0_isWord_0 1 rfl rfl)
theorem dX0_isWord_4 : decode cX0_isWord 4 = .ok (.aload_n 0, 1) := dk_42 (dk_at dksX0_isWord_0 4 rfl rfl)
theorem dX0_isWord_5 : decode cX0_isWord 5 = .ok (.getfield 165, 3) := dk_180 0 165 (dk_at dksX0_isWord_0 5 rfl rfl)
theorem dX0_isWord_8 : decode cX0_isWord 8 = .ok (.isub, 1) := dk_100 (dk_at dksX0_isWord_0 8 rfl rfl)
theorem dX0_isWord_9 : decode cX0_isWord 9 = .ok (.aload_n 1, 1) := dk_43 (dk_at dksX0_isWord_0 9 rfl rfl)
theorem dX0_isWord_10 : decode cX0_isWord 10 = .ok (.invokevirtual 187, 3) := dk_182 0 187 (dk_at dksX0_isWord_0 10 rfl rfl)
theorem dX0_isWord_13 : decode cX0_isWord 13 = .ok (.if_icmp .ne 7, 3) := dk_160 0 7 (dk_at dksX0_isWord_0 13 rfl rfl)
theorem dX0_isWord_16 : decode cX0_isWord 16 = .ok (.iconst 1, 1) := dk_4 (dk_at dksX0_isWord_0 16 rfl rfl)
theorem dX0_isWord_17 : decode cX0_isWord 17 = .ok (.goto 4, 3) := dk_167 0 4 (dk_at dksX0_isWord_0 17 rfl rfl)
theorem dX0_isWord_20 : decode cX0_isWord 20 = .ok (.iconst 0, 1) := dk_3 (dk_at dksX0_isWord_0 20 rfl rfl)
theorem dX0_isWord_21 : decode cX0_isWord 21 = .ok (.istore_n 2, 1) := dk_61 (dk_at dksX0_isWord_0 21 rfl rfl)
theorem dX0_isWord_22 : decode cX0_isWord 22 = .ok (.iconst 0, 1) := dk_3 (dk_at dksX0_isWord_0 22 rfl rfl)
theorem dX0_isWord_23 : decode cX0_isWord 23 = .ok (.istore_n 3, 1) := dk_62 (dk_at dksX0_isWord_0 23 rfl rfl)
theorem dX0_isWord_24 : decode cX0_isWord 24 = .ok (.iload_n 3, 1) := dk_29 (dk_at dksX0_isWord_1 0 rfl rfl)
theorem dX0_isWord_25 : decode cX0_isWord 25 = .ok (.aload_n 1, 1) := dk_43 (dk_at dksX0_isWord_1 1 rfl rfl)
theorem dX0_isWord_26 : decode cX0_isWord 26 = .ok (.invokevirtual 187, 3) := dk_182 0 187 (dk_at dksX0_isWord_1 2 rfl rfl)
theorem dX0_isWord_29 : decode cX0_isWord 29 = .ok (.if_icmp .ge 38, 3) := dk_162 0 38 (dk_at dksX0_isWord_1 5 rfl rfl)
theorem dX0_isWord_32 : decode cX0_isWord 32 = .ok (.iload_n 2, 1) := dk_28 (dk_at dksX0_isWord_1 8 rfl rfl)
theorem dX0_isWord_33 : decode cX0_isWord 33 = .ok (.ifCond .eq 34, 3) := dk_153 0 34 (dk_at dksX0_isWord_1 9 rfl rfl)
theorem dX0_isWord_36 : decode cX0_isWord 36 = .ok (.aload_n 0, 1) := dk_42 (dk_at dksX0_isWord_1 12 rfl rfl)
theorem dX0_isWord_37 : decode cX0_isWord 37 = .ok (.getfield 73, 3) := dk_180 0 73 (dk_at dksX0_isWord_1 13 rfl rfl)
theorem dX0_isWord_40 : decode cX0_isWord 40 = .ok (.aload_n 0, 1) := dk_42 (dk_at dksX0_isWord_1 16 rfl rfl)
theorem dX0_isWord_41 : decode cX0_isWord 41 = .ok (.getfield 165, 3) := dk_180 0 165 (dk_at dksX0_isWord_1 17 rfl rfl)
theorem dX0_isWord_44 : decode cX0_isWord 44 = .ok (.iload_n 3, 1) := dk_29 (dk_at dksX0_isWord_1 20 rfl rfl)
theorem dX0_isWord_45 : decode cX0_isWord 45 = .ok (.iadd, 1) := dk_96 (dk_at dksX0_isWord_1 21 rfl rfl)
theorem dX0_isWord_46 : decode cX0_isWord 46 = .ok (.baload, 1) := dk_51 (dk_at dksX0_isWord_1 22 rfl rfl)
theorem dX0_isWord_47 : decode cX0_isWord 47 = .ok (.aload_n 1, 1) := dk_43 (dk_at dksX0_isWord_1 23 rfl rfl)
theorem dX0_isWord_48 : decode cX0_isWord 48 = .ok (.iload_n 3, 1) := dk_29 (dk_at dksX0_isWord_2 0 rfl rfl)
theorem dX0_isWord_49 : decode cX0_isWord 49 = .ok (.invokevirtual 193, 3) := dk_182 0 193 (dk_at dksX0_isWord_2 1 rfl rfl)
theorem dX0_isWord_52 : decode cX0_isWord 52 = .ok (.if_icmp .ne 7, 3) := dk_160 0 7 (dk_at dksX0_isWord_2 4 rfl rfl)
theorem dX0_isWord_55 : decode cX0_isWord 55 = .ok (.iconst 1, 1) := dk_4 (dk_at dksX0_isWord_2 7 rfl rfl)
theorem dX0_isWord_56 : decode cX0_isWord 56 = .ok (.goto 4, 3) := dk_167 0 4 (dk_at dksX0_isWord_2 8 rfl rfl)
theorem dX0_isWord_59 : decode cX0_isWord 59 = .ok (.iconst 0, 1) := dk_3 (dk_at dksX0_isWord_2 11 rfl rfl)
theorem dX0_isWord_60 : decode cX0_isWord 60 = .ok (.istore_n 2, 1) := dk_61 (dk_at dksX0_isWord_2 12 rfl rfl)
theorem dX0_isWord_61 : decode cX0_isWord 61 = .ok (.iinc 3 1, 3) := dk_132 3 1 (dk_at dksX0_isWord_2 13 rfl rfl)
theorem dX0_isWord_64 : decode cX0_isWord 64 = .ok (.goto (-40), 3) := dk_167 255 216 (dk_at dksX0_isWord_2 16 rfl rfl)
theorem dX0_isWord_67 : decode cX0_isWord 67 = .ok (.iload_n 2, 1) := dk_28 (dk_at dksX0_isWord_2 19 rfl rfl)
theorem dX0_isWord_68 : decode cX0_isWord 68 = .ok (.ireturn, 1) := dk_172 (dk_at dksX0_isWord_2 20 rfl rfl)
abbrev cX0_expression : ByteArray := prog_1_method_20_code
def yX0_expression : MethodName := ⟨RX0, "expression", "()LKeptLeaves$Words;"⟩
def dkwX0_expression_0 : List UInt8 := [187, 0, 142, 89, 183, 0, 200, 76, 42, 43, 182, 0, 201, 43, 176]
abbrev dktX0_expression_0 : List UInt8 := dkwX0_expression_0 ++ []
theorem dksX0_expression_0 : cX0_expression.data.toList.drop 0 = dktX0_expression_0 := by decide +kernel
theorem dX0_expression_0 : decode cX0_expression 0 = .ok (.new 142, 3) := dk_187 0 142 (dk_at dksX0_expression_0 0 rfl rfl)
theorem dX0_expression_3 : decode cX0_expression 3 = .ok (.dup, 1) := dk_89 (dk_at dksX0_expression_0 3 rfl rfl)
theorem dX0_expression_4 : decode cX0_expression 4 = .ok (.invokespecial 200, 3) := dk_183 0 200 (dk_at dksX0_expression_0 4 rfl rfl)
theorem dX0_expression_7 : decode cX0_expression 7 = .ok (.astore_n 1, 1) := dk_76 (dk_at dksX0_expression_0 7 rfl rfl)
theorem dX0_expression_8 : decode cX0_expression 8 = .ok (.aload_n 0, 1) := dk_42 (dk_at dksX0_expression_0 8 rfl rfl)
theorem dX0_expression_9 : decode cX0_expression 9 = .ok (.aload_n 1, 1) := dk_43 (dk_at dksX0_expression_0 9 rfl rfl)
theorem dX0_expression_10 : decode cX0_expression 10 = .ok (.invokevirtual 201, 3) := dk_182 0 201 (dk_at dksX0_expression_0 10 rfl rfl)
theorem dX0_expression_13 : decode cX0_expression 13 = .ok (.aload_n 1, 1) := dk_43 (dk_at dksX0_expression_0 13 rfl rfl)
theorem dX0_expression_14 : decode cX0_expression 14 = .ok (.areturn, 1) := dk_176 (dk_at dksX0_expression_0 14 rfl rfl)
abbrev cX0_or : ByteArray := prog_1_method_21_code
def yX0_or : MethodName := ⟨RX0, "or", "(LKeptLeaves$Words;)V"⟩
def dkwX0_or_1 : List UInt8 := [16, 11, 3, 182, 0, 211, 167, 255, 231, 177]
abbrev dktX0_or_1 : List UInt8 := dkwX0_or_1 ++ []
def dkwX0_or_0 : List UInt8 := [42, 43, 182, 0, 205, 42, 16, 124, 182, 0, 208, 153, 0, 22, 42, 182, 0, 197, 42, 43, 182, 0, 205, 43]
abbrev dktX0_or_0 : List UInt8 := dkwX0_or_0 ++ dktX0_or_1
theorem dksX0_or_0 : cX0_or.data.toList.drop 0 = dktX0_or_0 := by decide +kernel
theorem dksX0_or_1 : cX0_or.data.toList.drop 24 = dktX0_or_1 := dk_seg dksX0_or_0 24 rfl rfl
theorem dX0_or_0 : decode cX0_or 0 = .ok (.aload_n 0, 1) := dk_42 (dk_at dksX0_or_0 0 rfl rfl)
theorem dX0_or_1 : decode cX0_or 1 = .ok (.aload_n 1, 1) := dk_43 (dk_at dksX0_or_0 1 rfl rfl)
theorem dX0_or_2 : decode cX0_or 2 = .ok (.invokevirtual 205, 3) := dk_182 0 205 (dk_at dksX0_or_0 2 rfl rfl)
theorem dX0_or_5 : decode cX0_or 5 = .ok (.aload_n 0, 1) := dk_42 (dk_at dksX0_or_0 5 rfl rfl)
theorem dX0_or_6 : decode cX0_or 6 = .ok (.bipush 124, 2) := dk_16 124 (dk_at dksX0_or_0 6 rfl rfl)
theorem dX0_or_8 : decode cX0_or 8 = .ok (.invokevirtual 208, 3) := dk_182 0 208 (dk_at dksX0_or_0 8 rfl rfl)
theorem dX0_or_11 : decode cX0_or 11 = .ok (.ifCond .eq 22, 3) := dk_153 0 22 (dk_at dksX0_or_0 11 rfl rfl)
theorem dX0_or_14 : decode cX0_or 14 = .ok (.aload_n 0, 1) := dk_42 (dk_at dksX0_or_0 14 rfl rfl)
theorem dX0_or_15 : decode cX0_or 15 = .ok (.invokevirtual 197, 3) := dk_182 0 197 (dk_at dksX0_or_0 15 rfl rfl)
theorem dX0_or_18 : decode cX0_or 18 = .ok (.aload_n 0, 1) := dk_42 (dk_at dksX0_or_0 18 rfl rfl)
theorem dX0_or_19 : decode cX0_or 19 = .ok (.aload_n 1, 1) := dk_43 (dk_at dksX0_or_0 19 rfl rfl)
theorem dX0_or_20 : decode cX0_or 20 = .ok (.invokevirtual 205, 3) := dk_182 0 205 (dk_at dksX0_or_0 20 rfl rfl)
theorem dX0_or_23 : decode cX0_or 23 = .ok (.aload_n 1, 1) := dk_43 (dk_at dksX0_or_0 23 rfl rfl)
theorem dX0_or_24 : decode cX0_or 24 = .ok (.bipush 11, 2) := dk_16 11 (dk_at dksX0_or_1 0 rfl rfl)
theorem dX0_or_26 : decode cX0_or 26 = .ok (.iconst 0, 1) := dk_3 (dk_at dksX0_or_1 2 rfl rfl)
theorem dX0_or_27 : decode cX0_or 27 = .ok (.invokevirtual 211, 3) := dk_182 0 211 (dk_at dksX0_or_1 3 rfl rfl)
theorem dX0_or_30 : decode cX0_or 30 = .ok (.goto (-25), 3) := dk_167 255 231 (dk_at dksX0_or_1 6 rfl rfl)
theorem dX0_or_33 : decode cX0_or 33 = .ok (.return_, 1) := dk_177 (dk_at dksX0_or_1 9 rfl rfl)
abbrev cX0_and : ByteArray := prog_1_method_22_code
def yX0_and : MethodName := ⟨RX0, "and", "(LKeptLeaves$Words;)V"⟩
def dkwX0_and_1 : List UInt8 := [16, 10, 3, 182, 0, 211, 167, 255, 231, 177]
abbrev dktX0_and_1 : List UInt8 := dkwX0_and_1 ++ []
def dkwX0_and_0 : List UInt8 := [42, 43, 182, 0, 215, 42, 16, 38, 182, 0, 208, 153, 0, 22, 42, 182, 0, 197, 42, 43, 182, 0, 215, 43]
abbrev dktX0_and_0 : List UInt8 := dkwX0_and_0 ++ dktX0_and_1
theorem dksX0_and_0 : cX0_and.data.toList.drop 0 = dktX0_and_0 := by decide +kernel
theorem dksX0_and_1 : cX0_and.data.toList.drop 24 = dktX0_and_1 := dk_seg dksX0_and_0 24 rfl rfl
theorem dX0_and_0 : decode cX0_and 0 = .ok (.aload_n 0, 1) := dk_42 (dk_at dksX0_and_0 0 rfl rfl)
theorem dX0_and_1 : decode cX0_and 1 = .ok (.aload_n 1, 1) := dk_43 (dk_at dksX0_and_0 1 rfl rfl)
theorem dX0_and_2 : decode cX0_and 2 = .ok (.invokevirtual 215, 3) := dk_182 0 215 (dk_at dksX0_and_0 2 rfl rfl)
theorem dX0_and_5 : decode cX0_and 5 = .ok (.aload_n 0, 1) := dk_42 (dk_at dksX0_and_0 5 rfl rfl)
theorem dX0_and_6 : decode cX0_and 6 = .ok (.bipush 38, 2) := dk_16 38 (dk_at dksX0_and_0 6 rfl rfl)
theorem dX0_and_8 : decode cX0_and 8 = .ok (.invokevirtual 208, 3) := dk_182 0 208 (dk_at dksX0_and_0 8 rfl rfl)
theorem dX0_and_11 : decode cX0_and 11 = .ok (.ifCond .eq 22, 3) := dk_153 0 22 (dk_at dksX0_and_0 11 rfl rfl)
theorem dX0_and_14 : decode cX0_and 14 = .ok (.aload_n 0, 1) := dk_42 (dk_at dksX0_and_0 14 rfl rfl)
theorem dX0_and_15 : decode cX0_and 15 = .ok (.invokevirtual 197, 3) := dk_182 0 197 (dk_at dksX0_and_0 15 rfl rfl)
theorem dX0_and_18 : decode cX0_and 18 = .ok (.aload_n 0, 1) := dk_42 (dk_at dksX0_and_0 18 rfl rfl)
theorem dX0_and_19 : decode cX0_and 19 = .ok (.aload_n 1, 1) := dk_43 (dk_at dksX0_and_0 19 rfl rfl)
theorem dX0_and_20 : decode cX0_and 20 = .ok (.invokevirtual 215, 3) := dk_182 0 215 (dk_at dksX0_and_0 20 rfl rfl)
theorem dX0_and_23 : decode cX0_and 23 = .ok (.aload_n 1, 1) := dk_43 (dk_at dksX0_and_0 23 rfl rfl)
theorem dX0_and_24 : decode cX0_and 24 = .ok (.bipush 10, 2) := dk_16 10 (dk_at dksX0_and_1 0 rfl rfl)
theorem dX0_and_26 : decode cX0_and 26 = .ok (.iconst 0, 1) := dk_3 (dk_at dksX0_and_1 2 rfl rfl)
theorem dX0_and_27 : decode cX0_and 27 = .ok (.invokevirtual 211, 3) := dk_182 0 211 (dk_at dksX0_and_1 3 rfl rfl)
theorem dX0_and_30 : decode cX0_and 30 = .ok (.goto (-25), 3) := dk_167 255 231 (dk_at dksX0_and_1 6 rfl rfl)
theorem dX0_and_33 : decode cX0_and 33 = .ok (.return_, 1) := dk_177 (dk_at dksX0_and_1 9 rfl rfl)
abbrev cX0_test : ByteArray := prog_1_method_23_code
def yX0_test : MethodName := ⟨RX0, "test", "(LKeptLeaves$Words;)V"⟩
def dkwX0_test_3 : List UInt8 := [177]
abbrev dktX0_test_3 : List UInt8 := dkwX0_test_3 ++ []
def dkwX0_test_2 : List UInt8 := [167, 0, 4, 3, 61, 28, 153, 0, 18, 42, 182, 0, 197, 42, 43, 182, 0, 218, 43, 28, 3, 182, 0, 211]
abbrev dktX0_test_2 : List UInt8 := dkwX0_test_2 ++ dktX0_test_3
def dkwX0_test_1 : List UInt8 := [182, 0, 208, 153, 0, 8, 16, 8, 167, 0, 18, 42, 16, 62, 182, 0, 208, 153, 0, 8, 16, 9]
abbrev dktX0_test_1 : List UInt8 := dkwX0_test_1 ++ dktX0_test_2
def dkwX0_test_0 : List UInt8 := [42, 43, 182, 0, 218, 42, 16, 60, 182, 0, 208, 153, 0, 8, 16, 7, 167, 0, 32, 42, 16, 61]
abbrev dktX0_test_0 : List UInt8 := dkwX0_test_0 ++ dktX0_test_1
theorem dksX0_test_0 : cX0_test.data.toList.drop 0 = dktX0_test_0 := by decide +kernel
theorem dksX0_test_1 : cX0_test.data.toList.drop 22 = dktX0_test_1 := dk_seg dksX0_test_0 22 rfl rfl
theorem dksX0_test_2 : cX0_test.data.toList.drop 44 = dktX0_test_2 := dk_seg dksX0_test_1 22 rfl rfl
theorem dksX0_test_3 : cX0_test.data.toList.drop 68 = dktX0_test_3 := dk_seg dksX0_test_2 24 rfl rfl
theorem dX0_test_0 : decode cX0_test 0 = .ok (.aload_n 0, 1) := dk_42 (dk_at dksX0_test_0 0 rfl rfl)
theorem dX0_test_1 : decode cX0_test 1 = .ok (.aload_n 1, 1) := dk_43 (dk_at dksX0_test_0 1 rfl rfl)
theorem dX0_test_2 : decode cX0_test 2 = .ok (.invokevirtual 218, 3) := dk_182 0 218 (dk_at dksX0_test_0 2 rfl rfl)
theorem dX0_test_5 : decode cX0_test 5 = .ok (.aload_n 0, 1) := dk_42 (dk_at dksX0_test_0 5 rfl rfl)
theorem dX0_test_6 : decode cX0_test 6 = .ok (.bipush 60, 2) := dk_16 60 (dk_at dksX0_test_0 6 rfl rfl)
theorem dX0_test_8 : decode cX0_test 8 = .ok (.invokevirtual 208, 3) := dk_182 0 208 (dk_at dksX0_test_0 8 rfl rfl)
theorem dX0_test_11 : decode cX0_test 11 = .ok (.ifCond .eq 8, 3) := dk_153 0 8 (dk_at dksX0_test_0 11 rfl rfl)
theorem dX0_test_14 : decode cX0_test 14 = .ok (.bipush 7, 2) := dk_16 7 (dk_at dksX0_test_0 14 rfl rfl)
theorem dX0_test_16 : decode cX0_test 16 = .ok (.goto 32, 3) := dk_167 0 32 (dk_at dksX0_test_0 16 rfl rfl)
theorem dX0_test_19 : decode cX0_test 19 = .ok (.aload_n 0, 1) := dk_42 (dk_at dksX0_test_0 19 rfl rfl)
theorem dX0_test_20 : decode cX0_test 20 = .ok (.bipush 61, 2) := dk_16 61 (dk_at dksX0_test_0 20 rfl rfl)
theorem dX0_test_22 : decode cX0_test 22 = .ok (.invokevirtual 208, 3) := dk_182 0 208 (dk_at dksX0_test_1 0 rfl rfl)
theorem dX0_test_25 : decode cX0_test 25 = .ok (.ifCond .eq 8, 3) := dk_153 0 8 (dk_at dksX0_test_1 3 rfl rfl)
theorem dX0_test_28 : decode cX0_test 28 = .ok (.bipush 8, 2) := dk_16 8 (dk_at dksX0_test_1 6 rfl rfl)
theorem dX0_test_30 : decode cX0_test 30 = .ok (.goto 18, 3) := dk_167 0 18 (dk_at dksX0_test_1 8 rfl rfl)
theorem dX0_test_33 : decode cX0_test 33 = .ok (.aload_n 0, 1) := dk_42 (dk_at dksX0_test_1 11 rfl rfl)
theorem dX0_test_34 : decode cX0_test 34 = .ok (.bipush 62, 2) := dk_16 62 (dk_at dksX0_test_1 12 rfl rfl)
theorem dX0_test_36 : decode cX0_test 36 = .ok (.invokevirtual 208, 3) := dk_182 0 208 (dk_at dksX0_test_1 14 rfl rfl)
theorem dX0_test_39 : decode cX0_test 39 = .ok (.ifCond .eq 8, 3) := dk_153 0 8 (dk_at dksX0_test_1 17 rfl rfl)
theorem dX0_test_42 : decode cX0_test 42 = .ok (.bipush 9, 2) := dk_16 9 (dk_at dksX0_test_1 20 rfl rfl)
theorem dX0_test_44 : decode cX0_test 44 = .ok (.goto 4, 3) := dk_167 0 4 (dk_at dksX0_test_2 0 rfl rfl)
theorem dX0_test_47 : decode cX0_test 47 = .ok (.iconst 0, 1) := dk_3 (dk_at dksX0_test_2 3 rfl rfl)
theorem dX0_test_48 : decode cX0_test 48 = .ok (.istore_n 2, 1) := dk_61 (dk_at dksX0_test_2 4 rfl rfl)
theorem dX0_test_49 : decode cX0_test 49 = .ok (.iload_n 2, 1) := dk_28 (dk_at dksX0_test_2 5 rfl rfl)
theorem dX0_test_50 : decode cX0_test 50 = .ok (.ifCond .eq 18, 3) := dk_153 0 18 (dk_at dksX0_test_2 6 rfl rfl)
theorem dX0_test_53 : decode cX0_test 53 = .ok (.aload_n 0, 1) := dk_42 (dk_at dksX0_test_2 9 rfl rfl)
theorem dX0_test_54 : decode cX0_test 54 = .ok (.invokevirtual 197, 3) := dk_182 0 197 (dk_at dksX0_test_2 10 rfl rfl)
theorem dX0_test_57 : decode cX0_test 57 = .ok (.aload_n 0, 1) := dk_42 (dk_at dksX0_test_2 13 rfl rfl)
theorem dX0_test_58 : decode cX0_test 58 = .ok (.aload_n 1, 1) := dk_43 (dk_at dksX0_test_2 14 rfl rfl)
theorem dX0_test_59 : decode cX0_test 59 = .ok (.invokevirtual 218, 3) := dk_182 0 218 (dk_at dksX0_test_2 15 rfl rfl)
theorem dX0_test_62 : decode cX0_test 62 = .ok (.aload_n 1, 1) := dk_43 (dk_at dksX0_test_2 18 rfl rfl)
theorem dX0_test_63 : decode cX0_test 63 = .ok (.iload_n 2, 1) := dk_28 (dk_at dksX0_test_2 19 rfl rfl)
theorem dX0_test_64 : decode cX0_test 64 = .ok (.iconst 0, 1) := dk_3 (dk_at dksX0_test_2 20 rfl rfl)
theorem dX0_test_65 : decode cX0_test 65 = .ok (.invokevirtual 211, 3) := dk_182 0 211 (dk_at dksX0_test_2 21 rfl rfl)
theorem dX0_test_68 : decode cX0_test 68 = .ok (.return_, 1) := dk_177 (dk_at dksX0_test_3 0 rfl rfl)
abbrev cX0_sum : ByteArray := prog_1_method_24_code
def yX0_sum : MethodName := ⟨RX0, "sum", "(LKeptLeaves$Words;)V"⟩
def dkwX0_sum_2 : List UInt8 := [43, 28, 3, 182, 0, 211, 167, 255, 207, 177]
abbrev dktX0_sum_2 : List UInt8 := dkwX0_sum_2 ++ []
def dkwX0_sum_1 : List UInt8 := [16, 43, 182, 0, 208, 153, 0, 7, 8, 167, 0, 5, 16, 6, 61, 42, 182, 0, 197, 42, 43, 182, 0, 221]
abbrev dktX0_sum_1 : List UInt8 := dkwX0_sum_1 ++ dktX0_sum_2
def dkwX0_sum_0 : List UInt8 := [42, 43, 182, 0, 221, 42, 16, 43, 182, 0, 208, 154, 0, 12, 42, 16, 45, 182, 0, 208, 153, 0, 37, 42]
abbrev dktX0_sum_0 : List UInt8 := dkwX0_sum_0 ++ dktX0_sum_1
theorem dksX0_sum_0 : cX0_sum.data.toList.drop 0 = dktX0_sum_0 := by decide +kernel
theorem dksX0_sum_1 : cX0_sum.data.toList.drop 24 = dktX0_sum_1 := dk_seg dksX0_sum_0 24 rfl rfl
theorem dksX0_sum_2 : cX0_sum.data.toList.drop 48 = dktX0_sum_2 := dk_seg dksX0_sum_1 24 rfl rfl
theorem dX0_sum_0 : decode cX0_sum 0 = .ok (.aload_n 0, 1) := dk_42 (dk_at dksX0_sum_0 0 rfl rfl)
theorem dX0_sum_1 : decode cX0_sum 1 = .ok (.aload_n 1, 1) := dk_43 (dk_at dksX0_sum_0 1 rfl rfl)
theorem dX0_sum_2 : decode cX0_sum 2 = .ok (.invokevirtual 221, 3) := dk_182 0 221 (dk_at dksX0_sum_0 2 rfl rfl)
theorem dX0_sum_5 : decode cX0_sum 5 = .ok (.aload_n 0, 1) := dk_42 (dk_at dksX0_sum_0 5 rfl rfl)
theorem dX0_sum_6 : decode cX0_sum 6 = .ok (.bipush 43, 2) := dk_16 43 (dk_at dksX0_sum_0 6 rfl rfl)
theorem dX0_sum_8 : decode cX0_sum 8 = .ok (.invokevirtual 208, 3) := dk_182 0 208 (dk_at dksX0_sum_0 8 rfl rfl)
theorem dX0_sum_11 : decode cX0_sum 11 = .ok (.ifCond .ne 12, 3) := dk_154 0 12 (dk_at dksX0_sum_0 11 rfl rfl)
theorem dX0_sum_14 : decode cX0_sum 14 = .ok (.aload_n 0, 1) := dk_42 (dk_at dksX0_sum_0 14 rfl rfl)
theorem dX0_sum_15 : decode cX0_sum 15 = .ok (.bipush 45, 2) := dk_16 45 (dk_at dksX0_sum_0 15 rfl rfl)
theorem dX0_sum_17 : decode cX0_sum 17 = .ok (.invokevirtual 208, 3) := dk_182 0 208 (dk_at dksX0_sum_0 17 rfl rfl)
theorem dX0_sum_20 : decode cX0_sum 20 = .ok (.ifCond .eq 37, 3) := dk_153 0 37 (dk_at dksX0_sum_0 20 rfl rfl)
theorem dX0_sum_23 : decode cX0_sum 23 = .ok (.aload_n 0, 1) := dk_42 (dk_at dksX0_sum_0 23 rfl rfl)
theorem dX0_sum_24 : decode cX0_sum 24 = .ok (.bipush 43, 2) := dk_16 43 (dk_at dksX0_sum_1 0 rfl rfl)
theorem dX0_sum_26 : decode cX0_sum 26 = .ok (.invokevirtual 208, 3) := dk_182 0 208 (dk_at dksX0_sum_1 2 rfl rfl)
theorem dX0_sum_29 : decode cX0_sum 29 = .ok (.ifCond .eq 7, 3) := dk_153 0 7 (dk_at dksX0_sum_1 5 rfl rfl)
theorem dX0_sum_32 : decode cX0_sum 32 = .ok (.iconst 5, 1) := dk_8 (dk_at dksX0_sum_1 8 rfl rfl)
theorem dX0_sum_33 : decode cX0_sum 33 = .ok (.goto 5, 3) := dk_167 0 5 (dk_at dksX0_sum_1 9 rfl rfl)
theorem dX0_sum_36 : decode cX0_sum 36 = .ok (.bipush 6, 2) := dk_16 6 (dk_at dksX0_sum_1 12 rfl rfl)
theorem dX0_sum_38 : decode cX0_sum 38 = .ok (.istore_n 2, 1) := dk_61 (dk_at dksX0_sum_1 14 rfl rfl)
theorem dX0_sum_39 : decode cX0_sum 39 = .ok (.aload_n 0, 1) := dk_42 (dk_at dksX0_sum_1 15 rfl rfl)
theorem dX0_sum_40 : decode cX0_sum 40 = .ok (.invokevirtual 197, 3) := dk_182 0 197 (dk_at dksX0_sum_1 16 rfl rfl)
theorem dX0_sum_43 : decode cX0_sum 43 = .ok (.aload_n 0, 1) := dk_42 (dk_at dksX0_sum_1 19 rfl rfl)
theorem dX0_sum_44 : decode cX0_sum 44 = .ok (.aload_n 1, 1) := dk_43 (dk_at dksX0_sum_1 20 rfl rfl)
theorem dX0_sum_45 : decode cX0_sum 45 = .ok (.invokevirtual 221, 3) := dk_182 0 221 (dk_at dksX0_sum_1 21 rfl rfl)
theorem dX0_sum_48 : decode cX0_sum 48 = .ok (.aload_n 1, 1) := dk_43 (dk_at dksX0_sum_2 0 rfl rfl)
theorem dX0_sum_49 : decode cX0_sum 49 = .ok (.iload_n 2, 1) := dk_28 (dk_at dksX0_sum_2 1 rfl rfl)
theorem dX0_sum_50 : decode cX0_sum 50 = .ok (.iconst 0, 1) := dk_3 (dk_at dksX0_sum_2 2 rfl rfl)
theorem dX0_sum_51 : decode cX0_sum 51 = .ok (.invokevirtual 211, 3) := dk_182 0 211 (dk_at dksX0_sum_2 3 rfl rfl)
theorem dX0_sum_54 : decode cX0_sum 54 = .ok (.goto (-49), 3) := dk_167 255 207 (dk_at dksX0_sum_2 6 rfl rfl)
theorem dX0_sum_57 : decode cX0_sum 57 = .ok (.return_, 1) := dk_177 (dk_at dksX0_sum_2 9 rfl rfl)
abbrev cX0_term : ByteArray := prog_1_method_25_code
def yX0_term : MethodName := ⟨RX0, "term", "(LKeptLeaves$Words;)V"⟩
def dkwX0_term_2 : List UInt8 := [43, 28, 3, 182, 0, 211, 167, 255, 207, 177]
abbrev dktX0_term_2 : List UInt8 := dkwX0_term_2 ++ []
def dkwX0_term_1 : List UInt8 := [16, 42, 182, 0, 208, 153, 0, 7, 7, 167, 0, 5, 16, 12, 61, 42, 182, 0, 197, 42, 43, 182, 0, 224]
abbrev dktX0_term_1 : List UInt8 := dkwX0_term_1 ++ dktX0_term_2
def dkwX0_term_0 : List UInt8 := [42, 43, 182, 0, 224, 42, 16, 42, 182, 0, 208, 154, 0, 12, 42, 16, 47, 182, 0, 208, 153, 0, 37, 42]
abbrev dktX0_term_0 : List UInt8 := dkwX0_term_0 ++ dktX0_term_1
theorem dksX0_term_0 : cX0_term.data.toList.drop 0 = dktX0_term_0 := by decide +kernel
theorem dksX0_term_1 : cX0_term.data.toList.drop 24 = dktX0_term_1 := dk_seg dksX0_term_0 24 rfl rfl
theorem dksX0_term_2 : cX0_term.data.toList.drop 48 = dktX0_term_2 := dk_seg dksX0_term_1 24 rfl rfl
theorem dX0_term_0 : decode cX0_term 0 = .ok (.aload_n 0, 1) := dk_42 (dk_at dksX0_term_0 0 rfl rfl)
theorem dX0_term_1 : decode cX0_term 1 = .ok (.aload_n 1, 1) := dk_43 (dk_at dksX0_term_0 1 rfl rfl)
theorem dX0_term_2 : decode cX0_term 2 = .ok (.invokevirtual 224, 3) := dk_182 0 224 (dk_at dksX0_term_0 2 rfl rfl)
theorem dX0_term_5 : decode cX0_term 5 = .ok (.aload_n 0, 1) := dk_42 (dk_at dksX0_term_0 5 rfl rfl)
theorem dX0_term_6 : decode cX0_term 6 = .ok (.bipush 42, 2) := dk_16 42 (dk_at dksX0_term_0 6 rfl rfl)
theorem dX0_term_8 : decode cX0_term 8 = .ok (.invokevirtual 208, 3) := dk_182 0 208 (dk_at dksX0_term_0 8 rfl rfl)
theorem dX0_term_11 : decode cX0_term 11 = .ok (.ifCond .ne 12, 3) := dk_154 0 12 (dk_at dksX0_term_0 11 rfl rfl)
theorem dX0_term_14 : decode cX0_term 14 = .ok (.aload_n 0, 1) := dk_42 (dk_at dksX0_term_0 14 rfl rfl)
theorem dX0_term_15 : decode cX0_term 15 = .ok (.bipush 47, 2) := dk_16 47 (dk_at dksX0_term_0 15 rfl rfl)
theorem dX0_term_17 : decode cX0_term 17 = .ok (.invokevirtual 208, 3) := dk_182 0 208 (dk_at dksX0_term_0 17 rfl rfl)
theorem dX0_term_20 : decode cX0_term 20 = .ok (.ifCond .eq 37, 3) := dk_153 0 37 (dk_at dksX0_term_0 20 rfl rfl)
theorem dX0_term_23 : decode cX0_term 23 = .ok (.aload_n 0, 1) := dk_42 (dk_at dksX0_term_0 23 rfl rfl)
theorem dX0_term_24 : decode cX0_term 24 = .ok (.bipush 42, 2) := dk_16 42 (dk_at dksX0_term_1 0 rfl rfl)
theorem dX0_term_26 : decode cX0_term 26 = .ok (.invokevirtual 208, 3) := dk_182 0 208 (dk_at dksX0_term_1 2 rfl rfl)
theorem dX0_term_29 : decode cX0_term 29 = .ok (.ifCond .eq 7, 3) := dk_153 0 7 (dk_at dksX0_term_1 5 rfl rfl)
theorem dX0_term_32 : decode cX0_term 32 = .ok (.iconst 4, 1) := dk_7 (dk_at dksX0_term_1 8 rfl rfl)
theorem dX0_term_33 : decode cX0_term 33 = .ok (.goto 5, 3) := dk_167 0 5 (dk_at dksX0_term_1 9 rfl rfl)
theorem dX0_term_36 : decode cX0_term 36 = .ok (.bipush 12, 2) := dk_16 12 (dk_at dksX0_term_1 12 rfl rfl)
theorem dX0_term_38 : decode cX0_term 38 = .ok (.istore_n 2, 1) := dk_61 (dk_at dksX0_term_1 14 rfl rfl)
theorem dX0_term_39 : decode cX0_term 39 = .ok (.aload_n 0, 1) := dk_42 (dk_at dksX0_term_1 15 rfl rfl)
theorem dX0_term_40 : decode cX0_term 40 = .ok (.invokevirtual 197, 3) := dk_182 0 197 (dk_at dksX0_term_1 16 rfl rfl)
theorem dX0_term_43 : decode cX0_term 43 = .ok (.aload_n 0, 1) := dk_42 (dk_at dksX0_term_1 19 rfl rfl)
theorem dX0_term_44 : decode cX0_term 44 = .ok (.aload_n 1, 1) := dk_43 (dk_at dksX0_term_1 20 rfl rfl)
theorem dX0_term_45 : decode cX0_term 45 = .ok (.invokevirtual 224, 3) := dk_182 0 224 (dk_at dksX0_term_1 21 rfl rfl)
theorem dX0_term_48 : decode cX0_term 48 = .ok (.aload_n 1, 1) := dk_43 (dk_at dksX0_term_2 0 rfl rfl)
theorem dX0_term_49 : decode cX0_term 49 = .ok (.iload_n 2, 1) := dk_28 (dk_at dksX0_term_2 1 rfl rfl)
theorem dX0_term_50 : decode cX0_term 50 = .ok (.iconst 0, 1) := dk_3 (dk_at dksX0_term_2 2 rfl rfl)
theorem dX0_term_51 : decode cX0_term 51 = .ok (.invokevirtual 211, 3) := dk_182 0 211 (dk_at dksX0_term_2 3 rfl rfl)
theorem dX0_term_54 : decode cX0_term 54 = .ok (.goto (-49), 3) := dk_167 255 207 (dk_at dksX0_term_2 6 rfl rfl)
theorem dX0_term_57 : decode cX0_term 57 = .ok (.return_, 1) := dk_177 (dk_at dksX0_term_2 9 rfl rfl)
abbrev cX0_piece : ByteArray := prog_1_method_27_code
def yX0_piece : MethodName := ⟨RX0, "piece", "(LKeptLeaves$Words;)V"⟩
def dkwX0_piece_10 : List UInt8 := [43, 5, 42, 180, 0, 73, 42, 180, 0, 165, 51, 182, 0, 211, 42, 182, 0, 197, 177]
abbrev dktX0_piece_10 : List UInt8 := dkwX0_piece_10 ++ []
def dkwX0_piece_9 : List UInt8 := [180, 0, 165, 51, 182, 0, 242, 154, 0, 7, 42, 182, 0, 184, 42, 89, 180, 0, 236, 4, 96, 181, 0, 236]
abbrev dktX0_piece_9 : List UInt8 := dkwX0_piece_9 ++ dktX0_piece_10
def dkwX0_piece_8 : List UInt8 := [159, 0, 32, 42, 180, 0, 171, 42, 180, 0, 165, 100, 4, 160, 0, 19, 42, 42, 180, 0, 73, 42]
abbrev dktX0_piece_8 : List UInt8 := dkwX0_piece_8 ++ dktX0_piece_9
def dkwX0_piece_7 : List UInt8 := [96, 181, 0, 236, 43, 4, 42, 182, 0, 239, 182, 0, 211, 167, 0, 75, 42, 180, 0, 165, 42, 180, 0, 174]
abbrev dktX0_piece_7 : List UInt8 := dkwX0_piece_7 ++ dktX0_piece_8
def dkwX0_piece_6 : List UInt8 := [162, 0, 40, 42, 180, 0, 73, 42, 180, 0, 165, 51, 184, 0, 181, 153, 0, 25, 42, 89, 180, 0, 236, 4]
abbrev dktX0_piece_6 : List UInt8 := dkwX0_piece_6 ++ dktX0_piece_7
def dkwX0_piece_5 : List UInt8 := [182, 0, 197, 42, 89, 180, 0, 233, 4, 100, 181, 0, 233, 167, 0, 123, 42, 180, 0, 165, 42, 180, 0, 174]
abbrev dktX0_piece_5 : List UInt8 := dkwX0_piece_5 ++ dktX0_piece_6
def dkwX0_piece_4 : List UInt8 := [182, 0, 197, 42, 43, 182, 0, 201, 42, 16, 41, 182, 0, 208, 154, 0, 7, 42, 182, 0, 184, 42]
abbrev dktX0_piece_4 : List UInt8 := dkwX0_piece_4 ++ dktX0_piece_5
def dkwX0_piece_3 : List UInt8 := [180, 0, 233, 16, 8, 160, 0, 7, 42, 182, 0, 184, 42, 89, 180, 0, 233, 4, 96, 181, 0, 233, 42]
abbrev dktX0_piece_3 : List UInt8 := dkwX0_piece_3 ++ dktX0_piece_4
def dkwX0_piece_2 : List UInt8 := [89, 180, 0, 230, 4, 100, 181, 0, 230, 167, 0, 194, 42, 16, 40, 182, 0, 208, 153, 0, 65, 42]
abbrev dktX0_piece_2 : List UInt8 := dkwX0_piece_2 ++ dktX0_piece_3
def dkwX0_piece_1 : List UInt8 := [180, 0, 230, 4, 96, 181, 0, 230, 42, 182, 0, 197, 42, 43, 182, 0, 224, 43, 6, 3, 182, 0, 211, 42]
abbrev dktX0_piece_1 : List UInt8 := dkwX0_piece_1 ++ dktX0_piece_2
def dkwX0_piece_0 : List UInt8 := [42, 16, 33, 182, 0, 208, 153, 0, 54, 42, 180, 0, 230, 16, 8, 160, 0, 7, 42, 182, 0, 184, 42, 89]
abbrev dktX0_piece_0 : List UInt8 := dkwX0_piece_0 ++ dktX0_piece_1
theorem dksX0_piece_0 : cX0_piece.data.toList.drop 0 = dktX0_piece_0 := by decide +kernel
theorem dksX0_piece_1 : cX0_piece.data.toList.drop 24 = dktX0_piece_1 := dk_seg dksX0_piece_0 24 rfl rfl
theorem dksX0_piece_2 : cX0_piece.data.toList.drop 48 = dktX0_piece_2 := dk_seg dksX0_piece_1 24 rfl rfl
theorem dksX0_piece_3 : cX0_piece.data.toList.drop 70 = dktX0_piece_3 := dk_seg dksX0_piece_2 22 rfl rfl
theorem dksX0_piece_4 : cX0_piece.data.toList.drop 93 = dktX0_piece_4 := dk_seg dksX0_piece_3 23 rfl rfl
theorem dksX0_piece_5 : cX0_piece.data.toList.drop 115 = dktX0_piece_5 := dk_seg dksX0_piece_4 22 rfl rfl
theorem dksX0_piece_6 : cX0_piece.data.toList.drop 139 = dktX0_piece_6 := dk_seg dksX0_piece_5 24 rfl rfl
theorem dksX0_piece_7 : cX0_piece.data.toList.drop 163 = dktX0_piece_7 := dk_seg dksX0_piece_6 24 rfl rfl
theorem dksX0_piece_8 : cX0_piece.data.toList.drop 187 = dktX0_piece_8 := dk_seg dksX0_piece_7 24 rfl rfl
theorem dksX0_piece_9 : cX0_piece.data.toList.drop 209 = dktX0_piece_9 := dk_seg dksX0_piece_8 22 rfl rfl
theorem dksX0_piece_10 : cX0_piece.data.toList.drop 233 = dktX0_piece_10 := dk_seg dksX0_piece_9 24 rfl rfl
theorem dX0_piece_0 : decode cX0_piece 0 = .ok (.aload_n 0, 1) := dk_42 (dk_at dksX0_piece_0 0 rfl rfl)
theorem dX0_piece_1 : decode cX0_piece 1 = .ok (.bipush 33, 2) := dk_16 33 (dk_at dksX0_piece_0 1 rfl rfl)
theorem dX0_piece_3 : decode cX0_piece 3 = .ok (.invokevirtual 208, 3) := dk_182 0 208 (dk_at dksX0_piece_0 3 rfl rfl)
theorem dX0_piece_6 : decode cX0_piece 6 = .ok (.ifCond .eq 54, 3) := dk_153 0 54 (dk_at dksX0_piece_0 6 rfl rfl)
theorem dX0_piece_9 : decode cX0_piece 9 = .ok (.aload_n 0, 1) := dk_42 (dk_at dksX0_piece_0 9 rfl rfl)
theorem dX0_piece_10 : decode cX0_piece 10 = .ok (.getfield 230, 3) := dk_180 0 230 (dk_at dksX0_piece_0 10 rfl rfl)
theorem dX0_piece_13 : decode cX0_piece 13 = .ok (.bipush 8, 2) := dk_16 8 (dk_at dksX0_piece_0 13 rfl rfl)
theorem dX0_piece_15 : decode cX0_piece 15 = .ok (.if_icmp .ne 7, 3) := dk_160 0 7 (dk_at dksX0_piece_0 15 rfl rfl)
theorem dX0_piece_18 : decode cX0_piece 18 = .ok (.aload_n 0, 1) := dk_42 (dk_at dksX0_piece_0 18 rfl rfl)
theorem dX0_piece_19 : decode cX0_piece 19 = .ok (.invokevirtual 184, 3) := dk_182 0 184 (dk_at dksX0_piece_0 19 rfl rfl)
theorem dX0_piece_22 : decode cX0_piece 22 = .ok (.aload_n 0, 1) := dk_42 (dk_at dksX0_piece_0 22 rfl rfl)
theorem dX0_piece_23 : decode cX0_piece 23 = .ok (.dup, 1) := dk_89 (dk_at dksX0_piece_0 23 rfl rfl)
theorem dX0_piece_24 : decode cX0_piece 24 = .ok (.getfield 230, 3) := dk_180 0 230 (dk_at dksX0_piece_1 0 rfl rfl)
theorem dX0_piece_27 : decode cX0_piece 27 = .ok (.iconst 1, 1) := dk_4 (dk_at dksX0_piece_1 3 rfl rfl)
theorem dX0_piece_28 : decode cX0_piece 28 = .ok (.iadd, 1) := dk_96 (dk_at dksX0_piece_1 4 rfl rfl)
theorem dX0_piece_29 : decode cX0_piece 29 = .ok (.putfield 230, 3) := dk_181 0 230 (dk_at dksX0_piece_1 5 rfl rfl)
theorem dX0_piece_32 : decode cX0_piece 32 = .ok (.aload_n 0, 1) := dk_42 (dk_at dksX0_piece_1 8 rfl rfl)
theorem dX0_piece_33 : decode cX0_piece 33 = .ok (.invokevirtual 197, 3) := dk_182 0 197 (dk_at dksX0_piece_1 9 rfl rfl)
theorem dX0_piece_36 : decode cX0_piece 36 = .ok (.aload_n 0, 1) := dk_42 (dk_at dksX0_piece_1 12 rfl rfl)
theorem dX0_piece_37 : decode cX0_piece 37 = .ok (.aload_n 1, 1) := dk_43 (dk_at dksX0_piece_1 13 rfl rfl)
theorem dX0_piece_38 : decode cX0_piece 38 = .ok (.invokevirtual 224, 3) := dk_182 0 224 (dk_at dksX0_piece_1 14 rfl rfl)
theorem dX0_piece_41 : decode cX0_piece 41 = .ok (.aload_n 1, 1) := dk_43 (dk_at dksX0_piece_1 17 rfl rfl)
theorem dX0_piece_42 : decode cX0_piece 42 = .ok (.iconst 3, 1) := dk_6 (dk_at dksX0_piece_1 18 rfl rfl)
theorem dX0_piece_43 : decode cX0_piece 43 = .ok (.iconst 0, 1) := dk_3 (dk_at dksX0_piece_1 19 rfl rfl)
theorem dX0_piece_44 : decode cX0_piece 44 = .ok (.invokevirtual 211, 3) := dk_182 0 211 (dk_at dksX0_piece_1 20 rfl rfl)
theorem dX0_piece_47 : decode cX0_piece 47 = .ok (.aload_n 0, 1) := dk_42 (dk_at dksX0_piece_1 23 rfl rfl)
theorem dX0_piece_48 : decode cX0_piece 48 = .ok (.dup, 1) := dk_89 (dk_at dksX0_piece_2 0 rfl rfl)
theorem dX0_piece_49 : decode cX0_piece 49 = .ok (.getfield 230, 3) := dk_180 0 230 (dk_at dksX0_piece_2 1 rfl rfl)
theorem dX0_piece_52 : decode cX0_piece 52 = .ok (.iconst 1, 1) := dk_4 (dk_at dksX0_piece_2 4 rfl rfl)
theorem dX0_piece_53 : decode cX0_piece 53 = .ok (.isub, 1) := dk_100 (dk_at dksX0_piece_2 5 rfl rfl)
theorem dX0_piece_54 : decode cX0_piece 54 = .ok (.putfield 230, 3) := dk_181 0 230 (dk_at dksX0_piece_2 6 rfl rfl)
theorem dX0_piece_57 : decode cX0_piece 57 = .ok (.goto 194, 3) := dk_167 0 194 (dk_at dksX0_piece_2 9 rfl rfl)
theorem dX0_piece_60 : decode cX0_piece 60 = .ok (.aload_n 0, 1) := dk_42 (dk_at dksX0_piece_2 12 rfl rfl)
theorem dX0_piece_61 : decode cX0_piece 61 = .ok (.bipush 40, 2) := dk_16 40 (dk_at dksX0_piece_2 13 rfl rfl)
theorem dX0_piece_63 : decode cX0_piece 63 = .ok (.invokevirtual 208, 3) := dk_182 0 208 (dk_at dksX0_piece_2 15 rfl rfl)
theorem dX0_piece_66 : decode cX0_piece 66 = .ok (.ifCond .eq 65, 3) := dk_153 0 65 (dk_at dksX0_piece_2 18 rfl rfl)
theorem dX0_piece_69 : decode cX0_piece 69 = .ok (.aload_n 0, 1) := dk_42 (dk_at dksX0_piece_2 21 rfl rfl)
theorem dX0_piece_70 : decode cX0_piece 70 = .ok (.getfield 233, 3) := dk_180 0 233 (dk_at dksX0_piece_3 0 rfl rfl)
theorem dX0_piece_73 : decode cX0_piece 73 = .ok (.bipush 8, 2) := dk_16 8 (dk_at dksX0_piece_3 3 rfl rfl)
theorem dX0_piece_75 : decode cX0_piece 75 = .ok (.if_icmp .ne 7, 3) := dk_160 0 7 (dk_at dksX0_piece_3 5 rfl rfl)
theorem dX0_piece_78 : decode cX0_piece 78 = .ok (.aload_n 0, 1) := dk_42 (dk_at dksX0_piece_3 8 rfl rfl)
theorem dX0_piece_79 : decode cX0_piece 79 = .ok (.invokevirtual 184, 3) := dk_182 0 184 (dk_at dksX0_piece_3 9 rfl rfl)
theorem dX0_piece_82 : decode cX0_piece 82 = .ok (.aload_n 0, 1) := dk_42 (dk_at dksX0_piece_3 12 rfl rfl)
theorem dX0_piece_83 : decode cX0_piece 83 = .ok (.dup, 1) := dk_89 (dk_at dksX0_piece_3 13 rfl rfl)
theorem dX0_piece_84 : decode cX0_piece 84 = .ok (.getfield 233, 3) := dk_180 0 233 (dk_at dksX0_piece_3 14 rfl rfl)
theorem dX0_piece_87 : decode cX0_piece 87 = .ok (.iconst 1, 1) := dk_4 (dk_at dksX0_piece_3 17 rfl rfl)
theorem dX0_piece_88 : decode cX0_piece 88 = .ok (.iadd, 1) := dk_96 (dk_at dksX0_piece_3 18 rfl rfl)
theorem dX0_piece_89 : decode cX0_piece 89 = .ok (.putfield 233, 3) := dk_181 0 233 (dk_at dksX0_piece_3 19 rfl rfl)
theorem dX0_piece_92 : decode cX0_piece 92 = .ok (.aload_n 0, 1) := dk_42 (dk_at dksX0_piece_3 22 rfl rfl)
theorem dX0_piece_93 : decode cX0_piece 93 = .ok (.invokevirtual 197, 3) := dk_182 0 197 (dk_at dksX0_piece_4 0 rfl rfl)
theorem dX0_piece_96 : decode cX0_piece 96 = .ok (.aload_n 0, 1) := dk_42 (dk_at dksX0_piece_4 3 rfl rfl)
theorem dX0_piece_97 : decode cX0_piece 97 = .ok (.aload_n 1, 1) := dk_43 (dk_at dksX0_piece_4 4 rfl rfl)
theorem dX0_piece_98 : decode cX0_piece 98 = .ok (.invokevirtual 201, 3) := dk_182 0 201 (dk_at dksX0_piece_4 5 rfl rfl)
theorem dX0_piece_101 : decode cX0_piece 101 = .ok (.aload_n 0, 1) := dk_42 (dk_at dksX0_piece_4 8 rfl rfl)
theorem dX0_piece_102 : decode cX0_piece 102 = .ok (.bipush 41, 2) := dk_16 41 (dk_at dksX0_piece_4 9 rfl rfl)
theorem dX0_piece_104 : decode cX0_piece 104 = .ok (.invokevirtual 208, 3) := dk_182 0 208 (dk_at dksX0_piece_4 11 rfl rfl)
theorem dX0_piece_107 : decode cX0_piece 107 = .ok (.ifCond .ne 7, 3) := dk_154 0 7 (dk_at dksX0_piece_4 14 rfl rfl)
theorem dX0_piece_110 : decode cX0_piece 110 = .ok (.aload_n 0, 1) := dk_42 (dk_at dksX0_piece_4 17 rfl rfl)
theorem dX0_piece_111 : decode cX0_piece 111 = .ok (.invokevirtual 184, 3) := dk_182 0 184 (dk_at dksX0_piece_4 18 rfl rfl)
theorem dX0_piece_114 : decode cX0_piece 114 = .ok (.aload_n 0, 1) := dk_42 (dk_at dksX0_piece_4 21 rfl rfl)
theorem dX0_piece_115 : decode cX0_piece 115 = .ok (.invokevirtual 197, 3) := dk_182 0 197 (dk_at dksX0_piece_5 0 rfl rfl)
theorem dX0_piece_118 : decode cX0_piece 118 = .ok (.aload_n 0, 1) := dk_42 (dk_at dksX0_piece_5 3 rfl rfl)
theorem dX0_piece_119 : decode cX0_piece 119 = .ok (.dup, 1) := dk_89 (dk_at dksX0_piece_5 4 rfl rfl)
theorem dX0_piece_120 : decode cX0_piece 120 = .ok (.getfield 233, 3) := dk_180 0 233 (dk_at dksX0_piece_5 5 rfl rfl)
theorem dX0_piece_123 : decode cX0_piece 123 = .ok (.iconst 1, 1) := dk_4 (dk_at dksX0_piece_5 8 rfl rfl)
theorem dX0_piece_124 : decode cX0_piece 124 = .ok (.isub, 1) := dk_100 (dk_at dksX0_piece_5 9 rfl rfl)
theorem dX0_piece_125 : decode cX0_piece 125 = .ok (.putfield 233, 3) := dk_181 0 233 (dk_at dksX0_piece_5 10 rfl rfl)
theorem dX0_piece_128 : decode cX0_piece 128 = .ok (.goto 123, 3) := dk_167 0 123 (dk_at dksX0_piece_5 13 rfl rfl)
theorem dX0_piece_131 : decode cX0_piece 131 = .ok (.aload_n 0, 1) := dk_42 (dk_at dksX0_piece_5 16 rfl rfl)
theorem dX0_piece_132 : decode cX0_piece 132 = .ok (.getfield 165, 3) := dk_180 0 165 (dk_at dksX0_piece_5 17 rfl rfl)
theorem dX0_piece_135 : decode cX0_piece 135 = .ok (.aload_n 0, 1) := dk_42 (dk_at dksX0_piece_5 20 rfl rfl)
theorem dX0_piece_136 : decode cX0_piece 136 = .ok (.getfield 174, 3) := dk_180 0 174 (dk_at dksX0_piece_5 21 rfl rfl)
theorem dX0_piece_139 : decode cX0_piece 139 = .ok (.if_icmp .ge 40, 3) := dk_162 0 40 (dk_at dksX0_piece_6 0 rfl rfl)
theorem dX0_piece_142 : decode cX0_piece 142 = .ok (.aload_n 0, 1) := dk_42 (dk_at dksX0_piece_6 3 rfl rfl)
theorem dX0_piece_143 : decode cX0_piece 143 = .ok (.getfield 73, 3) := dk_180 0 73 (dk_at dksX0_piece_6 4 rfl rfl)
theorem dX0_piece_146 : decode cX0_piece 146 = .ok (.aload_n 0, 1) := dk_42 (dk_at dksX0_piece_6 7 rfl rfl)
theorem dX0_piece_147 : decode cX0_piece 147 = .ok (.getfield 165, 3) := dk_180 0 165 (dk_at dksX0_piece_6 8 rfl rfl)
theorem dX0_piece_150 : decode cX0_piece 150 = .ok (.baload, 1) := dk_51 (dk_at dksX0_piece_6 11 rfl rfl)
theorem dX0_piece_151 : decode cX0_piece 151 = .ok (.invokestatic 181, 3) := dk_184 0 181 (dk_at dksX0_piece_6 12 rfl rfl)
theorem dX0_piece_154 : decode cX0_piece 154 = .ok (.ifCond .eq 25, 3) := dk_153 0 25 (dk_at dksX0_piece_6 15 rfl rfl)
theorem dX0_piece_157 : decode cX0_piece 157 = .ok (.aload_n 0, 1) := dk_42 (dk_at dksX0_piece_6 18 rfl rfl)
theorem dX0_piece_158 : decode cX0_piece 158 = .ok (.dup, 1) := dk_89 (dk_at dksX0_piece_6 19 rfl rfl)
theorem dX0_piece_159 : decode cX0_piece 159 = .ok (.getfield 236, 3) := dk_180 0 236 (dk_at dksX0_piece_6 20 rfl rfl)
theorem dX0_piece_162 : decode cX0_piece 162 = .ok (.iconst 1, 1) := dk_4 (dk_at dksX0_piece_6 23 rfl rfl)
theorem dX0_piece_163 : decode cX0_piece 163 = .ok (.iadd, 1) := dk_96 (dk_at dksX0_piece_7 0 rfl rfl)
theorem dX0_piece_164 : decode cX0_piece 164 = .ok (.putfield 236, 3) := dk_181 0 236 (dk_at dksX0_piece_7 1 rfl rfl)
theorem dX0_piece_167 : decode cX0_piece 167 = .ok (.aload_n 1, 1) := dk_43 (dk_at dksX0_piece_7 4 rfl rfl)
theorem dX0_piece_168 : decode cX0_piece 168 = .ok (.iconst 1, 1) := dk_4 (dk_at dksX0_piece_7 5 rfl rfl)
theorem dX0_piece_169 : decode cX0_piece 169 = .ok (.aload_n 0, 1) := dk_42 (dk_at dksX0_piece_7 6 rfl rfl)
theorem dX0_piece_170 : decode cX0_piece 170 = .ok (.invokevirtual 239, 3) := dk_182 0 239 (dk_at dksX0_piece_7 7 rfl rfl)
theorem dX0_piece_173 : decode cX0_piece 173 = .ok (.invokevirtual 211, 3) := dk_182 0 211 (dk_at dksX0_piece_7 10 rfl rfl)
theorem dX0_piece_176 : decode cX0_piece 176 = .ok (.goto 75, 3) := dk_167 0 75 (dk_at dksX0_piece_7 13 rfl rfl)
theorem dX0_piece_179 : decode cX0_piece 179 = .ok (.aload_n 0, 1) := dk_42 (dk_at dksX0_piece_7 16 rfl rfl)
theorem dX0_piece_180 : decode cX0_piece 180 = .ok (.getfield 165, 3) := dk_180 0 165 (dk_at dksX0_piece_7 17 rfl rfl)
theorem dX0_piece_183 : decode cX0_piece 183 = .ok (.aload_n 0, 1) := dk_42 (dk_at dksX0_piece_7 20 rfl rfl)
theorem dX0_piece_184 : decode cX0_piece 184 = .ok (.getfield 174, 3) := dk_180 0 174 (dk_at dksX0_piece_7 21 rfl rfl)
theorem dX0_piece_187 : decode cX0_piece 187 = .ok (.if_icmp .eq 32, 3) := dk_159 0 32 (dk_at dksX0_piece_8 0 rfl rfl)
theorem dX0_piece_190 : decode cX0_piece 190 = .ok (.aload_n 0, 1) := dk_42 (dk_at dksX0_piece_8 3 rfl rfl)
theorem dX0_piece_191 : decode cX0_piece 191 = .ok (.getfield 171, 3) := dk_180 0 171 (dk_at dksX0_piece_8 4 rfl rfl)
theorem dX0_piece_194 : decode cX0_piece 194 = .ok (.aload_n 0, 1) := dk_42 (dk_at dksX0_piece_8 7 rfl rfl)
theorem dX0_piece_195 : decode cX0_piece 195 = .ok (.getfield 165, 3) := dk_180 0 165 (dk_at dksX0_piece_8 8 rfl rfl)
theorem dX0_piece_198 : decode cX0_piece 198 = .ok (.isub, 1) := dk_100 (dk_at dksX0_piece_8 11 rfl rfl)
theorem dX0_piece_199 : decode cX0_piece 199 = .ok (.iconst 1, 1) := dk_4 (dk_at dksX0_piece_8 12 rfl rfl)
theorem dX0_piece_200 : decode cX0_piece 200 = .ok (.if_icmp .ne 19, 3) := dk_160 0 19 (dk_at dksX0_piece_8 13 rfl rfl)
theorem dX0_piece_203 : decode cX0_piece 203 = .ok (.aload_n 0, 1) := dk_42 (dk_at dksX0_piece_8 16 rfl rfl)
theorem dX0_piece_204 : decode cX0_piece 204 = .ok (.aload_n 0, 1) := dk_42 (dk_at dksX0_piece_8 17 rfl rfl)
theorem dX0_piece_205 : decode cX0_piece 205 = .ok (.getfield 73, 3) := dk_180 0 73 (dk_at dksX0_piece_8 18 rfl rfl)
theorem dX0_piece_208 : decode cX0_piece 208 = .ok (.aload_n 0, 1) := dk_42 (dk_at dksX0_piece_8 21 rfl rfl)
theorem dX0_piece_209 : decode cX0_piece 209 = .ok (.getfield 165, 3) := dk_180 0 165 (dk_at dksX0_piece_9 0 rfl rfl)
theorem dX0_piece_212 : decode cX0_piece 212 = .ok (.baload, 1) := dk_51 (dk_at dksX0_piece_9 3 rfl rfl)
theorem dX0_piece_213 : decode cX0_piece 213 = .ok (.invokevirtual 242, 3) := dk_182 0 242 (dk_at dksX0_piece_9 4 rfl rfl)
theorem dX0_piece_216 : decode cX0_piece 216 = .ok (.ifCond .ne 7, 3) := dk_154 0 7 (dk_at dksX0_piece_9 7 rfl rfl)
theorem dX0_piece_219 : decode cX0_piece 219 = .ok (.aload_n 0, 1) := dk_42 (dk_at dksX0_piece_9 10 rfl rfl)
theorem dX0_piece_220 : decode cX0_piece 220 = .ok (.invokevirtual 184, 3) := dk_182 0 184 (dk_at dksX0_piece_9 11 rfl rfl)
theorem dX0_piece_223 : decode cX0_piece 223 = .ok (.aload_n 0, 1) := dk_42 (dk_at dksX0_piece_9 14 rfl rfl)
theorem dX0_piece_224 : decode cX0_piece 224 = .ok (.dup, 1) := dk_89 (dk_at dksX0_piece_9 15 rfl rfl)
theorem dX0_piece_225 : decode cX0_piece 225 = .ok (.getfield 236, 3) := dk_180 0 236 (dk_at dksX0_piece_9 16 rfl rfl)
theorem dX0_piece_228 : decode cX0_piece 228 = .ok (.iconst 1, 1) := dk_4 (dk_at dksX0_piece_9 19 rfl rfl)
theorem dX0_piece_229 : decode cX0_piece 229 = .ok (.iadd, 1) := dk_96 (dk_at dksX0_piece_9 20 rfl rfl)
theorem dX0_piece_230 : decode cX0_piece 230 = .ok (.putfield 236, 3) := dk_181 0 236 (dk_at dksX0_piece_9 21 rfl rfl)
theorem dX0_piece_233 : decode cX0_piece 233 = .ok (.aload_n 1, 1) := dk_43 (dk_at dksX0_piece_10 0 rfl rfl)
theorem dX0_piece_234 : decode cX0_piece 234 = .ok (.iconst 2, 1) := dk_5 (dk_at dksX0_piece_10 1 rfl rfl)
theorem dX0_piece_235 : decode cX0_piece 235 = .ok (.aload_n 0, 1) := dk_42 (dk_at dksX0_piece_10 2 rfl rfl)
theorem dX0_piece_236 : decode cX0_piece 236 = .ok (.getfield 73, 3) := dk_180 0 73 (dk_at dksX0_piece_10 3 rfl rfl)
theorem dX0_piece_239 : decode cX0_piece 239 = .ok (.aload_n 0, 1) := dk_42 (dk_at dksX0_piece_10 6 rfl rfl)
theorem dX0_piece_240 : decode cX0_piece 240 = .ok (.getfield 165, 3) := dk_180 0 165 (dk_at dksX0_piece_10 7 rfl rfl)
theorem dX0_piece_243 : decode cX0_piece 243 = .ok (.baload, 1) := dk_51 (dk_at dksX0_piece_10 10 rfl rfl)
theorem dX0_piece_244 : decode cX0_piece 244 = .ok (.invokevirtual 211, 3) := dk_182 0 211 (dk_at dksX0_piece_10 11 rfl rfl)
theorem dX0_piece_247 : decode cX0_piece 247 = .ok (.aload_n 0, 1) := dk_42 (dk_at dksX0_piece_10 14 rfl rfl)
theorem dX0_piece_248 : decode cX0_piece 248 = .ok (.invokevirtual 197, 3) := dk_182 0 197 (dk_at dksX0_piece_10 15 rfl rfl)
theorem dX0_piece_251 : decode cX0_piece 251 = .ok (.return_, 1) := dk_177 (dk_at dksX0_piece_10 18 rfl rfl)
abbrev cX0_isSign : ByteArray := prog_1_method_18_code
def yX0_isSign : MethodName := ⟨RX0, "isSign", "(I)Z"⟩
def dkwX0_isSign_1 : List UInt8 := [42, 180, 0, 73, 42, 180, 0, 165, 51, 27, 160, 0, 7, 4, 167, 0, 4, 3, 172]
abbrev dktX0_isSign_1 : List UInt8 := dkwX0_isSign_1 ++ []
def dkwX0_isSign_0 : List UInt8 := [42, 180, 0, 165, 42, 180, 0, 174, 162, 0, 33, 42, 180, 0, 171, 42, 180, 0, 165, 100, 4, 160, 0, 20]
abbrev dktX0_isSign_0 : List UInt8 := dkwX0_isSign_0 ++ dktX0_isSign_1
theorem dksX0_isSign_0 : cX0_isSign.data.toList.drop 0 = dktX0_isSign_0 := by decide +kernel
theorem dksX0_isSign_1 : cX0_isSign.data.toList.drop 24 = dktX0_isSign_1 := dk_seg dksX0_isSign_0 24 rfl rfl
theorem dX0_isSign_0 : decode cX0_isSign 0 = .ok (.aload_n 0, 1) := dk_42 (dk_at dksX0_isSign_0 0 rfl rfl)
theorem dX0_isSign_1 : decode cX0_isSign 1 = .ok (.getfield 165, 3) := dk_180 0 165 (dk_at dksX0_isSign_0 1 rfl rfl)
theorem dX0_isSign_4 : decode cX0_isSign 4 = .ok (.aload_n 0, 1) := dk_42 (dk_at dksX0_isSign_0 4 rfl rfl)
theorem dX0_isSign_5 : decode cX0_isSign 5 = .ok (.getfield 174, 3) := dk_180 0 174 (dk_at dksX0_isSign_0 5 rfl rfl)
theorem dX0_isSign_8 : decode cX0_isSign 8 = .ok (.if_icmp .ge 33, 3) := dk_162 0 33 (dk_at dksX0_isSign_0 8 rfl rfl)
theorem dX0_isSign_11 : decode cX0_isSign 11 = .ok (.aload_n 0, 1) := dk_42 (dk_at dksX0_isSign_0 11 rfl rfl)
theorem dX0_isSign_12 : decode cX0_isSign 12 = .ok (.getfield 171, 3) := dk_180 0 171 (dk_at dksX0_isSign_0 12 rfl rfl)
theorem dX0_isSign_15 : decode cX0_isSign 15 = .ok (.aload_n 0, 1) := dk_42 (dk_at dksX0_isSign_0 15 rfl rfl)
theorem dX0_isSign_16 : decode cX0_isSign 16 = .ok (.getfield 165, 3) := dk_180 0 165 (dk_at dksX0_isSign_0 16 rfl rfl)
theorem dX0_isSign_19 : decode cX0_isSign 19 = .ok (.isub, 1) := dk_100 (dk_at dksX0_isSign_0 19 rfl rfl)
theorem dX0_isSign_20 : decode cX0_isSign 20 = .ok (.iconst 1, 1) := dk_4 (dk_at dksX0_isSign_0 20 rfl rfl)
theorem dX0_isSign_21 : decode cX0_isSign 21 = .ok (.if_icmp .ne 20, 3) := dk_160 0 20 (dk_at dksX0_isSign_0 21 rfl rfl)
theorem dX0_isSign_24 : decode cX0_isSign 24 = .ok (.aload_n 0, 1) := dk_42 (dk_at dksX0_isSign_1 0 rfl rfl)
theorem dX0_isSign_25 : decode cX0_isSign 25 = .ok (.getfield 73, 3) := dk_180 0 73 (dk_at dksX0_isSign_1 1 rfl rfl)
theorem dX0_isSign_28 : decode cX0_isSign 28 = .ok (.aload_n 0, 1) := dk_42 (dk_at dksX0_isSign_1 4 rfl rfl)
theorem dX0_isSign_29 : decode cX0_isSign 29 = .ok (.getfield 165, 3) := dk_180 0 165 (dk_at dksX0_isSign_1 5 rfl rfl)
theorem dX0_isSign_32 : decode cX0_isSign 32 = .ok (.baload, 1) := dk_51 (dk_at dksX0_isSign_1 8 rfl rfl)
theorem dX0_isSign_33 : decode cX0_isSign 33 = .ok (.iload_n 1, 1) := dk_27 (dk_at dksX0_isSign_1 9 rfl rfl)
theorem dX0_isSign_34 : decode cX0_isSign 34 = .ok (.if_icmp .ne 7, 3) := dk_160 0 7 (dk_at dksX0_isSign_1 10 rfl rfl)
theorem dX0_isSign_37 : decode cX0_isSign 37 = .ok (.iconst 1, 1) := dk_4 (dk_at dksX0_isSign_1 13 rfl rfl)
theorem dX0_isSign_38 : decode cX0_isSign 38 = .ok (.goto 4, 3) := dk_167 0 4 (dk_at dksX0_isSign_1 14 rfl rfl)
theorem dX0_isSign_41 : decode cX0_isSign 41 = .ok (.iconst 0, 1) := dk_3 (dk_at dksX0_isSign_1 17 rfl rfl)
theorem dX0_isSign_42 : decode cX0_isSign 42 = .ok (.ireturn, 1) := dk_172 (dk_at dksX0_isSign_1 18 rfl rfl)
abbrev cX0_number : ByteArray := prog_1_method_19_code
def yX0_number : MethodName := ⟨RX0, "number", "()I"⟩
def dkwX0_number_3 : List UInt8 := [16, 48, 100, 60, 132, 2, 1, 167, 255, 230, 42, 182, 0, 197, 27, 172]
abbrev dktX0_number_3 : List UInt8 := dkwX0_number_3 ++ []
def dkwX0_number_2 : List UInt8 := [180, 0, 165, 61, 28, 42, 180, 0, 171, 162, 0, 24, 16, 10, 27, 104, 42, 180, 0, 73, 28, 51, 96]
abbrev dktX0_number_2 : List UInt8 := dkwX0_number_2 ++ dktX0_number_3
def dkwX0_number_1 : List UInt8 := [153, 0, 16, 42, 180, 0, 171, 42, 180, 0, 165, 100, 7, 164, 0, 7, 42, 182, 0, 184, 3, 60, 42]
abbrev dktX0_number_1 : List UInt8 := dkwX0_number_1 ++ dktX0_number_2
def dkwX0_number_0 : List UInt8 := [42, 180, 0, 165, 42, 180, 0, 174, 159, 0, 31, 42, 180, 0, 73, 42, 180, 0, 165, 51, 184, 0, 181]
abbrev dktX0_number_0 : List UInt8 := dkwX0_number_0 ++ dktX0_number_1
theorem dksX0_number_0 : cX0_number.data.toList.drop 0 = dktX0_number_0 := by decide +kernel
theorem dksX0_number_1 : cX0_number.data.toList.drop 23 = dktX0_number_1 := dk_seg dksX0_number_0 23 rfl rfl
theorem dksX0_number_2 : cX0_number.data.toList.drop 46 = dktX0_number_2 := dk_seg dksX0_number_1 23 rfl rfl
theorem dksX0_number_3 : cX0_number.data.toList.drop 69 = dktX0_number_3 := dk_seg dksX0_number_2 23 rfl rfl
theorem dX0_number_0 : decode cX0_number 0 = .ok (.aload_n 0, 1) := dk_42 (dk_at dksX0_number_0 0 rfl rfl)
theorem dX0_number_1 : decode cX0_number 1 = .ok (.getfield 165, 3) := dk_180 0 165 (dk_at dksX0_number_0 1 rfl rfl)
theorem dX0_number_4 : decode cX0_number 4 = .ok (.aload_n 0, 1) := dk_42 (dk_at dksX0_number_0 4 rfl rfl)
theorem dX0_number_5 : decode cX0_number 5 = .ok (.getfield 174, 3) := dk_180 0 174 (dk_at dksX0_number_0 5 rfl rfl)
theorem dX0_number_8 : decode cX0_number 8 = .ok (.if_icmp .eq 31, 3) := dk_159 0 31 (dk_at dksX0_number_0 8 rfl rfl)
theorem dX0_number_11 : decode cX0_number 11 = .ok (.aload_n 0, 1) := dk_42 (dk_at dksX0_number_0 11 rfl rfl)
theorem dX0_number_12 : decode cX0_number 12 = .ok (.getfield 73, 3) := dk_180 0 73 (dk_at dksX0_number_0 12 rfl rfl)
theorem dX0_number_15 : decode cX0_number 15 = .ok (.aload_n 0, 1) := dk_42 (dk_at dksX0_number_0 15 rfl rfl)
theorem dX0_number_16 : decode cX0_number 16 = .ok (.getfield 165, 3) := dk_180 0 165 (dk_at dksX0_number_0 16 rfl rfl)
theorem dX0_number_19 : decode cX0_number 19 = .ok (.baload, 1) := dk_51 (dk_at dksX0_number_0 19 rfl rfl)
theorem dX0_number_20 : decode cX0_number 20 = .ok (.invokestatic 181, 3) := dk_184 0 181 (dk_at dksX0_number_0 20 rfl rfl)
theorem dX0_number_23 : decode cX0_number 23 = .ok (.ifCond .eq 16, 3) := dk_153 0 16 (dk_at dksX0_number_1 0 rfl rfl)
theorem dX0_number_26 : decode cX0_number 26 = .ok (.aload_n 0, 1) := dk_42 (dk_at dksX0_number_1 3 rfl rfl)
theorem dX0_number_27 : decode cX0_number 27 = .ok (.getfield 171, 3) := dk_180 0 171 (dk_at dksX0_number_1 4 rfl rfl)
theorem dX0_number_30 : decode cX0_number 30 = .ok (.aload_n 0, 1) := dk_42 (dk_at dksX0_number_1 7 rfl rfl)
theorem dX0_number_31 : decode cX0_number 31 = .ok (.getfield 165, 3) := dk_180 0 165 (dk_at dksX0_number_1 8 rfl rfl)
theorem dX0_number_34 : decode cX0_number 34 = .ok (.isub, 1) := dk_100 (dk_at dksX0_number_1 11 rfl rfl)
theorem dX0_number_35 : decode cX0_number 35 = .ok (.iconst 4, 1) := dk_7 (dk_at dksX0_number_1 12 rfl rfl)
theorem dX0_number_36 : decode cX0_number 36 = .ok (.if_icmp .le 7, 3) := dk_164 0 7 (dk_at dksX0_number_1 13 rfl rfl)
theorem dX0_number_39 : decode cX0_number 39 = .ok (.aload_n 0, 1) := dk_42 (dk_at dksX0_number_1 16 rfl rfl)
theorem dX0_number_40 : decode cX0_number 40 = .ok (.invokevirtual 184, 3) := dk_182 0 184 (dk_at dksX0_number_1 17 rfl rfl)
theorem dX0_number_43 : decode cX0_number 43 = .ok (.iconst 0, 1) := dk_3 (dk_at dksX0_number_1 20 rfl rfl)
theorem dX0_number_44 : decode cX0_number 44 = .ok (.istore_n 1, 1) := dk_60 (dk_at dksX0_number_1 21 rfl rfl)
theorem dX0_number_45 : decode cX0_number 45 = .ok (.aload_n 0, 1) := dk_42 (dk_at dksX0_number_1 22 rfl rfl)
theorem dX0_number_46 : decode cX0_number 46 = .ok (.getfield 165, 3) := dk_180 0 165 (dk_at dksX0_number_2 0 rfl rfl)
theorem dX0_number_49 : decode cX0_number 49 = .ok (.istore_n 2, 1) := dk_61 (dk_at dksX0_number_2 3 rfl rfl)
theorem dX0_number_50 : decode cX0_number 50 = .ok (.iload_n 2, 1) := dk_28 (dk_at dksX0_number_2 4 rfl rfl)
theorem dX0_number_51 : decode cX0_number 51 = .ok (.aload_n 0, 1) := dk_42 (dk_at dksX0_number_2 5 rfl rfl)
theorem dX0_number_52 : decode cX0_number 52 = .ok (.getfield 171, 3) := dk_180 0 171 (dk_at dksX0_number_2 6 rfl rfl)
theorem dX0_number_55 : decode cX0_number 55 = .ok (.if_icmp .ge 24, 3) := dk_162 0 24 (dk_at dksX0_number_2 9 rfl rfl)
theorem dX0_number_58 : decode cX0_number 58 = .ok (.bipush 10, 2) := dk_16 10 (dk_at dksX0_number_2 12 rfl rfl)
theorem dX0_number_60 : decode cX0_number 60 = .ok (.iload_n 1, 1) := dk_27 (dk_at dksX0_number_2 14 rfl rfl)
theorem dX0_number_61 : decode cX0_number 61 = .ok (.imul, 1) := dk_104 (dk_at dksX0_number_2 15 rfl rfl)
theorem dX0_number_62 : decode cX0_number 62 = .ok (.aload_n 0, 1) := dk_42 (dk_at dksX0_number_2 16 rfl rfl)
theorem dX0_number_63 : decode cX0_number 63 = .ok (.getfield 73, 3) := dk_180 0 73 (dk_at dksX0_number_2 17 rfl rfl)
theorem dX0_number_66 : decode cX0_number 66 = .ok (.iload_n 2, 1) := dk_28 (dk_at dksX0_number_2 20 rfl rfl)
theorem dX0_number_67 : decode cX0_number 67 = .ok (.baload, 1) := dk_51 (dk_at dksX0_number_2 21 rfl rfl)
theorem dX0_number_68 : decode cX0_number 68 = .ok (.iadd, 1) := dk_96 (dk_at dksX0_number_2 22 rfl rfl)
theorem dX0_number_69 : decode cX0_number 69 = .ok (.bipush 48, 2) := dk_16 48 (dk_at dksX0_number_3 0 rfl rfl)
theorem dX0_number_71 : decode cX0_number 71 = .ok (.isub, 1) := dk_100 (dk_at dksX0_number_3 2 rfl rfl)
theorem dX0_number_72 : decode cX0_number 72 = .ok (.istore_n 1, 1) := dk_60 (dk_at dksX0_number_3 3 rfl rfl)
theorem dX0_number_73 : decode cX0_number 73 = .ok (.iinc 2 1, 3) := dk_132 2 1 (dk_at dksX0_number_3 4 rfl rfl)
theorem dX0_number_76 : decode cX0_number 76 = .ok (.goto (-26), 3) := dk_167 255 230 (dk_at dksX0_number_3 7 rfl rfl)
theorem dX0_number_79 : decode cX0_number 79 = .ok (.aload_n 0, 1) := dk_42 (dk_at dksX0_number_3 10 rfl rfl)
theorem dX0_number_80 : decode cX0_number 80 = .ok (.invokevirtual 197, 3) := dk_182 0 197 (dk_at dksX0_number_3 11 rfl rfl)
theorem dX0_number_83 : decode cX0_number 83 = .ok (.iload_n 1, 1) := dk_27 (dk_at dksX0_number_3 14 rfl rfl)
theorem dX0_number_84 : decode cX0_number 84 = .ok (.ireturn, 1) := dk_172 (dk_at dksX0_number_3 15 rfl rfl)
abbrev cX0_isName : ByteArray := prog_1_method_26_code
def yX0_isName : MethodName := ⟨RX0, "isName", "(I)Z"⟩
def dkwX0_isName_3 : List UInt8 := [4, 167, 0, 4, 3, 172, 42, 180, 0, 227, 5, 160, 0, 7, 4, 167, 0, 4, 3, 172, 3, 172]
abbrev dktX0_isName_3 : List UInt8 := dkwX0_isName_3 ++ []
def dkwX0_isName_2 : List UInt8 := [4, 172, 42, 180, 0, 227, 5, 159, 0, 7, 4, 167, 0, 4, 3, 172, 42, 180, 0, 227, 4, 160, 0, 7]
abbrev dktX0_isName_2 : List UInt8 := dkwX0_isName_2 ++ dktX0_isName_3
def dkwX0_isName_1 : List UInt8 := [170, 0, 0, 0, 0, 0, 139, 0, 0, 0, 97, 0, 0, 0, 116, 0, 0, 0, 125, 0, 0, 0, 139, 0, 0, 0, 139, 0, 0, 0, 139, 0, 0, 0, 139, 0, 0, 0, 139, 0, 0, 0, 139, 0, 0, 0, 139, 0, 0, 0, 139, 0, 0, 0, 139, 0, 0, 0, 139, 0, 0, 0, 111, 0, 0, 0, 139, 0, 0, 0, 95, 0, 0, 0, 139, 0, 0, 0, 139, 0, 0, 0, 139, 0, 0, 0, 125, 0, 0, 0, 97, 0, 0, 0, 125]
abbrev dktX0_isName_1 : List UInt8 := dkwX0_isName_1 ++ dktX0_isName_2
def dkwX0_isName_0 : List UInt8 := [27]
abbrev dktX0_isName_0 : List UInt8 := dkwX0_isName_0 ++ dktX0_isName_1
theorem dksX0_isName_0 : cX0_isName.data.toList.drop 0 = dktX0_isName_0 := by decide +kernel
theorem dksX0_isName_1 : cX0_isName.data.toList.drop 1 = dktX0_isName_1 := dk_seg dksX0_isName_0 1 rfl rfl
theorem dksX0_isName_2 : cX0_isName.data.toList.drop 96 = dktX0_isName_2 := dk_seg dksX0_isName_1 95 rfl rfl
theorem dksX0_isName_3 : cX0_isName.data.toList.drop 120 = dktX0_isName_3 := dk_seg dksX0_isName_2 24 rfl rfl
theorem dX0_isName_0 : decode cX0_isName 0 = .ok (.iload_n 1, 1) := dk_27 (dk_at dksX0_isName_0 0 rfl rfl)
theorem dX0_isName_1 : decode cX0_isName 1 = .ok (.tableswitch 139 97 116 #[125, 139, 139, 139, 139, 139, 139, 139, 139, 139, 139, 111, 139, 95, 139, 139, 139, 125, 97, 125], 95) := by decide +kernel
theorem dX0_isName_96 : decode cX0_isName 96 = .ok (.iconst 1, 1) := dk_4 (dk_at dksX0_isName_2 0 rfl rfl)
theorem dX0_isName_97 : decode cX0_isName 97 = .ok (.ireturn, 1) := dk_172 (dk_at dksX0_isName_2 1 rfl rfl)
theorem dX0_isName_98 : decode cX0_isName 98 = .ok (.aload_n 0, 1) := dk_42 (dk_at dksX0_isName_2 2 rfl rfl)
theorem dX0_isName_99 : decode cX0_isName 99 = .ok (.getfield 227, 3) := dk_180 0 227 (dk_at dksX0_isName_2 3 rfl rfl)
theorem dX0_isName_102 : decode cX0_isName 102 = .ok (.iconst 2, 1) := dk_5 (dk_at dksX0_isName_2 6 rfl rfl)
theorem dX0_isName_103 : decode cX0_isName 103 = .ok (.if_icmp .eq 7, 3) := dk_159 0 7 (dk_at dksX0_isName_2 7 rfl rfl)
theorem dX0_isName_106 : decode cX0_isName 106 = .ok (.iconst 1, 1) := dk_4 (dk_at dksX0_isName_2 10 rfl rfl)
theorem dX0_isName_107 : decode cX0_isName 107 = .ok (.goto 4, 3) := dk_167 0 4 (dk_at dksX0_isName_2 11 rfl rfl)
theorem dX0_isName_110 : decode cX0_isName 110 = .ok (.iconst 0, 1) := dk_3 (dk_at dksX0_isName_2 14 rfl rfl)
theorem dX0_isName_111 : decode cX0_isName 111 = .ok (.ireturn, 1) := dk_172 (dk_at dksX0_isName_2 15 rfl rfl)
theorem dX0_isName_112 : decode cX0_isName 112 = .ok (.aload_n 0, 1) := dk_42 (dk_at dksX0_isName_2 16 rfl rfl)
theorem dX0_isName_113 : decode cX0_isName 113 = .ok (.getfield 227, 3) := dk_180 0 227 (dk_at dksX0_isName_2 17 rfl rfl)
theorem dX0_isName_116 : decode cX0_isName 116 = .ok (.iconst 1, 1) := dk_4 (dk_at dksX0_isName_2 20 rfl rfl)
theorem dX0_isName_117 : decode cX0_isName 117 = .ok (.if_icmp .ne 7, 3) := dk_160 0 7 (dk_at dksX0_isName_2 21 rfl rfl)
theorem dX0_isName_120 : decode cX0_isName 120 = .ok (.iconst 1, 1) := dk_4 (dk_at dksX0_isName_3 0 rfl rfl)
theorem dX0_isName_121 : decode cX0_isName 121 = .ok (.goto 4, 3) := dk_167 0 4 (dk_at dksX0_isName_3 1 rfl rfl)
theorem dX0_isName_124 : decode cX0_isName 124 = .ok (.iconst 0, 1) := dk_3 (dk_at dksX0_isName_3 4 rfl rfl)
theorem dX0_isName_125 : decode cX0_isName 125 = .ok (.ireturn, 1) := dk_172 (dk_at dksX0_isName_3 5 rfl rfl)
theorem dX0_isName_126 : decode cX0_isName 126 = .ok (.aload_n 0, 1) := dk_42 (dk_at dksX0_isName_3 6 rfl rfl)
theorem dX0_isName_127 : decode cX0_isName 127 = .ok (.getfield 227, 3) := dk_180 0 227 (dk_at dksX0_isName_3 7 rfl rfl)
theorem dX0_isName_130 : decode cX0_isName 130 = .ok (.iconst 2, 1) := dk_5 (dk_at dksX0_isName_3 10 rfl rfl)
theorem dX0_isName_131 : decode cX0_isName 131 = .ok (.if_icmp .ne 7, 3) := dk_160 0 7 (dk_at dksX0_isName_3 11 rfl rfl)
theorem dX0_isName_134 : decode cX0_isName 134 = .ok (.iconst 1, 1) := dk_4 (dk_at dksX0_isName_3 14 rfl rfl)
theorem dX0_isName_135 : decode cX0_isName 135 = .ok (.goto 4, 3) := dk_167 0 4 (dk_at dksX0_isName_3 15 rfl rfl)
theorem dX0_isName_138 : decode cX0_isName 138 = .ok (.iconst 0, 1) := dk_3 (dk_at dksX0_isName_3 18 rfl rfl)
theorem dX0_isName_139 : decode cX0_isName 139 = .ok (.ireturn, 1) := dk_172 (dk_at dksX0_isName_3 19 rfl rfl)
theorem dX0_isName_140 : decode cX0_isName 140 = .ok (.iconst 0, 1) := dk_3 (dk_at dksX0_isName_3 20 rfl rfl)
theorem dX0_isName_141 : decode cX0_isName 141 = .ok (.ireturn, 1) := dk_172 (dk_at dksX0_isName_3 21 rfl rfl)
abbrev cX0_textTold : ByteArray := prog_1_method_31_code
def yX0_textTold : MethodName := ⟨RX0, "textTold", "(II)I"⟩
def dkwX0_textTold_2 : List UInt8 := [167, 0, 15, 42, 180, 0, 46, 180, 1, 18, 27, 50, 180, 1, 24, 172]
abbrev dktX0_textTold_2 : List UInt8 := dkwX0_textTold_2 ++ []
def dkwX0_textTold_1 : List UInt8 := [154, 0, 6, 18, 164, 172, 28, 154, 0, 18, 42, 180, 0, 46, 180, 1, 18, 27, 50, 180, 1, 22]
abbrev dktX0_textTold_1 : List UInt8 := dkwX0_textTold_1 ++ dktX0_textTold_2
def dkwX0_textTold_0 : List UInt8 := [27, 3, 42, 180, 0, 46, 180, 1, 15, 4, 100, 184, 0, 137, 153, 0, 12, 28, 3, 4, 184, 0, 137]
abbrev dktX0_textTold_0 : List UInt8 := dkwX0_textTold_0 ++ dktX0_textTold_1
theorem dksX0_textTold_0 : cX0_textTold.data.toList.drop 0 = dktX0_textTold_0 := by decide +kernel
theorem dksX0_textTold_1 : cX0_textTold.data.toList.drop 23 = dktX0_textTold_1 := dk_seg dksX0_textTold_0 23 rfl rfl
theorem dksX0_textTold_2 : cX0_textTold.data.toList.drop 45 = dktX0_textTold_2 := dk_seg dksX0_textTold_1 22 rfl rfl
theorem dX0_textTold_0 : decode cX0_textTold 0 = .ok (.iload_n 1, 1) := dk_27 (dk_at dksX0_textTold_0 0 rfl rfl)
theorem dX0_textTold_1 : decode cX0_textTold 1 = .ok (.iconst 0, 1) := dk_3 (dk_at dksX0_textTold_0 1 rfl rfl)
theorem dX0_textTold_2 : decode cX0_textTold 2 = .ok (.aload_n 0, 1) := dk_42 (dk_at dksX0_textTold_0 2 rfl rfl)
theorem dX0_textTold_3 : decode cX0_textTold 3 = .ok (.getfield 46, 3) := dk_180 0 46 (dk_at dksX0_textTold_0 3 rfl rfl)
theorem dX0_textTold_6 : decode cX0_textTold 6 = .ok (.getfield 271, 3) := dk_180 1 15 (dk_at dksX0_textTold_0 6 rfl rfl)
theorem dX0_textTold_9 : decode cX0_textTold 9 = .ok (.iconst 1, 1) := dk_4 (dk_at dksX0_textTold_0 9 rfl rfl)
theorem dX0_textTold_10 : decode cX0_textTold 10 = .ok (.isub, 1) := dk_100 (dk_at dksX0_textTold_0 10 rfl rfl)
theorem dX0_textTold_11 : decode cX0_textTold 11 = .ok (.invokestatic 137, 3) := dk_184 0 137 (dk_at dksX0_textTold_0 11 rfl rfl)
theorem dX0_textTold_14 : decode cX0_textTold 14 = .ok (.ifCond .eq 12, 3) := dk_153 0 12 (dk_at dksX0_textTold_0 14 rfl rfl)
theorem dX0_textTold_17 : decode cX0_textTold 17 = .ok (.iload_n 2, 1) := dk_28 (dk_at dksX0_textTold_0 17 rfl rfl)
theorem dX0_textTold_18 : decode cX0_textTold 18 = .ok (.iconst 0, 1) := dk_3 (dk_at dksX0_textTold_0 18 rfl rfl)
theorem dX0_textTold_19 : decode cX0_textTold 19 = .ok (.iconst 1, 1) := dk_4 (dk_at dksX0_textTold_0 19 rfl rfl)
theorem dX0_textTold_20 : decode cX0_textTold 20 = .ok (.invokestatic 137, 3) := dk_184 0 137 (dk_at dksX0_textTold_0 20 rfl rfl)
theorem dX0_textTold_23 : decode cX0_textTold 23 = .ok (.ifCond .ne 6, 3) := dk_154 0 6 (dk_at dksX0_textTold_1 0 rfl rfl)
theorem dX0_textTold_26 : decode cX0_textTold 26 = .ok (.ldc 164, 2) := dk_18 164 (dk_at dksX0_textTold_1 3 rfl rfl)
theorem dX0_textTold_28 : decode cX0_textTold 28 = .ok (.ireturn, 1) := dk_172 (dk_at dksX0_textTold_1 5 rfl rfl)
theorem dX0_textTold_29 : decode cX0_textTold 29 = .ok (.iload_n 2, 1) := dk_28 (dk_at dksX0_textTold_1 6 rfl rfl)
theorem dX0_textTold_30 : decode cX0_textTold 30 = .ok (.ifCond .ne 18, 3) := dk_154 0 18 (dk_at dksX0_textTold_1 7 rfl rfl)
theorem dX0_textTold_33 : decode cX0_textTold 33 = .ok (.aload_n 0, 1) := dk_42 (dk_at dksX0_textTold_1 10 rfl rfl)
theorem dX0_textTold_34 : decode cX0_textTold 34 = .ok (.getfield 46, 3) := dk_180 0 46 (dk_at dksX0_textTold_1 11 rfl rfl)
theorem dX0_textTold_37 : decode cX0_textTold 37 = .ok (.getfield 274, 3) := dk_180 1 18 (dk_at dksX0_textTold_1 14 rfl rfl)
theorem dX0_textTold_40 : decode cX0_textTold 40 = .ok (.iload_n 1, 1) := dk_27 (dk_at dksX0_textTold_1 17 rfl rfl)
theorem dX0_textTold_41 : decode cX0_textTold 41 = .ok (.aaload, 1) := dk_50 (dk_at dksX0_textTold_1 18 rfl rfl)
theorem dX0_textTold_42 : decode cX0_textTold 42 = .ok (.getfield 278, 3) := dk_180 1 22 (dk_at dksX0_textTold_1 19 rfl rfl)
theorem dX0_textTold_45 : decode cX0_textTold 45 = .ok (.goto 15, 3) := dk_167 0 15 (dk_at dksX0_textTold_2 0 rfl rfl)
theorem dX0_textTold_48 : decode cX0_textTold 48 = .ok (.aload_n 0, 1) := dk_42 (dk_at dksX0_textTold_2 3 rfl rfl)
theorem dX0_textTold_49 : decode cX0_textTold 49 = .ok (.getfield 46, 3) := dk_180 0 46 (dk_at dksX0_textTold_2 4 rfl rfl)
theorem dX0_textTold_52 : decode cX0_textTold 52 = .ok (.getfield 274, 3) := dk_180 1 18 (dk_at dksX0_textTold_2 7 rfl rfl)
theorem dX0_textTold_55 : decode cX0_textTold 55 = .ok (.iload_n 1, 1) := dk_27 (dk_at dksX0_textTold_2 10 rfl rfl)
theorem dX0_textTold_56 : decode cX0_textTold 56 = .ok (.aaload, 1) := dk_50 (dk_at dksX0_textTold_2 11 rfl rfl)
theorem dX0_textTold_57 : decode cX0_textTold 57 = .ok (.getfield 280, 3) := dk_180 1 24 (dk_at dksX0_textTold_2 12 rfl rfl)
theorem dX0_textTold_60 : decode cX0_textTold 60 = .ok (.ireturn, 1) := dk_172 (dk_at dksX0_textTold_2 15 rfl rfl)
abbrev cX0_why : ByteArray := prog_1_method_33_code
def yX0_why : MethodName := ⟨RX0, "why", "(I)I"⟩
def dkwX0_why_0 : List UInt8 := [27, 3, 5, 184, 0, 137, 153, 0, 14, 42, 27, 182, 1, 25, 184, 1, 29, 167, 0, 5, 18, 164, 172]
abbrev dktX0_why_0 : List UInt8 := dkwX0_why_0 ++ []
theorem dksX0_why_0 : cX0_why.data.toList.drop 0 = dktX0_why_0 := by decide +kernel
theorem dX0_why_0 : decode cX0_why 0 = .ok (.iload_n 1, 1) := dk_27 (dk_at dksX0_why_0 0 rfl rfl)
theorem dX0_why_1 : decode cX0_why 1 = .ok (.iconst 0, 1) := dk_3 (dk_at dksX0_why_0 1 rfl rfl)
theorem dX0_why_2 : decode cX0_why 2 = .ok (.iconst 2, 1) := dk_5 (dk_at dksX0_why_0 2 rfl rfl)
theorem dX0_why_3 : decode cX0_why 3 = .ok (.invokestatic 137, 3) := dk_184 0 137 (dk_at dksX0_why_0 3 rfl rfl)
theorem dX0_why_6 : decode cX0_why 6 = .ok (.ifCond .eq 14, 3) := dk_153 0 14 (dk_at dksX0_why_0 6 rfl rfl)
theorem dX0_why_9 : decode cX0_why 9 = .ok (.aload_n 0, 1) := dk_42 (dk_at dksX0_why_0 9 rfl rfl)
theorem dX0_why_10 : decode cX0_why 10 = .ok (.iload_n 1, 1) := dk_27 (dk_at dksX0_why_0 10 rfl rfl)
theorem dX0_why_11 : decode cX0_why 11 = .ok (.invokevirtual 281, 3) := dk_182 1 25 (dk_at dksX0_why_0 11 rfl rfl)
theorem dX0_why_14 : decode cX0_why 14 = .ok (.invokestatic 285, 3) := dk_184 1 29 (dk_at dksX0_why_0 14 rfl rfl)
theorem dX0_why_17 : decode cX0_why 17 = .ok (.goto 5, 3) := dk_167 0 5 (dk_at dksX0_why_0 17 rfl rfl)
theorem dX0_why_20 : decode cX0_why 20 = .ok (.ldc 164, 2) := dk_18 164 (dk_at dksX0_why_0 20 rfl rfl)
theorem dX0_why_22 : decode cX0_why 22 = .ok (.ireturn, 1) := dk_172 (dk_at dksX0_why_0 22 rfl rfl)
abbrev cX0_counts : ByteArray := prog_1_method_32_code
def yX0_counts : MethodName := ⟨RX0, "counts", "(I)I"⟩
def dkwX0_counts_1 : List UInt8 := [180, 1, 22, 27, 160, 0, 7, 29, 167, 0, 4, 28, 61, 132, 3, 1, 167, 255, 220, 28, 172]
abbrev dktX0_counts_1 : List UInt8 := dkwX0_counts_1 ++ []
def dkwX0_counts_0 : List UInt8 := [2, 61, 3, 62, 29, 42, 180, 0, 46, 180, 1, 15, 162, 0, 31, 42, 180, 0, 46, 180, 1, 18, 29, 50]
abbrev dktX0_counts_0 : List UInt8 := dkwX0_counts_0 ++ dktX0_counts_1
theorem dksX0_counts_0 : cX0_counts.data.toList.drop 0 = dktX0_counts_0 := by decide +kernel
theorem dksX0_counts_1 : cX0_counts.data.toList.drop 24 = dktX0_counts_1 := dk_seg dksX0_counts_0 24 rfl rfl
theorem dX0_counts_0 : decode cX0_counts 0 = .ok (.iconst (-1), 1) := dk_2 (dk_at dksX0_counts_0 0 rfl rfl)
theorem dX0_counts_1 : decode cX0_counts 1 = .ok (.istore_n 2, 1) := dk_61 (dk_at dksX0_counts_0 1 rfl rfl)
theorem dX0_counts_2 : decode cX0_counts 2 = .ok (.iconst 0, 1) := dk_3 (dk_at dksX0_counts_0 2 rfl rfl)
theorem dX0_counts_3 : decode cX0_counts 3 = .ok (.istore_n 3, 1) := dk_62 (dk_at dksX0_counts_0 3 rfl rfl)
theorem dX0_counts_4 : decode cX0_counts 4 = .ok (.iload_n 3, 1) := dk_29 (dk_at dksX0_counts_0 4 rfl rfl)
theorem dX0_counts_5 : decode cX0_counts 5 = .ok (.aload_n 0, 1) := dk_42 (dk_at dksX0_counts_0 5 rfl rfl)
theorem dX0_counts_6 : decode cX0_counts 6 = .ok (.getfield 46, 3) := dk_180 0 46 (dk_at dksX0_counts_0 6 rfl rfl)
theorem dX0_counts_9 : decode cX0_counts 9 = .ok (.getfield 271, 3) := dk_180 1 15 (dk_at dksX0_counts_0 9 rfl rfl)
theorem dX0_counts_12 : decode cX0_counts 12 = .ok (.if_icmp .ge 31, 3) := dk_162 0 31 (dk_at dksX0_counts_0 12 rfl rfl)
theorem dX0_counts_15 : decode cX0_counts 15 = .ok (.aload_n 0, 1) := dk_42 (dk_at dksX0_counts_0 15 rfl rfl)
theorem dX0_counts_16 : decode cX0_counts 16 = .ok (.getfield 46, 3) := dk_180 0 46 (dk_at dksX0_counts_0 16 rfl rfl)
theorem dX0_counts_19 : decode cX0_counts 19 = .ok (.getfield 274, 3) := dk_180 1 18 (dk_at dksX0_counts_0 19 rfl rfl)
theorem dX0_counts_22 : decode cX0_counts 22 = .ok (.iload_n 3, 1) := dk_29 (dk_at dksX0_counts_0 22 rfl rfl)
theorem dX0_counts_23 : decode cX0_counts 23 = .ok (.aaload, 1) := dk_50 (dk_at dksX0_counts_0 23 rfl rfl)
theorem dX0_counts_24 : decode cX0_counts 24 = .ok (.getfield 278, 3) := dk_180 1 22 (dk_at dksX0_counts_1 0 rfl rfl)
theorem dX0_counts_27 : decode cX0_counts 27 = .ok (.iload_n 1, 1) := dk_27 (dk_at dksX0_counts_1 3 rfl rfl)
theorem dX0_counts_28 : decode cX0_counts 28 = .ok (.if_icmp .ne 7, 3) := dk_160 0 7 (dk_at dksX0_counts_1 4 rfl rfl)
theorem dX0_counts_31 : decode cX0_counts 31 = .ok (.iload_n 3, 1) := dk_29 (dk_at dksX0_counts_1 7 rfl rfl)
theorem dX0_counts_32 : decode cX0_counts 32 = .ok (.goto 4, 3) := dk_167 0 4 (dk_at dksX0_counts_1 8 rfl rfl)
theorem dX0_counts_35 : decode cX0_counts 35 = .ok (.iload_n 2, 1) := dk_28 (dk_at dksX0_counts_1 11 rfl rfl)
theorem dX0_counts_36 : decode cX0_counts 36 = .ok (.istore_n 2, 1) := dk_61 (dk_at dksX0_counts_1 12 rfl rfl)
theorem dX0_counts_37 : decode cX0_counts 37 = .ok (.iinc 3 1, 3) := dk_132 3 1 (dk_at dksX0_counts_1 13 rfl rfl)
theorem dX0_counts_40 : decode cX0_counts 40 = .ok (.goto (-36), 3) := dk_167 255 220 (dk_at dksX0_counts_1 16 rfl rfl)
theorem dX0_counts_43 : decode cX0_counts 43 = .ok (.iload_n 2, 1) := dk_28 (dk_at dksX0_counts_1 19 rfl rfl)
theorem dX0_counts_44 : decode cX0_counts 44 = .ok (.ireturn, 1) := dk_172 (dk_at dksX0_counts_1 20 rfl rfl)
abbrev cX0_orNone : ByteArray := prog_1_method_2_code
def yX0_orNone : MethodName := ⟨RX0, "orNone", "(I)I"⟩
def dkwX0_orNone_0 : List UInt8 := [26, 2, 160, 0, 8, 18, 3, 167, 0, 4, 26, 172]
abbrev dktX0_orNone_0 : List UInt8 := dkwX0_orNone_0 ++ []
theorem dksX0_orNone_0 : cX0_orNone.data.toList.drop 0 = dktX0_orNone_0 := by decide +kernel
theorem dX0_orNone_0 : decode cX0_orNone 0 = .ok (.iload_n 0, 1) := dk_26 (dk_at dksX0_orNone_0 0 rfl rfl)
theorem dX0_orNone_1 : decode cX0_orNone 1 = .ok (.iconst (-1), 1) := dk_2 (dk_at dksX0_orNone_0 1 rfl rfl)
theorem dX0_orNone_2 : decode cX0_orNone 2 = .ok (.if_icmp .ne 8, 3) := dk_160 0 8 (dk_at dksX0_orNone_0 2 rfl rfl)
theorem dX0_orNone_5 : decode cX0_orNone 5 = .ok (.ldc 3, 2) := dk_18 3 (dk_at dksX0_orNone_0 5 rfl rfl)
theorem dX0_orNone_7 : decode cX0_orNone 7 = .ok (.goto 4, 3) := dk_167 0 4 (dk_at dksX0_orNone_0 7 rfl rfl)
theorem dX0_orNone_10 : decode cX0_orNone 10 = .ok (.iload_n 0, 1) := dk_26 (dk_at dksX0_orNone_0 10 rfl rfl)
theorem dX0_orNone_11 : decode cX0_orNone 11 = .ok (.ireturn, 1) := dk_172 (dk_at dksX0_orNone_0 11 rfl rfl)
abbrev cX0_leaf : ByteArray := prog_1_method_36_code
def yX0_leaf : MethodName := ⟨RX0, "leaf", "(IIII)I"⟩
def dkwX0_leaf_3 : List UInt8 := [160, 0, 7, 2, 167, 0, 5, 21, 4, 182, 1, 61, 172]
abbrev dktX0_leaf_3 : List UInt8 := dkwX0_leaf_3 ++ []
def dkwX0_leaf_2 : List UInt8 := [180, 0, 46, 180, 0, 133, 16, 8, 160, 0, 8, 18, 159, 167, 0, 23, 42, 27, 28, 29, 21, 4, 18, 3]
abbrev dktX0_leaf_2 : List UInt8 := dkwX0_leaf_2 ++ dktX0_leaf_3
def dkwX0_leaf_1 : List UInt8 := [153, 0, 19, 21, 4, 18, 3, 159, 0, 15, 42, 21, 4, 182, 1, 58, 154, 0, 6, 18, 164, 172, 42]
abbrev dktX0_leaf_1 : List UInt8 := dkwX0_leaf_1 ++ dktX0_leaf_2
def dkwX0_leaf_0 : List UInt8 := [27, 3, 8, 184, 0, 137, 153, 0, 36, 28, 184, 1, 55, 153, 0, 29, 29, 3, 16, 99, 184, 0, 137]
abbrev dktX0_leaf_0 : List UInt8 := dkwX0_leaf_0 ++ dktX0_leaf_1
theorem dksX0_leaf_0 : cX0_leaf.data.toList.drop 0 = dktX0_leaf_0 := by decide +kernel
theorem dksX0_leaf_1 : cX0_leaf.data.toList.drop 23 = dktX0_leaf_1 := dk_seg dksX0_leaf_0 23 rfl rfl
theorem dksX0_leaf_2 : cX0_leaf.data.toList.drop 46 = dktX0_leaf_2 := dk_seg dksX0_leaf_1 23 rfl rfl
theorem dksX0_leaf_3 : cX0_leaf.data.toList.drop 70 = dktX0_leaf_3 := dk_seg dksX0_leaf_2 24 rfl rfl
theorem dX0_leaf_0 : decode cX0_leaf 0 = .ok (.iload_n 1, 1) := dk_27 (dk_at dksX0_leaf_0 0 rfl rfl)
theorem dX0_leaf_1 : decode cX0_leaf 1 = .ok (.iconst 0, 1) := dk_3 (dk_at dksX0_leaf_0 1 rfl rfl)
theorem dX0_leaf_2 : decode cX0_leaf 2 = .ok (.iconst 5, 1) := dk_8 (dk_at dksX0_leaf_0 2 rfl rfl)
theorem dX0_leaf_3 : decode cX0_leaf 3 = .ok (.invokestatic 137, 3) := dk_184 0 137 (dk_at dksX0_leaf_0 3 rfl rfl)
theorem dX0_leaf_6 : decode cX0_leaf 6 = .ok (.ifCond .eq 36, 3) := dk_153 0 36 (dk_at dksX0_leaf_0 6 rfl rfl)
theorem dX0_leaf_9 : decode cX0_leaf 9 = .ok (.iload_n 2, 1) := dk_28 (dk_at dksX0_leaf_0 9 rfl rfl)
theorem dX0_leaf_10 : decode cX0_leaf 10 = .ok (.invokestatic 311, 3) := dk_184 1 55 (dk_at dksX0_leaf_0 10 rfl rfl)
theorem dX0_leaf_13 : decode cX0_leaf 13 = .ok (.ifCond .eq 29, 3) := dk_153 0 29 (dk_at dksX0_leaf_0 13 rfl rfl)
theorem dX0_leaf_16 : decode cX0_leaf 16 = .ok (.iload_n 3, 1) := dk_29 (dk_at dksX0_leaf_0 16 rfl rfl)
theorem dX0_leaf_17 : decode cX0_leaf 17 = .ok (.iconst 0, 1) := dk_3 (dk_at dksX0_leaf_0 17 rfl rfl)
theorem dX0_leaf_18 : decode cX0_leaf 18 = .ok (.bipush 99, 2) := dk_16 99 (dk_at dksX0_leaf_0 18 rfl rfl)
theorem dX0_leaf_20 : decode cX0_leaf 20 = .ok (.invokestatic 137, 3) := dk_184 0 137 (dk_at dksX0_leaf_0 20 rfl rfl)
theorem dX0_leaf_23 : decode cX0_leaf 23 = .ok (.ifCond .eq 19, 3) := dk_153 0 19 (dk_at dksX0_leaf_1 0 rfl rfl)
theorem dX0_leaf_26 : decode cX0_leaf 26 = .ok (.iload 4, 2) := dk_21 4 (dk_at dksX0_leaf_1 3 rfl rfl)
theorem dX0_leaf_28 : decode cX0_leaf 28 = .ok (.ldc 3, 2) := dk_18 3 (dk_at dksX0_leaf_1 5 rfl rfl)
theorem dX0_leaf_30 : decode cX0_leaf 30 = .ok (.if_icmp .eq 15, 3) := dk_159 0 15 (dk_at dksX0_leaf_1 7 rfl rfl)
theorem dX0_leaf_33 : decode cX0_leaf 33 = .ok (.aload_n 0, 1) := dk_42 (dk_at dksX0_leaf_1 10 rfl rfl)
theorem dX0_leaf_34 : decode cX0_leaf 34 = .ok (.iload 4, 2) := dk_21 4 (dk_at dksX0_leaf_1 11 rfl rfl)
theorem dX0_leaf_36 : decode cX0_leaf 36 = .ok (.invokevirtual 314, 3) := dk_182 1 58 (dk_at dksX0_leaf_1 13 rfl rfl)
theorem dX0_leaf_39 : decode cX0_leaf 39 = .ok (.ifCond .ne 6, 3) := dk_154 0 6 (dk_at dksX0_leaf_1 16 rfl rfl)
theorem dX0_leaf_42 : decode cX0_leaf 42 = .ok (.ldc 164, 2) := dk_18 164 (dk_at dksX0_leaf_1 19 rfl rfl)
theorem dX0_leaf_44 : decode cX0_leaf 44 = .ok (.ireturn, 1) := dk_172 (dk_at dksX0_leaf_1 21 rfl rfl)
theorem dX0_leaf_45 : decode cX0_leaf 45 = .ok (.aload_n 0, 1) := dk_42 (dk_at dksX0_leaf_1 22 rfl rfl)
theorem dX0_leaf_46 : decode cX0_leaf 46 = .ok (.getfield 46, 3) := dk_180 0 46 (dk_at dksX0_leaf_2 0 rfl rfl)
theorem dX0_leaf_49 : decode cX0_leaf 49 = .ok (.getfield 133, 3) := dk_180 0 133 (dk_at dksX0_leaf_2 3 rfl rfl)
theorem dX0_leaf_52 : decode cX0_leaf 52 = .ok (.bipush 8, 2) := dk_16 8 (dk_at dksX0_leaf_2 6 rfl rfl)
theorem dX0_leaf_54 : decode cX0_leaf 54 = .ok (.if_icmp .ne 8, 3) := dk_160 0 8 (dk_at dksX0_leaf_2 8 rfl rfl)
theorem dX0_leaf_57 : decode cX0_leaf 57 = .ok (.ldc 159, 2) := dk_18 159 (dk_at dksX0_leaf_2 11 rfl rfl)
theorem dX0_leaf_59 : decode cX0_leaf 59 = .ok (.goto 23, 3) := dk_167 0 23 (dk_at dksX0_leaf_2 13 rfl rfl)
theorem dX0_leaf_62 : decode cX0_leaf 62 = .ok (.aload_n 0, 1) := dk_42 (dk_at dksX0_leaf_2 16 rfl rfl)
theorem dX0_leaf_63 : decode cX0_leaf 63 = .ok (.iload_n 1, 1) := dk_27 (dk_at dksX0_leaf_2 17 rfl rfl)
theorem dX0_leaf_64 : decode cX0_leaf 64 = .ok (.iload_n 2, 1) := dk_28 (dk_at dksX0_leaf_2 18 rfl rfl)
theorem dX0_leaf_65 : decode cX0_leaf 65 = .ok (.iload_n 3, 1) := dk_29 (dk_at dksX0_leaf_2 19 rfl rfl)
theorem dX0_leaf_66 : decode cX0_leaf 66 = .ok (.iload 4, 2) := dk_21 4 (dk_at dksX0_leaf_2 20 rfl rfl)
theorem dX0_leaf_68 : decode cX0_leaf 68 = .ok (.ldc 3, 2) := dk_18 3 (dk_at dksX0_leaf_2 22 rfl rfl)
theorem dX0_leaf_70 : decode cX0_leaf 70 = .ok (.if_icmp .ne 7, 3) := dk_160 0 7 (dk_at dksX0_leaf_3 0 rfl rfl)
theorem dX0_leaf_73 : decode cX0_leaf 73 = .ok (.iconst (-1), 1) := dk_2 (dk_at dksX0_leaf_3 3 rfl rfl)
theorem dX0_leaf_74 : decode cX0_leaf 74 = .ok (.goto 5, 3) := dk_167 0 5 (dk_at dksX0_leaf_3 4 rfl rfl)
theorem dX0_leaf_77 : decode cX0_leaf 77 = .ok (.iload 4, 2) := dk_21 4 (dk_at dksX0_leaf_3 7 rfl rfl)
theorem dX0_leaf_79 : decode cX0_leaf 79 = .ok (.invokevirtual 317, 3) := dk_182 1 61 (dk_at dksX0_leaf_3 9 rfl rfl)
theorem dX0_leaf_82 : decode cX0_leaf 82 = .ok (.ireturn, 1) := dk_172 (dk_at dksX0_leaf_3 12 rfl rfl)
abbrev cX0_isSize : ByteArray := prog_1_method_34_code
def yX0_isSize : MethodName := ⟨RX0, "isSize", "(I)Z"⟩
def dkwX0_isSize_0 : List UInt8 := [26, 4, 16, 9, 184, 0, 137, 172]
abbrev dktX0_isSize_0 : List UInt8 := dkwX0_isSize_0 ++ []
theorem dksX0_isSize_0 : cX0_isSize.data.toList.drop 0 = dktX0_isSize_0 := by decide +kernel
theorem dX0_isSize_0 : decode cX0_isSize 0 = .ok (.iload_n 0, 1) := dk_26 (dk_at dksX0_isSize_0 0 rfl rfl)
theorem dX0_isSize_1 : decode cX0_isSize 1 = .ok (.iconst 1, 1) := dk_4 (dk_at dksX0_isSize_0 1 rfl rfl)
theorem dX0_isSize_2 : decode cX0_isSize 2 = .ok (.bipush 9, 2) := dk_16 9 (dk_at dksX0_isSize_0 2 rfl rfl)
theorem dX0_isSize_4 : decode cX0_isSize 4 = .ok (.invokestatic 137, 3) := dk_184 0 137 (dk_at dksX0_isSize_0 4 rfl rfl)
theorem dX0_isSize_7 : decode cX0_isSize 7 = .ok (.ireturn, 1) := dk_172 (dk_at dksX0_isSize_0 7 rfl rfl)
abbrev cX0_isLeaf : ByteArray := prog_1_method_7_code
def yX0_isLeaf : MethodName := ⟨RX0, "isLeaf", "(I)Z"⟩
def dkwX0_isLeaf_0 : List UInt8 := [27, 3, 42, 180, 0, 46, 180, 0, 133, 4, 100, 184, 0, 137, 172]
abbrev dktX0_isLeaf_0 : List UInt8 := dkwX0_isLeaf_0 ++ []
theorem dksX0_isLeaf_0 : cX0_isLeaf.data.toList.drop 0 = dktX0_isLeaf_0 := by decide +kernel
theorem dX0_isLeaf_0 : decode cX0_isLeaf 0 = .ok (.iload_n 1, 1) := dk_27 (dk_at dksX0_isLeaf_0 0 rfl rfl)
theorem dX0_isLeaf_1 : decode cX0_isLeaf 1 = .ok (.iconst 0, 1) := dk_3 (dk_at dksX0_isLeaf_0 1 rfl rfl)
theorem dX0_isLeaf_2 : decode cX0_isLeaf 2 = .ok (.aload_n 0, 1) := dk_42 (dk_at dksX0_isLeaf_0 2 rfl rfl)
theorem dX0_isLeaf_3 : decode cX0_isLeaf 3 = .ok (.getfield 46, 3) := dk_180 0 46 (dk_at dksX0_isLeaf_0 3 rfl rfl)
theorem dX0_isLeaf_6 : decode cX0_isLeaf 6 = .ok (.getfield 133, 3) := dk_180 0 133 (dk_at dksX0_isLeaf_0 6 rfl rfl)
theorem dX0_isLeaf_9 : decode cX0_isLeaf 9 = .ok (.iconst 1, 1) := dk_4 (dk_at dksX0_isLeaf_0 9 rfl rfl)
theorem dX0_isLeaf_10 : decode cX0_isLeaf 10 = .ok (.isub, 1) := dk_100 (dk_at dksX0_isLeaf_0 10 rfl rfl)
theorem dX0_isLeaf_11 : decode cX0_isLeaf 11 = .ok (.invokestatic 137, 3) := dk_184 0 137 (dk_at dksX0_isLeaf_0 11 rfl rfl)
theorem dX0_isLeaf_14 : decode cX0_isLeaf 14 = .ok (.ireturn, 1) := dk_172 (dk_at dksX0_isLeaf_0 14 rfl rfl)
abbrev cX0_comes : ByteArray := prog_1_method_35_code
def yX0_comes : MethodName := ⟨RX0, "comes", "(IIII)I"⟩
def dkwX0_comes_4 : List UInt8 := [42, 180, 0, 46, 89, 180, 0, 133, 4, 96, 181, 0, 133, 21, 5, 172]
abbrev dktX0_comes_4 : List UInt8 := dkwX0_comes_4 ++ []
def dkwX0_comes_3 : List UInt8 := [180, 0, 63, 180, 1, 49, 21, 5, 3, 79, 42, 180, 0, 46, 180, 0, 63, 180, 1, 52, 21, 5, 3, 79]
abbrev dktX0_comes_3 : List UInt8 := dkwX0_comes_3 ++ dktX0_comes_4
def dkwX0_comes_2 : List UInt8 := [181, 1, 43, 42, 180, 0, 46, 180, 1, 32, 21, 5, 50, 21, 4, 181, 1, 46, 42, 180, 0, 46]
abbrev dktX0_comes_2 : List UInt8 := dkwX0_comes_2 ++ dktX0_comes_3
def dkwX0_comes_1 : List UInt8 := [180, 0, 46, 180, 1, 32, 21, 5, 50, 28, 181, 1, 40, 42, 180, 0, 46, 180, 1, 32, 21, 5, 50, 29]
abbrev dktX0_comes_1 : List UInt8 := dkwX0_comes_1 ++ dktX0_comes_2
def dkwX0_comes_0 : List UInt8 := [42, 180, 0, 46, 180, 0, 133, 54, 5, 42, 180, 0, 46, 180, 1, 32, 21, 5, 27, 184, 1, 36, 83, 42]
abbrev dktX0_comes_0 : List UInt8 := dkwX0_comes_0 ++ dktX0_comes_1
theorem dksX0_comes_0 : cX0_comes.data.toList.drop 0 = dktX0_comes_0 := by decide +kernel
theorem dksX0_comes_1 : cX0_comes.data.toList.drop 24 = dktX0_comes_1 := dk_seg dksX0_comes_0 24 rfl rfl
theorem dksX0_comes_2 : cX0_comes.data.toList.drop 48 = dktX0_comes_2 := dk_seg dksX0_comes_1 24 rfl rfl
theorem dksX0_comes_3 : cX0_comes.data.toList.drop 70 = dktX0_comes_3 := dk_seg dksX0_comes_2 22 rfl rfl
theorem dksX0_comes_4 : cX0_comes.data.toList.drop 94 = dktX0_comes_4 := dk_seg dksX0_comes_3 24 rfl rfl
theorem dX0_comes_0 : decode cX0_comes 0 = .ok (.aload_n 0, 1) := dk_42 (dk_at dksX0_comes_0 0 rfl rfl)
theorem dX0_comes_1 : decode cX0_comes 1 = .ok (.getfield 46, 3) := dk_180 0 46 (dk_at dksX0_comes_0 1 rfl rfl)
theorem dX0_comes_4 : decode cX0_comes 4 = .ok (.getfield 133, 3) := dk_180 0 133 (dk_at dksX0_comes_0 4 rfl rfl)
theorem dX0_comes_7 : decode cX0_comes 7 = .ok (.istore 5, 2) := dk_54 5 (dk_at dksX0_comes_0 7 rfl rfl)
theorem dX0_comes_9 : decode cX0_comes 9 = .ok (.aload_n 0, 1) := dk_42 (dk_at dksX0_comes_0 9 rfl rfl)
theorem dX0_comes_10 : decode cX0_comes 10 = .ok (.getfield 46, 3) := dk_180 0 46 (dk_at dksX0_comes_0 10 rfl rfl)
theorem dX0_comes_13 : decode cX0_comes 13 = .ok (.getfield 288, 3) := dk_180 1 32 (dk_at dksX0_comes_0 13 rfl rfl)
theorem dX0_comes_16 : decode cX0_comes 16 = .ok (.iload 5, 2) := dk_21 5 (dk_at dksX0_comes_0 16 rfl rfl)
theorem dX0_comes_18 : decode cX0_comes 18 = .ok (.iload_n 1, 1) := dk_27 (dk_at dksX0_comes_0 18 rfl rfl)
theorem dX0_comes_19 : decode cX0_comes 19 = .ok (.invokestatic 292, 3) := dk_184 1 36 (dk_at dksX0_comes_0 19 rfl rfl)
theorem dX0_comes_22 : decode cX0_comes 22 = .ok (.aastore, 1) := dk_83 (dk_at dksX0_comes_0 22 rfl rfl)
theorem dX0_comes_23 : decode cX0_comes 23 = .ok (.aload_n 0, 1) := dk_42 (dk_at dksX0_comes_0 23 rfl rfl)
theorem dX0_comes_24 : decode cX0_comes 24 = .ok (.getfield 46, 3) := dk_180 0 46 (dk_at dksX0_comes_1 0 rfl rfl)
theorem dX0_comes_27 : decode cX0_comes 27 = .ok (.getfield 288, 3) := dk_180 1 32 (dk_at dksX0_comes_1 3 rfl rfl)
theorem dX0_comes_30 : decode cX0_comes 30 = .ok (.iload 5, 2) := dk_21 5 (dk_at dksX0_comes_1 6 rfl rfl)
theorem dX0_comes_32 : decode cX0_comes 32 = .ok (.aaload, 1) := dk_50 (dk_at dksX0_comes_1 8 rfl rfl)
theorem dX0_comes_33 : decode cX0_comes 33 = .ok (.iload_n 2, 1) := dk_28 (dk_at dksX0_comes_1 9 rfl rfl)
theorem dX0_comes_34 : decode cX0_comes 34 = .ok (.putfield 296, 3) := dk_181 1 40 (dk_at dksX0_comes_1 10 rfl rfl)
theorem dX0_comes_37 : decode cX0_comes 37 = .ok (.aload_n 0, 1) := dk_42 (dk_at dksX0_comes_1 13 rfl rfl)
theorem dX0_comes_38 : decode cX0_comes 38 = .ok (.getfield 46, 3) := dk_180 0 46 (dk_at dksX0_comes_1 14 rfl rfl)
theorem dX0_comes_41 : decode cX0_comes 41 = .ok (.getfield 288, 3) := dk_180 1 32 (dk_at dksX0_comes_1 17 rfl rfl)
theorem dX0_comes_44 : decode cX0_comes 44 = .ok (.iload 5, 2) := dk_21 5 (dk_at dksX0_comes_1 20 rfl rfl)
theorem dX0_comes_46 : decode cX0_comes 46 = .ok (.aaload, 1) := dk_50 (dk_at dksX0_comes_1 22 rfl rfl)
theorem dX0_comes_47 : decode cX0_comes 47 = .ok (.iload_n 3, 1) := dk_29 (dk_at dksX0_comes_1 23 rfl rfl)
theorem dX0_comes_48 : decode cX0_comes 48 = .ok (.putfield 299, 3) := dk_181 1 43 (dk_at dksX0_comes_2 0 rfl rfl)
theorem dX0_comes_51 : decode cX0_comes 51 = .ok (.aload_n 0, 1) := dk_42 (dk_at dksX0_comes_2 3 rfl rfl)
theorem dX0_comes_52 : decode cX0_comes 52 = .ok (.getfield 46, 3) := dk_180 0 46 (dk_at dksX0_comes_2 4 rfl rfl)
theorem dX0_comes_55 : decode cX0_comes 55 = .ok (.getfield 288, 3) := dk_180 1 32 (dk_at dksX0_comes_2 7 rfl rfl)
theorem dX0_comes_58 : decode cX0_comes 58 = .ok (.iload 5, 2) := dk_21 5 (dk_at dksX0_comes_2 10 rfl rfl)
theorem dX0_comes_60 : decode cX0_comes 60 = .ok (.aaload, 1) := dk_50 (dk_at dksX0_comes_2 12 rfl rfl)
theorem dX0_comes_61 : decode cX0_comes 61 = .ok (.iload 4, 2) := dk_21 4 (dk_at dksX0_comes_2 13 rfl rfl)
theorem dX0_comes_63 : decode cX0_comes 63 = .ok (.putfield 302, 3) := dk_181 1 46 (dk_at dksX0_comes_2 15 rfl rfl)
theorem dX0_comes_66 : decode cX0_comes 66 = .ok (.aload_n 0, 1) := dk_42 (dk_at dksX0_comes_2 18 rfl rfl)
theorem dX0_comes_67 : decode cX0_comes 67 = .ok (.getfield 46, 3) := dk_180 0 46 (dk_at dksX0_comes_2 19 rfl rfl)
theorem dX0_comes_70 : decode cX0_comes 70 = .ok (.getfield 63, 3) := dk_180 0 63 (dk_at dksX0_comes_3 0 rfl rfl)
theorem dX0_comes_73 : decode cX0_comes 73 = .ok (.getfield 305, 3) := dk_180 1 49 (dk_at dksX0_comes_3 3 rfl rfl)
theorem dX0_comes_76 : decode cX0_comes 76 = .ok (.iload 5, 2) := dk_21 5 (dk_at dksX0_comes_3 6 rfl rfl)
theorem dX0_comes_78 : decode cX0_comes 78 = .ok (.iconst 0, 1) := dk_3 (dk_at dksX0_comes_3 8 rfl rfl)
theorem dX0_comes_79 : decode cX0_comes 79 = .ok (.iastore, 1) := dk_79 (dk_at dksX0_comes_3 9 rfl rfl)
theorem dX0_comes_80 : decode cX0_comes 80 = .ok (.aload_n 0, 1) := dk_42 (dk_at dksX0_comes_3 10 rfl rfl)
theorem dX0_comes_81 : decode cX0_comes 81 = .ok (.getfield 46, 3) := dk_180 0 46 (dk_at dksX0_comes_3 11 rfl rfl)
theorem dX0_comes_84 : decode cX0_comes 84 = .ok (.getfield 63, 3) := dk_180 0 63 (dk_at dksX0_comes_3 14 rfl rfl)
theorem dX0_comes_87 : decode cX0_comes 87 = .ok (.getfield 308, 3) := dk_180 1 52 (dk_at dksX0_comes_3 17 rfl rfl)
theorem dX0_comes_90 : decode cX0_comes 90 = .ok (.iload 5, 2) := dk_21 5 (dk_at dksX0_comes_3 20 rfl rfl)
theorem dX0_comes_92 : decode cX0_comes 92 = .ok (.iconst 0, 1) := dk_3 (dk_at dksX0_comes_3 22 rfl rfl)
theorem dX0_comes_93 : decode cX0_comes 93 = .ok (.iastore, 1) := dk_79 (dk_at dksX0_comes_3 23 rfl rfl)
theorem dX0_comes_94 : decode cX0_comes 94 = .ok (.aload_n 0, 1) := dk_42 (dk_at dksX0_comes_4 0 rfl rfl)
theorem dX0_comes_95 : decode cX0_comes 95 = .ok (.getfield 46, 3) := dk_180 0 46 (dk_at dksX0_comes_4 1 rfl rfl)
theorem dX0_comes_98 : decode cX0_comes 98 = .ok (.dup, 1) := dk_89 (dk_at dksX0_comes_4 4 rfl rfl)
theorem dX0_comes_99 : decode cX0_comes 99 = .ok (.getfield 133, 3) := dk_180 0 133 (dk_at dksX0_comes_4 5 rfl rfl)
theorem dX0_comes_102 : decode cX0_comes 102 = .ok (.iconst 1, 1) := dk_4 (dk_at dksX0_comes_4 8 rfl rfl)
theorem dX0_comes_103 : decode cX0_comes 103 = .ok (.iadd, 1) := dk_96 (dk_at dksX0_comes_4 9 rfl rfl)
theorem dX0_comes_104 : decode cX0_comes 104 = .ok (.putfield 133, 3) := dk_181 0 133 (dk_at dksX0_comes_4 10 rfl rfl)
theorem dX0_comes_107 : decode cX0_comes 107 = .ok (.iload 5, 2) := dk_21 5 (dk_at dksX0_comes_4 13 rfl rfl)
theorem dX0_comes_109 : decode cX0_comes 109 = .ok (.ireturn, 1) := dk_172 (dk_at dksX0_comes_4 15 rfl rfl)
abbrev cX0_leafOf : ByteArray := prog_1_method_4_code
def yX0_leafOf : MethodName := ⟨RX0, "leafOf", "(I)LKeptLeaves$Leaf;"⟩
def dkwX0_leafOf_3 : List UInt8 := [187, 0, 25, 89, 183, 0, 27, 176, 187, 0, 28, 89, 183, 0, 30, 176, 187, 0, 31, 89, 183, 0, 33, 176]
abbrev dktX0_leafOf_3 : List UInt8 := dkwX0_leafOf_3 ++ []
def dkwX0_leafOf_2 : List UInt8 := [187, 0, 13, 89, 183, 0, 15, 176, 187, 0, 19, 89, 183, 0, 21, 176, 187, 0, 22, 89, 183, 0, 24, 176]
abbrev dktX0_leafOf_2 : List UInt8 := dkwX0_leafOf_2 ++ dktX0_leafOf_3
def dkwX0_leafOf_1 : List UInt8 := [170, 0, 0, 0, 0, 0, 75, 0, 0, 0, 1, 0, 0, 0, 5, 0, 0, 0, 35, 0, 0, 0, 43, 0, 0, 0, 51, 0, 0, 0, 59, 0, 0, 0, 67]
abbrev dktX0_leafOf_1 : List UInt8 := dkwX0_leafOf_1 ++ dktX0_leafOf_2
def dkwX0_leafOf_0 : List UInt8 := [26]
abbrev dktX0_leafOf_0 : List UInt8 := dkwX0_leafOf_0 ++ dktX0_leafOf_1
theorem dksX0_leafOf_0 : cX0_leafOf.data.toList.drop 0 = dktX0_leafOf_0 := by decide +kernel
theorem dksX0_leafOf_1 : cX0_leafOf.data.toList.drop 1 = dktX0_leafOf_1 := dk_seg dksX0_leafOf_0 1 rfl rfl
theorem dksX0_leafOf_2 : cX0_leafOf.data.toList.drop 36 = dktX0_leafOf_2 := dk_seg dksX0_leafOf_1 35 rfl rfl
theorem dksX0_leafOf_3 : cX0_leafOf.data.toList.drop 60 = dktX0_leafOf_3 := dk_seg dksX0_leafOf_2 24 rfl rfl
theorem dX0_leafOf_0 : decode cX0_leafOf 0 = .ok (.iload_n 0, 1) := dk_26 (dk_at dksX0_leafOf_0 0 rfl rfl)
theorem dX0_leafOf_1 : decode cX0_leafOf 1 = .ok (.tableswitch 75 1 5 #[35, 43, 51, 59, 67], 35) := by decide +kernel
theorem dX0_leafOf_36 : decode cX0_leafOf 36 = .ok (.new 13, 3) := dk_187 0 13 (dk_at dksX0_leafOf_2 0 rfl rfl)
theorem dX0_leafOf_39 : decode cX0_leafOf 39 = .ok (.dup, 1) := dk_89 (dk_at dksX0_leafOf_2 3 rfl rfl)
theorem dX0_leafOf_40 : decode cX0_leafOf 40 = .ok (.invokespecial 15, 3) := dk_183 0 15 (dk_at dksX0_leafOf_2 4 rfl rfl)
theorem dX0_leafOf_43 : decode cX0_leafOf 43 = .ok (.areturn, 1) := dk_176 (dk_at dksX0_leafOf_2 7 rfl rfl)
theorem dX0_leafOf_44 : decode cX0_leafOf 44 = .ok (.new 19, 3) := dk_187 0 19 (dk_at dksX0_leafOf_2 8 rfl rfl)
theorem dX0_leafOf_47 : decode cX0_leafOf 47 = .ok (.dup, 1) := dk_89 (dk_at dksX0_leafOf_2 11 rfl rfl)
theorem dX0_leafOf_48 : decode cX0_leafOf 48 = .ok (.invokespecial 21, 3) := dk_183 0 21 (dk_at dksX0_leafOf_2 12 rfl rfl)
theorem dX0_leafOf_51 : decode cX0_leafOf 51 = .ok (.areturn, 1) := dk_176 (dk_at dksX0_leafOf_2 15 rfl rfl)
theorem dX0_leafOf_52 : decode cX0_leafOf 52 = .ok (.new 22, 3) := dk_187 0 22 (dk_at dksX0_leafOf_2 16 rfl rfl)
theorem dX0_leafOf_55 : decode cX0_leafOf 55 = .ok (.dup, 1) := dk_89 (dk_at dksX0_leafOf_2 19 rfl rfl)
theorem dX0_leafOf_56 : decode cX0_leafOf 56 = .ok (.invokespecial 24, 3) := dk_183 0 24 (dk_at dksX0_leafOf_2 20 rfl rfl)
theorem dX0_leafOf_59 : decode cX0_leafOf 59 = .ok (.areturn, 1) := dk_176 (dk_at dksX0_leafOf_2 23 rfl rfl)
theorem dX0_leafOf_60 : decode cX0_leafOf 60 = .ok (.new 25, 3) := dk_187 0 25 (dk_at dksX0_leafOf_3 0 rfl rfl)
theorem dX0_leafOf_63 : decode cX0_leafOf 63 = .ok (.dup, 1) := dk_89 (dk_at dksX0_leafOf_3 3 rfl rfl)
theorem dX0_leafOf_64 : decode cX0_leafOf 64 = .ok (.invokespecial 27, 3) := dk_183 0 27 (dk_at dksX0_leafOf_3 4 rfl rfl)
theorem dX0_leafOf_67 : decode cX0_leafOf 67 = .ok (.areturn, 1) := dk_176 (dk_at dksX0_leafOf_3 7 rfl rfl)
theorem dX0_leafOf_68 : decode cX0_leafOf 68 = .ok (.new 28, 3) := dk_187 0 28 (dk_at dksX0_leafOf_3 8 rfl rfl)
theorem dX0_leafOf_71 : decode cX0_leafOf 71 = .ok (.dup, 1) := dk_89 (dk_at dksX0_leafOf_3 11 rfl rfl)
theorem dX0_leafOf_72 : decode cX0_leafOf 72 = .ok (.invokespecial 30, 3) := dk_183 0 30 (dk_at dksX0_leafOf_3 12 rfl rfl)
theorem dX0_leafOf_75 : decode cX0_leafOf 75 = .ok (.areturn, 1) := dk_176 (dk_at dksX0_leafOf_3 15 rfl rfl)
theorem dX0_leafOf_76 : decode cX0_leafOf 76 = .ok (.new 31, 3) := dk_187 0 31 (dk_at dksX0_leafOf_3 16 rfl rfl)
theorem dX0_leafOf_79 : decode cX0_leafOf 79 = .ok (.dup, 1) := dk_89 (dk_at dksX0_leafOf_3 19 rfl rfl)
theorem dX0_leafOf_80 : decode cX0_leafOf 80 = .ok (.invokespecial 33, 3) := dk_183 0 33 (dk_at dksX0_leafOf_3 20 rfl rfl)
theorem dX0_leafOf_83 : decode cX0_leafOf 83 = .ok (.areturn, 1) := dk_176 (dk_at dksX0_leafOf_3 23 rfl rfl)
abbrev cX0_told : ByteArray := prog_1_method_42_code
def yX0_told : MethodName := ⟨RX0, "told", "(II)I"⟩
def dkwX0_told_7 : List UInt8 := [180, 1, 101, 182, 1, 104, 153, 0, 7, 4, 167, 0, 4, 3, 172, 45, 182, 1, 108, 172]
abbrev dktX0_told_7 : List UInt8 := dkwX0_told_7 ++ []
def dkwX0_told_6 : List UInt8 := [180, 0, 46, 180, 0, 63, 27, 182, 1, 98, 184, 1, 29, 172, 42, 27, 42, 180, 0, 46, 180, 0, 63]
abbrev dktX0_told_6 : List UInt8 := dkwX0_told_6 ++ dktX0_told_7
def dkwX0_told_5 : List UInt8 := [180, 0, 63, 180, 1, 49, 27, 46, 172, 42, 180, 0, 46, 180, 0, 63, 180, 1, 52, 27, 46, 172, 42]
abbrev dktX0_told_5 : List UInt8 := dkwX0_told_5 ++ dktX0_told_6
def dkwX0_told_4 : List UInt8 := [184, 1, 29, 172, 42, 180, 0, 87, 27, 46, 172, 42, 180, 0, 90, 27, 46, 172, 42, 180, 0, 46]
abbrev dktX0_told_4 : List UInt8 := dkwX0_told_4 ++ dktX0_told_5
def dkwX0_told_3 : List UInt8 := [45, 182, 1, 92, 172, 45, 180, 1, 40, 172, 45, 180, 1, 43, 172, 45, 180, 1, 95, 172, 45, 180, 1, 46]
abbrev dktX0_told_3 : List UInt8 := dkwX0_told_3 ++ dktX0_told_4
def dkwX0_told_2 : List UInt8 := [170, 0, 0, 0, 0, 0, 0, 167, 0, 0, 0, 0, 0, 0, 0, 10, 0, 0, 0, 60, 0, 0, 0, 65, 0, 0, 0, 70, 0, 0, 0, 75, 0, 0, 0, 80, 0, 0, 0, 88, 0, 0, 0, 95, 0, 0, 0, 102, 0, 0, 0, 115, 0, 0, 0, 128, 0, 0, 0, 143]
abbrev dktX0_told_2 : List UInt8 := dkwX0_told_2 ++ dktX0_told_3
def dkwX0_told_1 : List UInt8 := [180, 0, 46, 180, 1, 32, 27, 50, 78, 42, 182, 1, 89, 28]
abbrev dktX0_told_1 : List UInt8 := dkwX0_told_1 ++ dktX0_told_2
def dkwX0_told_0 : List UInt8 := [42, 27, 182, 1, 58, 153, 0, 13, 28, 3, 16, 11, 184, 0, 137, 154, 0, 6, 18, 164, 172, 42]
abbrev dktX0_told_0 : List UInt8 := dkwX0_told_0 ++ dktX0_told_1
theorem dksX0_told_0 : cX0_told.data.toList.drop 0 = dktX0_told_0 := by decide +kernel
theorem dksX0_told_1 : cX0_told.data.toList.drop 22 = dktX0_told_1 := dk_seg dksX0_told_0 22 rfl rfl
theorem dksX0_told_2 : cX0_told.data.toList.drop 36 = dktX0_told_2 := dk_seg dksX0_told_1 14 rfl rfl
theorem dksX0_told_3 : cX0_told.data.toList.drop 96 = dktX0_told_3 := dk_seg dksX0_told_2 60 rfl rfl
theorem dksX0_told_4 : cX0_told.data.toList.drop 120 = dktX0_told_4 := dk_seg dksX0_told_3 24 rfl rfl
theorem dksX0_told_5 : cX0_told.data.toList.drop 142 = dktX0_told_5 := dk_seg dksX0_told_4 22 rfl rfl
theorem dksX0_told_6 : cX0_told.data.toList.drop 165 = dktX0_told_6 := dk_seg dksX0_told_5 23 rfl rfl
theorem dksX0_told_7 : cX0_told.data.toList.drop 188 = dktX0_told_7 := dk_seg dksX0_told_6 23 rfl rfl
theorem dX0_told_0 : decode cX0_told 0 = .ok (.aload_n 0, 1) := dk_42 (dk_at dksX0_told_0 0 rfl rfl)
theorem dX0_told_1 : decode cX0_told 1 = .ok (.iload_n 1, 1) := dk_27 (dk_at dksX0_told_0 1 rfl rfl)
theorem dX0_told_2 : decode cX0_told 2 = .ok (.invokevirtual 314, 3) := dk_182 1 58 (dk_at dksX0_told_0 2 rfl rfl)
theorem dX0_told_5 : decode cX0_told 5 = .ok (.ifCond .eq 13, 3) := dk_153 0 13 (dk_at dksX0_told_0 5 rfl rfl)
theorem dX0_told_8 : decode cX0_told 8 = .ok (.iload_n 2, 1) := dk_28 (dk_at dksX0_told_0 8 rfl rfl)
theorem dX0_told_9 : decode cX0_told 9 = .ok (.iconst 0, 1) := dk_3 (dk_at dksX0_told_0 9 rfl rfl)
theorem dX0_told_10 : decode cX0_told 10 = .ok (.bipush 11, 2) := dk_16 11 (dk_at dksX0_told_0 10 rfl rfl)
theorem dX0_told_12 : decode cX0_told 12 = .ok (.invokestatic 137, 3) := dk_184 0 137 (dk_at dksX0_told_0 12 rfl rfl)
theorem dX0_told_15 : decode cX0_told 15 = .ok (.ifCond .ne 6, 3) := dk_154 0 6 (dk_at dksX0_told_0 15 rfl rfl)
theorem dX0_told_18 : decode cX0_told 18 = .ok (.ldc 164, 2) := dk_18 164 (dk_at dksX0_told_0 18 rfl rfl)
theorem dX0_told_20 : decode cX0_told 20 = .ok (.ireturn, 1) := dk_172 (dk_at dksX0_told_0 20 rfl rfl)
theorem dX0_told_21 : decode cX0_told 21 = .ok (.aload_n 0, 1) := dk_42 (dk_at dksX0_told_0 21 rfl rfl)
theorem dX0_told_22 : decode cX0_told 22 = .ok (.getfield 46, 3) := dk_180 0 46 (dk_at dksX0_told_1 0 rfl rfl)
theorem dX0_told_25 : decode cX0_told 25 = .ok (.getfield 288, 3) := dk_180 1 32 (dk_at dksX0_told_1 3 rfl rfl)
theorem dX0_told_28 : decode cX0_told 28 = .ok (.iload_n 1, 1) := dk_27 (dk_at dksX0_told_1 6 rfl rfl)
theorem dX0_told_29 : decode cX0_told 29 = .ok (.aaload, 1) := dk_50 (dk_at dksX0_told_1 7 rfl rfl)
theorem dX0_told_30 : decode cX0_told 30 = .ok (.astore_n 3, 1) := dk_78 (dk_at dksX0_told_1 8 rfl rfl)
theorem dX0_told_31 : decode cX0_told 31 = .ok (.aload_n 0, 1) := dk_42 (dk_at dksX0_told_1 9 rfl rfl)
theorem dX0_told_32 : decode cX0_told 32 = .ok (.invokevirtual 345, 3) := dk_182 1 89 (dk_at dksX0_told_1 10 rfl rfl)
theorem dX0_told_35 : decode cX0_told 35 = .ok (.iload_n 2, 1) := dk_28 (dk_at dksX0_told_1 13 rfl rfl)
theorem dX0_told_36 : decode cX0_told 36 = .ok (.tableswitch 167 0 10 #[60, 65, 70, 75, 80, 88, 95, 102, 115, 128, 143], 60) := by decide +kernel
theorem dX0_told_96 : decode cX0_told 96 = .ok (.aload_n 3, 1) := dk_45 (dk_at dksX0_told_3 0 rfl rfl)
theorem dX0_told_97 : decode cX0_told 97 = .ok (.invokevirtual 348, 3) := dk_182 1 92 (dk_at dksX0_told_3 1 rfl rfl)
theorem dX0_told_100 : decode cX0_told 100 = .ok (.ireturn, 1) := dk_172 (dk_at dksX0_told_3 4 rfl rfl)
theorem dX0_told_101 : decode cX0_told 101 = .ok (.aload_n 3, 1) := dk_45 (dk_at dksX0_told_3 5 rfl rfl)
theorem dX0_told_102 : decode cX0_told 102 = .ok (.getfield 296, 3) := dk_180 1 40 (dk_at dksX0_told_3 6 rfl rfl)
theorem dX0_told_105 : decode cX0_told 105 = .ok (.ireturn, 1) := dk_172 (dk_at dksX0_told_3 9 rfl rfl)
theorem dX0_told_106 : decode cX0_told 106 = .ok (.aload_n 3, 1) := dk_45 (dk_at dksX0_told_3 10 rfl rfl)
theorem dX0_told_107 : decode cX0_told 107 = .ok (.getfield 299, 3) := dk_180 1 43 (dk_at dksX0_told_3 11 rfl rfl)
theorem dX0_told_110 : decode cX0_told 110 = .ok (.ireturn, 1) := dk_172 (dk_at dksX0_told_3 14 rfl rfl)
theorem dX0_told_111 : decode cX0_told 111 = .ok (.aload_n 3, 1) := dk_45 (dk_at dksX0_told_3 15 rfl rfl)
theorem dX0_told_112 : decode cX0_told 112 = .ok (.getfield 351, 3) := dk_180 1 95 (dk_at dksX0_told_3 16 rfl rfl)
theorem dX0_told_115 : decode cX0_told 115 = .ok (.ireturn, 1) := dk_172 (dk_at dksX0_told_3 19 rfl rfl)
theorem dX0_told_116 : decode cX0_told 116 = .ok (.aload_n 3, 1) := dk_45 (dk_at dksX0_told_3 20 rfl rfl)
theorem dX0_told_117 : decode cX0_told 117 = .ok (.getfield 302, 3) := dk_180 1 46 (dk_at dksX0_told_3 21 rfl rfl)
theorem dX0_told_120 : decode cX0_told 120 = .ok (.invokestatic 285, 3) := dk_184 1 29 (dk_at dksX0_told_4 0 rfl rfl)
theorem dX0_told_123 : decode cX0_told 123 = .ok (.ireturn, 1) := dk_172 (dk_at dksX0_told_4 3 rfl rfl)
theorem dX0_told_124 : decode cX0_told 124 = .ok (.aload_n 0, 1) := dk_42 (dk_at dksX0_told_4 4 rfl rfl)
theorem dX0_told_125 : decode cX0_told 125 = .ok (.getfield 87, 3) := dk_180 0 87 (dk_at dksX0_told_4 5 rfl rfl)
theorem dX0_told_128 : decode cX0_told 128 = .ok (.iload_n 1, 1) := dk_27 (dk_at dksX0_told_4 8 rfl rfl)
theorem dX0_told_129 : decode cX0_told 129 = .ok (.iaload, 1) := dk_46 (dk_at dksX0_told_4 9 rfl rfl)
theorem dX0_told_130 : decode cX0_told 130 = .ok (.ireturn, 1) := dk_172 (dk_at dksX0_told_4 10 rfl rfl)
theorem dX0_told_131 : decode cX0_told 131 = .ok (.aload_n 0, 1) := dk_42 (dk_at dksX0_told_4 11 rfl rfl)
theorem dX0_told_132 : decode cX0_told 132 = .ok (.getfield 90, 3) := dk_180 0 90 (dk_at dksX0_told_4 12 rfl rfl)
theorem dX0_told_135 : decode cX0_told 135 = .ok (.iload_n 1, 1) := dk_27 (dk_at dksX0_told_4 15 rfl rfl)
theorem dX0_told_136 : decode cX0_told 136 = .ok (.iaload, 1) := dk_46 (dk_at dksX0_told_4 16 rfl rfl)
theorem dX0_told_137 : decode cX0_told 137 = .ok (.ireturn, 1) := dk_172 (dk_at dksX0_told_4 17 rfl rfl)
theorem dX0_told_138 : decode cX0_told 138 = .ok (.aload_n 0, 1) := dk_42 (dk_at dksX0_told_4 18 rfl rfl)
theorem dX0_told_139 : decode cX0_told 139 = .ok (.getfield 46, 3) := dk_180 0 46 (dk_at dksX0_told_4 19 rfl rfl)
theorem dX0_told_142 : decode cX0_told 142 = .ok (.getfield 63, 3) := dk_180 0 63 (dk_at dksX0_told_5 0 rfl rfl)
theorem dX0_told_145 : decode cX0_told 145 = .ok (.getfield 305, 3) := dk_180 1 49 (dk_at dksX0_told_5 3 rfl rfl)
theorem dX0_told_148 : decode cX0_told 148 = .ok (.iload_n 1, 1) := dk_27 (dk_at dksX0_told_5 6 rfl rfl)
theorem dX0_told_149 : decode cX0_told 149 = .ok (.iaload, 1) := dk_46 (dk_at dksX0_told_5 7 rfl rfl)
theorem dX0_told_150 : decode cX0_told 150 = .ok (.ireturn, 1) := dk_172 (dk_at dksX0_told_5 8 rfl rfl)
theorem dX0_told_151 : decode cX0_told 151 = .ok (.aload_n 0, 1) := dk_42 (dk_at dksX0_told_5 9 rfl rfl)
theorem dX0_told_152 : decode cX0_told 152 = .ok (.getfield 46, 3) := dk_180 0 46 (dk_at dksX0_told_5 10 rfl rfl)
theorem dX0_told_155 : decode cX0_told 155 = .ok (.getfield 63, 3) := dk_180 0 63 (dk_at dksX0_told_5 13 rfl rfl)
theorem dX0_told_158 : decode cX0_told 158 = .ok (.getfield 308, 3) := dk_180 1 52 (dk_at dksX0_told_5 16 rfl rfl)
theorem dX0_told_161 : decode cX0_told 161 = .ok (.iload_n 1, 1) := dk_27 (dk_at dksX0_told_5 19 rfl rfl)
theorem dX0_told_162 : decode cX0_told 162 = .ok (.iaload, 1) := dk_46 (dk_at dksX0_told_5 20 rfl rfl)
theorem dX0_told_163 : decode cX0_told 163 = .ok (.ireturn, 1) := dk_172 (dk_at dksX0_told_5 21 rfl rfl)
theorem dX0_told_164 : decode cX0_told 164 = .ok (.aload_n 0, 1) := dk_42 (dk_at dksX0_told_5 22 rfl rfl)
theorem dX0_told_165 : decode cX0_told 165 = .ok (.getfield 46, 3) := dk_180 0 46 (dk_at dksX0_told_6 0 rfl rfl)
theorem dX0_told_168 : decode cX0_told 168 = .ok (.getfield 63, 3) := dk_180 0 63 (dk_at dksX0_told_6 3 rfl rfl)
theorem dX0_told_171 : decode cX0_told 171 = .ok (.iload_n 1, 1) := dk_27 (dk_at dksX0_told_6 6 rfl rfl)
theorem dX0_told_172 : decode cX0_told 172 = .ok (.invokevirtual 354, 3) := dk_182 1 98 (dk_at dksX0_told_6 7 rfl rfl)
theorem dX0_told_175 : decode cX0_told 175 = .ok (.invokestatic 285, 3) := dk_184 1 29 (dk_at dksX0_told_6 10 rfl rfl)
theorem dX0_told_178 : decode cX0_told 178 = .ok (.ireturn, 1) := dk_172 (dk_at dksX0_told_6 13 rfl rfl)
theorem dX0_told_179 : decode cX0_told 179 = .ok (.aload_n 0, 1) := dk_42 (dk_at dksX0_told_6 14 rfl rfl)
theorem dX0_told_180 : decode cX0_told 180 = .ok (.iload_n 1, 1) := dk_27 (dk_at dksX0_told_6 15 rfl rfl)
theorem dX0_told_181 : decode cX0_told 181 = .ok (.aload_n 0, 1) := dk_42 (dk_at dksX0_told_6 16 rfl rfl)
theorem dX0_told_182 : decode cX0_told 182 = .ok (.getfield 46, 3) := dk_180 0 46 (dk_at dksX0_told_6 17 rfl rfl)
theorem dX0_told_185 : decode cX0_told 185 = .ok (.getfield 63, 3) := dk_180 0 63 (dk_at dksX0_told_6 20 rfl rfl)
theorem dX0_told_188 : decode cX0_told 188 = .ok (.getfield 357, 3) := dk_180 1 101 (dk_at dksX0_told_7 0 rfl rfl)
theorem dX0_told_191 : decode cX0_told 191 = .ok (.invokevirtual 360, 3) := dk_182 1 104 (dk_at dksX0_told_7 3 rfl rfl)
theorem dX0_told_194 : decode cX0_told 194 = .ok (.ifCond .eq 7, 3) := dk_153 0 7 (dk_at dksX0_told_7 6 rfl rfl)
theorem dX0_told_197 : decode cX0_told 197 = .ok (.iconst 1, 1) := dk_4 (dk_at dksX0_told_7 9 rfl rfl)
theorem dX0_told_198 : decode cX0_told 198 = .ok (.goto 4, 3) := dk_167 0 4 (dk_at dksX0_told_7 10 rfl rfl)
theorem dX0_told_201 : decode cX0_told 201 = .ok (.iconst 0, 1) := dk_3 (dk_at dksX0_told_7 13 rfl rfl)
theorem dX0_told_202 : decode cX0_told 202 = .ok (.ireturn, 1) := dk_172 (dk_at dksX0_told_7 14 rfl rfl)
theorem dX0_told_203 : decode cX0_told 203 = .ok (.aload_n 3, 1) := dk_45 (dk_at dksX0_told_7 15 rfl rfl)
theorem dX0_told_204 : decode cX0_told 204 = .ok (.invokevirtual 364, 3) := dk_182 1 108 (dk_at dksX0_told_7 16 rfl rfl)
theorem dX0_told_207 : decode cX0_told 207 = .ok (.ireturn, 1) := dk_172 (dk_at dksX0_told_7 19 rfl rfl)
abbrev cX0_learns : ByteArray := prog_1_method_40_code
def yX0_learns : MethodName := ⟨RX0, "learns", "()V"⟩
def dkwX0_learns_3 : List UInt8 := [79, 132, 1, 1, 167, 255, 182, 177]
abbrev dktX0_learns_3 : List UInt8 := dkwX0_learns_3 ++ []
def dkwX0_learns_2 : List UInt8 := [42, 180, 0, 93, 27, 4, 27, 120, 28, 2, 160, 0, 7, 3, 167, 0, 9, 42, 180, 0, 93, 28, 46, 128]
abbrev dktX0_learns_2 : List UInt8 := dkwX0_learns_2 ++ dktX0_learns_3
def dkwX0_learns_1 : List UInt8 := [42, 180, 0, 90, 27, 42, 27, 182, 1, 86, 79, 42, 180, 0, 46, 180, 1, 32, 27, 50, 180, 1, 46, 61]
abbrev dktX0_learns_1 : List UInt8 := dkwX0_learns_1 ++ dktX0_learns_2
def dkwX0_learns_0 : List UInt8 := [3, 60, 27, 42, 180, 0, 46, 180, 0, 133, 162, 0, 69, 42, 180, 0, 87, 27, 42, 27, 182, 1, 83, 79]
abbrev dktX0_learns_0 : List UInt8 := dkwX0_learns_0 ++ dktX0_learns_1
theorem dksX0_learns_0 : cX0_learns.data.toList.drop 0 = dktX0_learns_0 := by decide +kernel
theorem dksX0_learns_1 : cX0_learns.data.toList.drop 24 = dktX0_learns_1 := dk_seg dksX0_learns_0 24 rfl rfl
theorem dksX0_learns_2 : cX0_learns.data.toList.drop 48 = dktX0_learns_2 := dk_seg dksX0_learns_1 24 rfl rfl
theorem dksX0_learns_3 : cX0_learns.data.toList.drop 72 = dktX0_learns_3 := dk_seg dksX0_learns_2 24 rfl rfl
theorem dX0_learns_0 : decode cX0_learns 0 = .ok (.iconst 0, 1) := dk_3 (dk_at dksX0_learns_0 0 rfl rfl)
theorem dX0_learns_1 : decode cX0_learns 1 = .ok (.istore_n 1, 1) := dk_60 (dk_at dksX0_learns_0 1 rfl rfl)
theorem dX0_learns_2 : decode cX0_learns 2 = .ok (.iload_n 1, 1) := dk_27 (dk_at dksX0_learns_0 2 rfl rfl)
theorem dX0_learns_3 : decode cX0_learns 3 = .ok (.aload_n 0, 1) := dk_42 (dk_at dksX0_learns_0 3 rfl rfl)
theorem dX0_learns_4 : decode cX0_learns 4 = .ok (.getfield 46, 3) := dk_180 0 46 (dk_at dksX0_learns_0 4 rfl rfl)
theorem dX0_learns_7 : decode cX0_learns 7 = .ok (.getfield 133, 3) := dk_180 0 133 (dk_at dksX0_learns_0 7 rfl rfl)
theorem dX0_learns_10 : decode cX0_learns 10 = .ok (.if_icmp .ge 69, 3) := dk_162 0 69 (dk_at dksX0_learns_0 10 rfl rfl)
theorem dX0_learns_13 : decode cX0_learns 13 = .ok (.aload_n 0, 1) := dk_42 (dk_at dksX0_learns_0 13 rfl rfl)
theorem dX0_learns_14 : decode cX0_learns 14 = .ok (.getfield 87, 3) := dk_180 0 87 (dk_at dksX0_learns_0 14 rfl rfl)
theorem dX0_learns_17 : decode cX0_learns 17 = .ok (.iload_n 1, 1) := dk_27 (dk_at dksX0_learns_0 17 rfl rfl)
theorem dX0_learns_18 : decode cX0_learns 18 = .ok (.aload_n 0, 1) := dk_42 (dk_at dksX0_learns_0 18 rfl rfl)
theorem dX0_learns_19 : decode cX0_learns 19 = .ok (.iload_n 1, 1) := dk_27 (dk_at dksX0_learns_0 19 rfl rfl)
theorem dX0_learns_20 : decode cX0_learns 20 = .ok (.invokevirtual 339, 3) := dk_182 1 83 (dk_at dksX0_learns_0 20 rfl rfl)
theorem dX0_learns_23 : decode cX0_learns 23 = .ok (.iastore, 1) := dk_79 (dk_at dksX0_learns_0 23 rfl rfl)
theorem dX0_learns_24 : decode cX0_learns 24 = .ok (.aload_n 0, 1) := dk_42 (dk_at dksX0_learns_1 0 rfl rfl)
theorem dX0_learns_25 : decode cX0_learns 25 = .ok (.getfield 90, 3) := dk_180 0 90 (dk_at dksX0_learns_1 1 rfl rfl)
theorem dX0_learns_28 : decode cX0_learns 28 = .ok (.iload_n 1, 1) := dk_27 (dk_at dksX0_learns_1 4 rfl rfl)
theorem dX0_learns_29 : decode cX0_learns 29 = .ok (.aload_n 0, 1) := dk_42 (dk_at dksX0_learns_1 5 rfl rfl)
theorem dX0_learns_30 : decode cX0_learns 30 = .ok (.iload_n 1, 1) := dk_27 (dk_at dksX0_learns_1 6 rfl rfl)
theorem dX0_learns_31 : decode cX0_learns 31 = .ok (.invokevirtual 342, 3) := dk_182 1 86 (dk_at dksX0_learns_1 7 rfl rfl)
theorem dX0_learns_34 : decode cX0_learns 34 = .ok (.iastore, 1) := dk_79 (dk_at dksX0_learns_1 10 rfl rfl)
theorem dX0_learns_35 : decode cX0_learns 35 = .ok (.aload_n 0, 1) := dk_42 (dk_at dksX0_learns_1 11 rfl rfl)
theorem dX0_learns_36 : decode cX0_learns 36 = .ok (.getfield 46, 3) := dk_180 0 46 (dk_at dksX0_learns_1 12 rfl rfl)
theorem dX0_learns_39 : decode cX0_learns 39 = .ok (.getfield 288, 3) := dk_180 1 32 (dk_at dksX0_learns_1 15 rfl rfl)
theorem dX0_learns_42 : decode cX0_learns 42 = .ok (.iload_n 1, 1) := dk_27 (dk_at dksX0_learns_1 18 rfl rfl)
theorem dX0_learns_43 : decode cX0_learns 43 = .ok (.aaload, 1) := dk_50 (dk_at dksX0_learns_1 19 rfl rfl)
theorem dX0_learns_44 : decode cX0_learns 44 = .ok (.getfield 302, 3) := dk_180 1 46 (dk_at dksX0_learns_1 20 rfl rfl)
theorem dX0_learns_47 : decode cX0_learns 47 = .ok (.istore_n 2, 1) := dk_61 (dk_at dksX0_learns_1 23 rfl rfl)
theorem dX0_learns_48 : decode cX0_learns 48 = .ok (.aload_n 0, 1) := dk_42 (dk_at dksX0_learns_2 0 rfl rfl)
theorem dX0_learns_49 : decode cX0_learns 49 = .ok (.getfield 93, 3) := dk_180 0 93 (dk_at dksX0_learns_2 1 rfl rfl)
theorem dX0_learns_52 : decode cX0_learns 52 = .ok (.iload_n 1, 1) := dk_27 (dk_at dksX0_learns_2 4 rfl rfl)
theorem dX0_learns_53 : decode cX0_learns 53 = .ok (.iconst 1, 1) := dk_4 (dk_at dksX0_learns_2 5 rfl rfl)
theorem dX0_learns_54 : decode cX0_learns 54 = .ok (.iload_n 1, 1) := dk_27 (dk_at dksX0_learns_2 6 rfl rfl)
theorem dX0_learns_55 : decode cX0_learns 55 = .ok (.ishl, 1) := dk_120 (dk_at dksX0_learns_2 7 rfl rfl)
theorem dX0_learns_56 : decode cX0_learns 56 = .ok (.iload_n 2, 1) := dk_28 (dk_at dksX0_learns_2 8 rfl rfl)
theorem dX0_learns_57 : decode cX0_learns 57 = .ok (.iconst (-1), 1) := dk_2 (dk_at dksX0_learns_2 9 rfl rfl)
theorem dX0_learns_58 : decode cX0_learns 58 = .ok (.if_icmp .ne 7, 3) := dk_160 0 7 (dk_at dksX0_learns_2 10 rfl rfl)
theorem dX0_learns_61 : decode cX0_learns 61 = .ok (.iconst 0, 1) := dk_3 (dk_at dksX0_learns_2 13 rfl rfl)
theorem dX0_learns_62 : decode cX0_learns 62 = .ok (.goto 9, 3) := dk_167 0 9 (dk_at dksX0_learns_2 14 rfl rfl)
theorem dX0_learns_65 : decode cX0_learns 65 = .ok (.aload_n 0, 1) := dk_42 (dk_at dksX0_learns_2 17 rfl rfl)
theorem dX0_learns_66 : decode cX0_learns 66 = .ok (.getfield 93, 3) := dk_180 0 93 (dk_at dksX0_learns_2 18 rfl rfl)
theorem dX0_learns_69 : decode cX0_learns 69 = .ok (.iload_n 2, 1) := dk_28 (dk_at dksX0_learns_2 21 rfl rfl)
theorem dX0_learns_70 : decode cX0_learns 70 = .ok (.iaload, 1) := dk_46 (dk_at dksX0_learns_2 22 rfl rfl)
theorem dX0_learns_71 : decode cX0_learns 71 = .ok (.ior, 1) := dk_128 (dk_at dksX0_learns_2 23 rfl rfl)
theorem dX0_learns_72 : decode cX0_learns 72 = .ok (.iastore, 1) := dk_79 (dk_at dksX0_learns_3 0 rfl rfl)
theorem dX0_learns_73 : decode cX0_learns 73 = .ok (.iinc 1 1, 3) := dk_132 1 1 (dk_at dksX0_learns_3 1 rfl rfl)
theorem dX0_learns_76 : decode cX0_learns 76 = .ok (.goto (-74), 3) := dk_167 255 182 (dk_at dksX0_learns_3 4 rfl rfl)
theorem dX0_learns_79 : decode cX0_learns 79 = .ok (.return_, 1) := dk_177 (dk_at dksX0_learns_3 7 rfl rfl)
abbrev cX0_roomOf : ByteArray := prog_1_method_38_code
def yX0_roomOf : MethodName := ⟨RX0, "roomOf", "(I)I"⟩
def dkwX0_roomOf_3 : List UInt8 := [21, 4, 182, 1, 76, 172]
abbrev dktX0_roomOf_3 : List UInt8 := dkwX0_roomOf_3 ++ []
def dkwX0_roomOf_2 : List UInt8 := [180, 0, 46, 180, 1, 18, 29, 50, 180, 1, 65, 182, 1, 69, 4, 16, 9, 184, 1, 73, 54, 4, 44]
abbrev dktX0_roomOf_2 : List UInt8 := dkwX0_roomOf_2 ++ dktX0_roomOf_3
def dkwX0_roomOf_1 : List UInt8 := [159, 0, 46, 42, 180, 0, 84, 16, 115, 44, 180, 1, 40, 79, 42, 180, 0, 84, 16, 110, 27, 79, 42, 42]
abbrev dktX0_roomOf_1 : List UInt8 := dkwX0_roomOf_1 ++ dktX0_roomOf_2
def dkwX0_roomOf_0 : List UInt8 := [42, 180, 0, 46, 180, 1, 32, 27, 50, 77, 42, 3, 182, 1, 25, 62, 44, 180, 1, 40, 54, 4, 29, 2]
abbrev dktX0_roomOf_0 : List UInt8 := dkwX0_roomOf_0 ++ dktX0_roomOf_1
theorem dksX0_roomOf_0 : cX0_roomOf.data.toList.drop 0 = dktX0_roomOf_0 := by decide +kernel
theorem dksX0_roomOf_1 : cX0_roomOf.data.toList.drop 24 = dktX0_roomOf_1 := dk_seg dksX0_roomOf_0 24 rfl rfl
theorem dksX0_roomOf_2 : cX0_roomOf.data.toList.drop 48 = dktX0_roomOf_2 := dk_seg dksX0_roomOf_1 24 rfl rfl
theorem dksX0_roomOf_3 : cX0_roomOf.data.toList.drop 71 = dktX0_roomOf_3 := dk_seg dksX0_roomOf_2 23 rfl rfl
theorem dX0_roomOf_0 : decode cX0_roomOf 0 = .ok (.aload_n 0, 1) := dk_42 (dk_at dksX0_roomOf_0 0 rfl rfl)
theorem dX0_roomOf_1 : decode cX0_roomOf 1 = .ok (.getfield 46, 3) := dk_180 0 46 (dk_at dksX0_roomOf_0 1 rfl rfl)
theorem dX0_roomOf_4 : decode cX0_roomOf 4 = .ok (.getfield 288, 3) := dk_180 1 32 (dk_at dksX0_roomOf_0 4 rfl rfl)
theorem dX0_roomOf_7 : decode cX0_roomOf 7 = .ok (.iload_n 1, 1) := dk_27 (dk_at dksX0_roomOf_0 7 rfl rfl)
theorem dX0_roomOf_8 : decode cX0_roomOf 8 = .ok (.aaload, 1) := dk_50 (dk_at dksX0_roomOf_0 8 rfl rfl)
theorem dX0_roomOf_9 : decode cX0_roomOf 9 = .ok (.astore_n 2, 1) := dk_77 (dk_at dksX0_roomOf_0 9 rfl rfl)
theorem dX0_roomOf_10 : decode cX0_roomOf 10 = .ok (.aload_n 0, 1) := dk_42 (dk_at dksX0_roomOf_0 10 rfl rfl)
theorem dX0_roomOf_11 : decode cX0_roomOf 11 = .ok (.iconst 0, 1) := dk_3 (dk_at dksX0_roomOf_0 11 rfl rfl)
theorem dX0_roomOf_12 : decode cX0_roomOf 12 = .ok (.invokevirtual 281, 3) := dk_182 1 25 (dk_at dksX0_roomOf_0 12 rfl rfl)
theorem dX0_roomOf_15 : decode cX0_roomOf 15 = .ok (.istore_n 3, 1) := dk_62 (dk_at dksX0_roomOf_0 15 rfl rfl)
theorem dX0_roomOf_16 : decode cX0_roomOf 16 = .ok (.aload_n 2, 1) := dk_44 (dk_at dksX0_roomOf_0 16 rfl rfl)
theorem dX0_roomOf_17 : decode cX0_roomOf 17 = .ok (.getfield 296, 3) := dk_180 1 40 (dk_at dksX0_roomOf_0 17 rfl rfl)
theorem dX0_roomOf_20 : decode cX0_roomOf 20 = .ok (.istore 4, 2) := dk_54 4 (dk_at dksX0_roomOf_0 20 rfl rfl)
theorem dX0_roomOf_22 : decode cX0_roomOf 22 = .ok (.iload_n 3, 1) := dk_29 (dk_at dksX0_roomOf_0 22 rfl rfl)
theorem dX0_roomOf_23 : decode cX0_roomOf 23 = .ok (.iconst (-1), 1) := dk_2 (dk_at dksX0_roomOf_0 23 rfl rfl)
theorem dX0_roomOf_24 : decode cX0_roomOf 24 = .ok (.if_icmp .eq 46, 3) := dk_159 0 46 (dk_at dksX0_roomOf_1 0 rfl rfl)
theorem dX0_roomOf_27 : decode cX0_roomOf 27 = .ok (.aload_n 0, 1) := dk_42 (dk_at dksX0_roomOf_1 3 rfl rfl)
theorem dX0_roomOf_28 : decode cX0_roomOf 28 = .ok (.getfield 84, 3) := dk_180 0 84 (dk_at dksX0_roomOf_1 4 rfl rfl)
theorem dX0_roomOf_31 : decode cX0_roomOf 31 = .ok (.bipush 115, 2) := dk_16 115 (dk_at dksX0_roomOf_1 7 rfl rfl)
theorem dX0_roomOf_33 : decode cX0_roomOf 33 = .ok (.aload_n 2, 1) := dk_44 (dk_at dksX0_roomOf_1 9 rfl rfl)
theorem dX0_roomOf_34 : decode cX0_roomOf 34 = .ok (.getfield 296, 3) := dk_180 1 40 (dk_at dksX0_roomOf_1 10 rfl rfl)
theorem dX0_roomOf_37 : decode cX0_roomOf 37 = .ok (.iastore, 1) := dk_79 (dk_at dksX0_roomOf_1 13 rfl rfl)
theorem dX0_roomOf_38 : decode cX0_roomOf 38 = .ok (.aload_n 0, 1) := dk_42 (dk_at dksX0_roomOf_1 14 rfl rfl)
theorem dX0_roomOf_39 : decode cX0_roomOf 39 = .ok (.getfield 84, 3) := dk_180 0 84 (dk_at dksX0_roomOf_1 15 rfl rfl)
theorem dX0_roomOf_42 : decode cX0_roomOf 42 = .ok (.bipush 110, 2) := dk_16 110 (dk_at dksX0_roomOf_1 18 rfl rfl)
theorem dX0_roomOf_44 : decode cX0_roomOf 44 = .ok (.iload_n 1, 1) := dk_27 (dk_at dksX0_roomOf_1 20 rfl rfl)
theorem dX0_roomOf_45 : decode cX0_roomOf 45 = .ok (.iastore, 1) := dk_79 (dk_at dksX0_roomOf_1 21 rfl rfl)
theorem dX0_roomOf_46 : decode cX0_roomOf 46 = .ok (.aload_n 0, 1) := dk_42 (dk_at dksX0_roomOf_1 22 rfl rfl)
theorem dX0_roomOf_47 : decode cX0_roomOf 47 = .ok (.aload_n 0, 1) := dk_42 (dk_at dksX0_roomOf_1 23 rfl rfl)
theorem dX0_roomOf_48 : decode cX0_roomOf 48 = .ok (.getfield 46, 3) := dk_180 0 46 (dk_at dksX0_roomOf_2 0 rfl rfl)
theorem dX0_roomOf_51 : decode cX0_roomOf 51 = .ok (.getfield 274, 3) := dk_180 1 18 (dk_at dksX0_roomOf_2 3 rfl rfl)
theorem dX0_roomOf_54 : decode cX0_roomOf 54 = .ok (.iload_n 3, 1) := dk_29 (dk_at dksX0_roomOf_2 6 rfl rfl)
theorem dX0_roomOf_55 : decode cX0_roomOf 55 = .ok (.aaload, 1) := dk_50 (dk_at dksX0_roomOf_2 7 rfl rfl)
theorem dX0_roomOf_56 : decode cX0_roomOf 56 = .ok (.getfield 321, 3) := dk_180 1 65 (dk_at dksX0_roomOf_2 8 rfl rfl)
theorem dX0_roomOf_59 : decode cX0_roomOf 59 = .ok (.invokevirtual 325, 3) := dk_182 1 69 (dk_at dksX0_roomOf_2 11 rfl rfl)
theorem dX0_roomOf_62 : decode cX0_roomOf 62 = .ok (.iconst 1, 1) := dk_4 (dk_at dksX0_roomOf_2 14 rfl rfl)
theorem dX0_roomOf_63 : decode cX0_roomOf 63 = .ok (.bipush 9, 2) := dk_16 9 (dk_at dksX0_roomOf_2 15 rfl rfl)
theorem dX0_roomOf_65 : decode cX0_roomOf 65 = .ok (.invokestatic 329, 3) := dk_184 1 73 (dk_at dksX0_roomOf_2 17 rfl rfl)
theorem dX0_roomOf_68 : decode cX0_roomOf 68 = .ok (.istore 4, 2) := dk_54 4 (dk_at dksX0_roomOf_2 20 rfl rfl)
theorem dX0_roomOf_70 : decode cX0_roomOf 70 = .ok (.aload_n 2, 1) := dk_44 (dk_at dksX0_roomOf_2 22 rfl rfl)
theorem dX0_roomOf_71 : decode cX0_roomOf 71 = .ok (.iload 4, 2) := dk_21 4 (dk_at dksX0_roomOf_3 0 rfl rfl)
theorem dX0_roomOf_73 : decode cX0_roomOf 73 = .ok (.invokevirtual 332, 3) := dk_182 1 76 (dk_at dksX0_roomOf_3 2 rfl rfl)
theorem dX0_roomOf_76 : decode cX0_roomOf 76 = .ok (.ireturn, 1) := dk_172 (dk_at dksX0_roomOf_3 5 rfl rfl)
abbrev cX0_reckon : ByteArray := prog_1_method_9_code
def yX0_reckon : MethodName := ⟨RX0, "reckon", "(LKeptLeaves$Words;)I"⟩
def dkwX0_reckon_6 : List UInt8 := [180, 0, 69, 3, 46, 172]
abbrev dktX0_reckon_6 : List UInt8 := dkwX0_reckon_6 ++ []
def dkwX0_reckon_5 : List UInt8 := [180, 0, 69, 28, 4, 100, 46, 42, 180, 0, 69, 28, 46, 184, 0, 152, 79, 132, 3, 1, 167, 255, 124, 42]
abbrev dktX0_reckon_5 : List UInt8 := dkwX0_reckon_5 ++ dktX0_reckon_6
def dkwX0_reckon_4 : List UInt8 := [4, 167, 0, 4, 3, 79, 167, 0, 33, 132, 2, 255, 42, 180, 0, 69, 28, 4, 100, 21, 4, 42]
abbrev dktX0_reckon_4 : List UInt8 := dkwX0_reckon_4 ++ dktX0_reckon_5
def dkwX0_reckon_3 : List UInt8 := [21, 4, 6, 160, 0, 30, 42, 180, 0, 69, 28, 4, 100, 42, 180, 0, 69, 28, 4, 100, 46, 154, 0, 7]
abbrev dktX0_reckon_3 : List UInt8 := dkwX0_reckon_3 ++ dktX0_reckon_4
def dkwX0_reckon_2 : List UInt8 := [29, 46, 167, 0, 14, 42, 180, 0, 84, 43, 180, 0, 149, 29, 46, 46, 79, 132, 2, 1, 167, 0, 66]
abbrev dktX0_reckon_2 : List UInt8 := dkwX0_reckon_2 ++ dktX0_reckon_3
def dkwX0_reckon_1 : List UInt8 := [159, 0, 9, 21, 4, 5, 160, 0, 41, 42, 180, 0, 69, 28, 21, 4, 4, 160, 0, 12, 43, 180, 0, 149]
abbrev dktX0_reckon_1 : List UInt8 := dkwX0_reckon_1 ++ dktX0_reckon_2
def dkwX0_reckon_0 : List UInt8 := [3, 61, 3, 62, 29, 43, 180, 0, 141, 162, 0, 130, 43, 180, 0, 146, 29, 46, 54, 4, 21, 4, 4]
abbrev dktX0_reckon_0 : List UInt8 := dkwX0_reckon_0 ++ dktX0_reckon_1
theorem dksX0_reckon_0 : cX0_reckon.data.toList.drop 0 = dktX0_reckon_0 := by decide +kernel
theorem dksX0_reckon_1 : cX0_reckon.data.toList.drop 23 = dktX0_reckon_1 := dk_seg dksX0_reckon_0 23 rfl rfl
theorem dksX0_reckon_2 : cX0_reckon.data.toList.drop 47 = dktX0_reckon_2 := dk_seg dksX0_reckon_1 24 rfl rfl
theorem dksX0_reckon_3 : cX0_reckon.data.toList.drop 70 = dktX0_reckon_3 := dk_seg dksX0_reckon_2 23 rfl rfl
theorem dksX0_reckon_4 : cX0_reckon.data.toList.drop 94 = dktX0_reckon_4 := dk_seg dksX0_reckon_3 24 rfl rfl
theorem dksX0_reckon_5 : cX0_reckon.data.toList.drop 116 = dktX0_reckon_5 := dk_seg dksX0_reckon_4 22 rfl rfl
theorem dksX0_reckon_6 : cX0_reckon.data.toList.drop 140 = dktX0_reckon_6 := dk_seg dksX0_reckon_5 24 rfl rfl
theorem dX0_reckon_0 : decode cX0_reckon 0 = .ok (.iconst 0, 1) := dk_3 (dk_at dksX0_reckon_0 0 rfl rfl)
theorem dX0_reckon_1 : decode cX0_reckon 1 = .ok (.istore_n 2, 1) := dk_61 (dk_at dksX0_reckon_0 1 rfl rfl)
theorem dX0_reckon_2 : decode cX0_reckon 2 = .ok (.iconst 0, 1) := dk_3 (dk_at dksX0_reckon_0 2 rfl rfl)
theorem dX0_reckon_3 : decode cX0_reckon 3 = .ok (.istore_n 3, 1) := dk_62 (dk_at dksX0_reckon_0 3 rfl rfl)
theorem dX0_reckon_4 : decode cX0_reckon 4 = .ok (.iload_n 3, 1) := dk_29 (dk_at dksX0_reckon_0 4 rfl rfl)
theorem dX0_reckon_5 : decode cX0_reckon 5 = .ok (.aload_n 1, 1) := dk_43 (dk_at dksX0_reckon_0 5 rfl rfl)
theorem dX0_reckon_6 : decode cX0_reckon 6 = .ok (.getfield 141, 3) := dk_180 0 141 (dk_at dksX0_reckon_0 6 rfl rfl)
theorem dX0_reckon_9 : decode cX0_reckon 9 = .ok (.if_icmp .ge 130, 3) := dk_162 0 130 (dk_at dksX0_reckon_0 9 rfl rfl)
theorem dX0_reckon_12 : decode cX0_reckon 12 = .ok (.aload_n 1, 1) := dk_43 (dk_at dksX0_reckon_0 12 rfl rfl)
theorem dX0_reckon_13 : decode cX0_reckon 13 = .ok (.getfield 146, 3) := dk_180 0 146 (dk_at dksX0_reckon_0 13 rfl rfl)
theorem dX0_reckon_16 : decode cX0_reckon 16 = .ok (.iload_n 3, 1) := dk_29 (dk_at dksX0_reckon_0 16 rfl rfl)
theorem dX0_reckon_17 : decode cX0_reckon 17 = .ok (.iaload, 1) := dk_46 (dk_at dksX0_reckon_0 17 rfl rfl)
theorem dX0_reckon_18 : decode cX0_reckon 18 = .ok (.istore 4, 2) := dk_54 4 (dk_at dksX0_reckon_0 18 rfl rfl)
theorem dX0_reckon_20 : decode cX0_reckon 20 = .ok (.iload 4, 2) := dk_21 4 (dk_at dksX0_reckon_0 20 rfl rfl)
theorem dX0_reckon_22 : decode cX0_reckon 22 = .ok (.iconst 1, 1) := dk_4 (dk_at dksX0_reckon_0 22 rfl rfl)
theorem dX0_reckon_23 : decode cX0_reckon 23 = .ok (.if_icmp .eq 9, 3) := dk_159 0 9 (dk_at dksX0_reckon_1 0 rfl rfl)
theorem dX0_reckon_26 : decode cX0_reckon 26 = .ok (.iload 4, 2) := dk_21 4 (dk_at dksX0_reckon_1 3 rfl rfl)
theorem dX0_reckon_28 : decode cX0_reckon 28 = .ok (.iconst 2, 1) := dk_5 (dk_at dksX0_reckon_1 5 rfl rfl)
theorem dX0_reckon_29 : decode cX0_reckon 29 = .ok (.if_icmp .ne 41, 3) := dk_160 0 41 (dk_at dksX0_reckon_1 6 rfl rfl)
theorem dX0_reckon_32 : decode cX0_reckon 32 = .ok (.aload_n 0, 1) := dk_42 (dk_at dksX0_reckon_1 9 rfl rfl)
theorem dX0_reckon_33 : decode cX0_reckon 33 = .ok (.getfield 69, 3) := dk_180 0 69 (dk_at dksX0_reckon_1 10 rfl rfl)
theorem dX0_reckon_36 : decode cX0_reckon 36 = .ok (.iload_n 2, 1) := dk_28 (dk_at dksX0_reckon_1 13 rfl rfl)
theorem dX0_reckon_37 : decode cX0_reckon 37 = .ok (.iload 4, 2) := dk_21 4 (dk_at dksX0_reckon_1 14 rfl rfl)
theorem dX0_reckon_39 : decode cX0_reckon 39 = .ok (.iconst 1, 1) := dk_4 (dk_at dksX0_reckon_1 16 rfl rfl)
theorem dX0_reckon_40 : decode cX0_reckon 40 = .ok (.if_icmp .ne 12, 3) := dk_160 0 12 (dk_at dksX0_reckon_1 17 rfl rfl)
theorem dX0_reckon_43 : decode cX0_reckon 43 = .ok (.aload_n 1, 1) := dk_43 (dk_at dksX0_reckon_1 20 rfl rfl)
theorem dX0_reckon_44 : decode cX0_reckon 44 = .ok (.getfield 149, 3) := dk_180 0 149 (dk_at dksX0_reckon_1 21 rfl rfl)
theorem dX0_reckon_47 : decode cX0_reckon 47 = .ok (.iload_n 3, 1) := dk_29 (dk_at dksX0_reckon_2 0 rfl rfl)
theorem dX0_reckon_48 : decode cX0_reckon 48 = .ok (.iaload, 1) := dk_46 (dk_at dksX0_reckon_2 1 rfl rfl)
theorem dX0_reckon_49 : decode cX0_reckon 49 = .ok (.goto 14, 3) := dk_167 0 14 (dk_at dksX0_reckon_2 2 rfl rfl)
theorem dX0_reckon_52 : decode cX0_reckon 52 = .ok (.aload_n 0, 1) := dk_42 (dk_at dksX0_reckon_2 5 rfl rfl)
theorem dX0_reckon_53 : decode cX0_reckon 53 = .ok (.getfield 84, 3) := dk_180 0 84 (dk_at dksX0_reckon_2 6 rfl rfl)
theorem dX0_reckon_56 : decode cX0_reckon 56 = .ok (.aload_n 1, 1) := dk_43 (dk_at dksX0_reckon_2 9 rfl rfl)
theorem dX0_reckon_57 : decode cX0_reckon 57 = .ok (.getfield 149, 3) := dk_180 0 149 (dk_at dksX0_reckon_2 10 rfl rfl)
theorem dX0_reckon_60 : decode cX0_reckon 60 = .ok (.iload_n 3, 1) := dk_29 (dk_at dksX0_reckon_2 13 rfl rfl)
theorem dX0_reckon_61 : decode cX0_reckon 61 = .ok (.iaload, 1) := dk_46 (dk_at dksX0_reckon_2 14 rfl rfl)
theorem dX0_reckon_62 : decode cX0_reckon 62 = .ok (.iaload, 1) := dk_46 (dk_at dksX0_reckon_2 15 rfl rfl)
theorem dX0_reckon_63 : decode cX0_reckon 63 = .ok (.iastore, 1) := dk_79 (dk_at dksX0_reckon_2 16 rfl rfl)
theorem dX0_reckon_64 : decode cX0_reckon 64 = .ok (.iinc 2 1, 3) := dk_132 2 1 (dk_at dksX0_reckon_2 17 rfl rfl)
theorem dX0_reckon_67 : decode cX0_reckon 67 = .ok (.goto 66, 3) := dk_167 0 66 (dk_at dksX0_reckon_2 20 rfl rfl)
theorem dX0_reckon_70 : decode cX0_reckon 70 = .ok (.iload 4, 2) := dk_21 4 (dk_at dksX0_reckon_3 0 rfl rfl)
theorem dX0_reckon_72 : decode cX0_reckon 72 = .ok (.iconst 3, 1) := dk_6 (dk_at dksX0_reckon_3 2 rfl rfl)
theorem dX0_reckon_73 : decode cX0_reckon 73 = .ok (.if_icmp .ne 30, 3) := dk_160 0 30 (dk_at dksX0_reckon_3 3 rfl rfl)
theorem dX0_reckon_76 : decode cX0_reckon 76 = .ok (.aload_n 0, 1) := dk_42 (dk_at dksX0_reckon_3 6 rfl rfl)
theorem dX0_reckon_77 : decode cX0_reckon 77 = .ok (.getfield 69, 3) := dk_180 0 69 (dk_at dksX0_reckon_3 7 rfl rfl)
theorem dX0_reckon_80 : decode cX0_reckon 80 = .ok (.iload_n 2, 1) := dk_28 (dk_at dksX0_reckon_3 10 rfl rfl)
theorem dX0_reckon_81 : decode cX0_reckon 81 = .ok (.iconst 1, 1) := dk_4 (dk_at dksX0_reckon_3 11 rfl rfl)
theorem dX0_reckon_82 : decode cX0_reckon 82 = .ok (.isub, 1) := dk_100 (dk_at dksX0_reckon_3 12 rfl rfl)
theorem dX0_reckon_83 : decode cX0_reckon 83 = .ok (.aload_n 0, 1) := dk_42 (dk_at dksX0_reckon_3 13 rfl rfl)
theorem dX0_reckon_84 : decode cX0_reckon 84 = .ok (.getfield 69, 3) := dk_180 0 69 (dk_at dksX0_reckon_3 14 rfl rfl)
theorem dX0_reckon_87 : decode cX0_reckon 87 = .ok (.iload_n 2, 1) := dk_28 (dk_at dksX0_reckon_3 17 rfl rfl)
theorem dX0_reckon_88 : decode cX0_reckon 88 = .ok (.iconst 1, 1) := dk_4 (dk_at dksX0_reckon_3 18 rfl rfl)
theorem dX0_reckon_89 : decode cX0_reckon 89 = .ok (.isub, 1) := dk_100 (dk_at dksX0_reckon_3 19 rfl rfl)
theorem dX0_reckon_90 : decode cX0_reckon 90 = .ok (.iaload, 1) := dk_46 (dk_at dksX0_reckon_3 20 rfl rfl)
theorem dX0_reckon_91 : decode cX0_reckon 91 = .ok (.ifCond .ne 7, 3) := dk_154 0 7 (dk_at dksX0_reckon_3 21 rfl rfl)
theorem dX0_reckon_94 : decode cX0_reckon 94 = .ok (.iconst 1, 1) := dk_4 (dk_at dksX0_reckon_4 0 rfl rfl)
theorem dX0_reckon_95 : decode cX0_reckon 95 = .ok (.goto 4, 3) := dk_167 0 4 (dk_at dksX0_reckon_4 1 rfl rfl)
theorem dX0_reckon_98 : decode cX0_reckon 98 = .ok (.iconst 0, 1) := dk_3 (dk_at dksX0_reckon_4 4 rfl rfl)
theorem dX0_reckon_99 : decode cX0_reckon 99 = .ok (.iastore, 1) := dk_79 (dk_at dksX0_reckon_4 5 rfl rfl)
theorem dX0_reckon_100 : decode cX0_reckon 100 = .ok (.goto 33, 3) := dk_167 0 33 (dk_at dksX0_reckon_4 6 rfl rfl)
theorem dX0_reckon_103 : decode cX0_reckon 103 = .ok (.iinc 2 (-1), 3) := dk_132 2 255 (dk_at dksX0_reckon_4 9 rfl rfl)
theorem dX0_reckon_106 : decode cX0_reckon 106 = .ok (.aload_n 0, 1) := dk_42 (dk_at dksX0_reckon_4 12 rfl rfl)
theorem dX0_reckon_107 : decode cX0_reckon 107 = .ok (.getfield 69, 3) := dk_180 0 69 (dk_at dksX0_reckon_4 13 rfl rfl)
theorem dX0_reckon_110 : decode cX0_reckon 110 = .ok (.iload_n 2, 1) := dk_28 (dk_at dksX0_reckon_4 16 rfl rfl)
theorem dX0_reckon_111 : decode cX0_reckon 111 = .ok (.iconst 1, 1) := dk_4 (dk_at dksX0_reckon_4 17 rfl rfl)
theorem dX0_reckon_112 : decode cX0_reckon 112 = .ok (.isub, 1) := dk_100 (dk_at dksX0_reckon_4 18 rfl rfl)
theorem dX0_reckon_113 : decode cX0_reckon 113 = .ok (.iload 4, 2) := dk_21 4 (dk_at dksX0_reckon_4 19 rfl rfl)
theorem dX0_reckon_115 : decode cX0_reckon 115 = .ok (.aload_n 0, 1) := dk_42 (dk_at dksX0_reckon_4 21 rfl rfl)
theorem dX0_reckon_116 : decode cX0_reckon 116 = .ok (.getfield 69, 3) := dk_180 0 69 (dk_at dksX0_reckon_5 0 rfl rfl)
theorem dX0_reckon_119 : decode cX0_reckon 119 = .ok (.iload_n 2, 1) := dk_28 (dk_at dksX0_reckon_5 3 rfl rfl)
theorem dX0_reckon_120 : decode cX0_reckon 120 = .ok (.iconst 1, 1) := dk_4 (dk_at dksX0_reckon_5 4 rfl rfl)
theorem dX0_reckon_121 : decode cX0_reckon 121 = .ok (.isub, 1) := dk_100 (dk_at dksX0_reckon_5 5 rfl rfl)
theorem dX0_reckon_122 : decode cX0_reckon 122 = .ok (.iaload, 1) := dk_46 (dk_at dksX0_reckon_5 6 rfl rfl)
theorem dX0_reckon_123 : decode cX0_reckon 123 = .ok (.aload_n 0, 1) := dk_42 (dk_at dksX0_reckon_5 7 rfl rfl)
theorem dX0_reckon_124 : decode cX0_reckon 124 = .ok (.getfield 69, 3) := dk_180 0 69 (dk_at dksX0_reckon_5 8 rfl rfl)
theorem dX0_reckon_127 : decode cX0_reckon 127 = .ok (.iload_n 2, 1) := dk_28 (dk_at dksX0_reckon_5 11 rfl rfl)
theorem dX0_reckon_128 : decode cX0_reckon 128 = .ok (.iaload, 1) := dk_46 (dk_at dksX0_reckon_5 12 rfl rfl)
theorem dX0_reckon_129 : decode cX0_reckon 129 = .ok (.invokestatic 152, 3) := dk_184 0 152 (dk_at dksX0_reckon_5 13 rfl rfl)
theorem dX0_reckon_132 : decode cX0_reckon 132 = .ok (.iastore, 1) := dk_79 (dk_at dksX0_reckon_5 16 rfl rfl)
theorem dX0_reckon_133 : decode cX0_reckon 133 = .ok (.iinc 3 1, 3) := dk_132 3 1 (dk_at dksX0_reckon_5 17 rfl rfl)
theorem dX0_reckon_136 : decode cX0_reckon 136 = .ok (.goto (-132), 3) := dk_167 255 124 (dk_at dksX0_reckon_5 20 rfl rfl)
theorem dX0_reckon_139 : decode cX0_reckon 139 = .ok (.aload_n 0, 1) := dk_42 (dk_at dksX0_reckon_5 23 rfl rfl)
theorem dX0_reckon_140 : decode cX0_reckon 140 = .ok (.getfield 69, 3) := dk_180 0 69 (dk_at dksX0_reckon_6 0 rfl rfl)
theorem dX0_reckon_143 : decode cX0_reckon 143 = .ok (.iconst 0, 1) := dk_3 (dk_at dksX0_reckon_6 3 rfl rfl)
theorem dX0_reckon_144 : decode cX0_reckon 144 = .ok (.iaload, 1) := dk_46 (dk_at dksX0_reckon_6 4 rfl rfl)
theorem dX0_reckon_145 : decode cX0_reckon 145 = .ok (.ireturn, 1) := dk_172 (dk_at dksX0_reckon_6 5 rfl rfl)
abbrev cX0_both : ByteArray := prog_1_method_8_code
def yX0_both : MethodName := ⟨RX0, "both", "(III)I"⟩
def dkwX0_both_5 : List UInt8 := [154, 0, 7, 28, 153, 0, 7, 4, 167, 0, 4, 3, 172]
abbrev dktX0_both_5 : List UInt8 := dkwX0_both_5 ++ []
def dkwX0_both_4 : List UInt8 := [164, 0, 7, 4, 167, 0, 4, 3, 172, 27, 153, 0, 11, 28, 153, 0, 7, 4, 167, 0, 4, 3, 172, 27]
abbrev dktX0_both_4 : List UInt8 := dkwX0_both_4 ++ dktX0_both_5
def dkwX0_both_3 : List UInt8 := [27, 28, 162, 0, 7, 4, 167, 0, 4, 3, 172, 27, 28, 160, 0, 7, 4, 167, 0, 4, 3, 172, 27, 28]
abbrev dktX0_both_3 : List UInt8 := dkwX0_both_3 ++ dktX0_both_4
def dkwX0_both_2 : List UInt8 := [27, 28, 104, 172, 28, 154, 0, 7, 3, 167, 0, 6, 27, 28, 108, 172, 27, 28, 96, 172, 27, 28, 100, 172]
abbrev dktX0_both_2 : List UInt8 := dkwX0_both_2 ++ dktX0_both_3
def dkwX0_both_1 : List UInt8 := [170, 0, 0, 0, 0, 0, 122, 0, 0, 0, 4, 0, 0, 0, 12, 0, 0, 0, 51, 0, 0, 0, 67, 0, 0, 0, 71, 0, 0, 0, 75, 0, 0, 0, 86, 0, 0, 0, 97, 0, 0, 0, 108, 0, 0, 0, 122, 0, 0, 0, 55]
abbrev dktX0_both_1 : List UInt8 := dkwX0_both_1 ++ dktX0_both_2
def dkwX0_both_0 : List UInt8 := [26]
abbrev dktX0_both_0 : List UInt8 := dkwX0_both_0 ++ dktX0_both_1
theorem dksX0_both_0 : cX0_both.data.toList.drop 0 = dktX0_both_0 := by decide +kernel
theorem dksX0_both_1 : cX0_both.data.toList.drop 1 = dktX0_both_1 := dk_seg dksX0_both_0 1 rfl rfl
theorem dksX0_both_2 : cX0_both.data.toList.drop 52 = dktX0_both_2 := dk_seg dksX0_both_1 51 rfl rfl
theorem dksX0_both_3 : cX0_both.data.toList.drop 76 = dktX0_both_3 := dk_seg dksX0_both_2 24 rfl rfl
theorem dksX0_both_4 : cX0_both.data.toList.drop 100 = dktX0_both_4 := dk_seg dksX0_both_3 24 rfl rfl
theorem dksX0_both_5 : cX0_both.data.toList.drop 124 = dktX0_both_5 := dk_seg dksX0_both_4 24 rfl rfl
theorem dX0_both_0 : decode cX0_both 0 = .ok (.iload_n 0, 1) := dk_26 (dk_at dksX0_both_0 0 rfl rfl)
theorem dX0_both_1 : decode cX0_both 1 = .ok (.tableswitch 122 4 12 #[51, 67, 71, 75, 86, 97, 108, 122, 55], 51) := by decide +kernel
theorem dX0_both_52 : decode cX0_both 52 = .ok (.iload_n 1, 1) := dk_27 (dk_at dksX0_both_2 0 rfl rfl)
theorem dX0_both_53 : decode cX0_both 53 = .ok (.iload_n 2, 1) := dk_28 (dk_at dksX0_both_2 1 rfl rfl)
theorem dX0_both_54 : decode cX0_both 54 = .ok (.imul, 1) := dk_104 (dk_at dksX0_both_2 2 rfl rfl)
theorem dX0_both_55 : decode cX0_both 55 = .ok (.ireturn, 1) := dk_172 (dk_at dksX0_both_2 3 rfl rfl)
theorem dX0_both_56 : decode cX0_both 56 = .ok (.iload_n 2, 1) := dk_28 (dk_at dksX0_both_2 4 rfl rfl)
theorem dX0_both_57 : decode cX0_both 57 = .ok (.ifCond .ne 7, 3) := dk_154 0 7 (dk_at dksX0_both_2 5 rfl rfl)
theorem dX0_both_60 : decode cX0_both 60 = .ok (.iconst 0, 1) := dk_3 (dk_at dksX0_both_2 8 rfl rfl)
theorem dX0_both_61 : decode cX0_both 61 = .ok (.goto 6, 3) := dk_167 0 6 (dk_at dksX0_both_2 9 rfl rfl)
theorem dX0_both_64 : decode cX0_both 64 = .ok (.iload_n 1, 1) := dk_27 (dk_at dksX0_both_2 12 rfl rfl)
theorem dX0_both_65 : decode cX0_both 65 = .ok (.iload_n 2, 1) := dk_28 (dk_at dksX0_both_2 13 rfl rfl)
theorem dX0_both_66 : decode cX0_both 66 = .ok (.idiv, 1) := dk_108 (dk_at dksX0_both_2 14 rfl rfl)
theorem dX0_both_67 : decode cX0_both 67 = .ok (.ireturn, 1) := dk_172 (dk_at dksX0_both_2 15 rfl rfl)
theorem dX0_both_68 : decode cX0_both 68 = .ok (.iload_n 1, 1) := dk_27 (dk_at dksX0_both_2 16 rfl rfl)
theorem dX0_both_69 : decode cX0_both 69 = .ok (.iload_n 2, 1) := dk_28 (dk_at dksX0_both_2 17 rfl rfl)
theorem dX0_both_70 : decode cX0_both 70 = .ok (.iadd, 1) := dk_96 (dk_at dksX0_both_2 18 rfl rfl)
theorem dX0_both_71 : decode cX0_both 71 = .ok (.ireturn, 1) := dk_172 (dk_at dksX0_both_2 19 rfl rfl)
theorem dX0_both_72 : decode cX0_both 72 = .ok (.iload_n 1, 1) := dk_27 (dk_at dksX0_both_2 20 rfl rfl)
theorem dX0_both_73 : decode cX0_both 73 = .ok (.iload_n 2, 1) := dk_28 (dk_at dksX0_both_2 21 rfl rfl)
theorem dX0_both_74 : decode cX0_both 74 = .ok (.isub, 1) := dk_100 (dk_at dksX0_both_2 22 rfl rfl)
theorem dX0_both_75 : decode cX0_both 75 = .ok (.ireturn, 1) := dk_172 (dk_at dksX0_both_2 23 rfl rfl)
theorem dX0_both_76 : decode cX0_both 76 = .ok (.iload_n 1, 1) := dk_27 (dk_at dksX0_both_3 0 rfl rfl)
theorem dX0_both_77 : decode cX0_both 77 = .ok (.iload_n 2, 1) := dk_28 (dk_at dksX0_both_3 1 rfl rfl)
theorem dX0_both_78 : decode cX0_both 78 = .ok (.if_icmp .ge 7, 3) := dk_162 0 7 (dk_at dksX0_both_3 2 rfl rfl)
theorem dX0_both_81 : decode cX0_both 81 = .ok (.iconst 1, 1) := dk_4 (dk_at dksX0_both_3 5 rfl rfl)
theorem dX0_both_82 : decode cX0_both 82 = .ok (.goto 4, 3) := dk_167 0 4 (dk_at dksX0_both_3 6 rfl rfl)
theorem dX0_both_85 : decode cX0_both 85 = .ok (.iconst 0, 1) := dk_3 (dk_at dksX0_both_3 9 rfl rfl)
theorem dX0_both_86 : decode cX0_both 86 = .ok (.ireturn, 1) := dk_172 (dk_at dksX0_both_3 10 rfl rfl)
theorem dX0_both_87 : decode cX0_both 87 = .ok (.iload_n 1, 1) := dk_27 (dk_at dksX0_both_3 11 rfl rfl)
theorem dX0_both_88 : decode cX0_both 88 = .ok (.iload_n 2, 1) := dk_28 (dk_at dksX0_both_3 12 rfl rfl)
theorem dX0_both_89 : decode cX0_both 89 = .ok (.if_icmp .ne 7, 3) := dk_160 0 7 (dk_at dksX0_both_3 13 rfl rfl)
theorem dX0_both_92 : decode cX0_both 92 = .ok (.iconst 1, 1) := dk_4 (dk_at dksX0_both_3 16 rfl rfl)
theorem dX0_both_93 : decode cX0_both 93 = .ok (.goto 4, 3) := dk_167 0 4 (dk_at dksX0_both_3 17 rfl rfl)
theorem dX0_both_96 : decode cX0_both 96 = .ok (.iconst 0, 1) := dk_3 (dk_at dksX0_both_3 20 rfl rfl)
theorem dX0_both_97 : decode cX0_both 97 = .ok (.ireturn, 1) := dk_172 (dk_at dksX0_both_3 21 rfl rfl)
theorem dX0_both_98 : decode cX0_both 98 = .ok (.iload_n 1, 1) := dk_27 (dk_at dksX0_both_3 22 rfl rfl)
theorem dX0_both_99 : decode cX0_both 99 = .ok (.iload_n 2, 1) := dk_28 (dk_at dksX0_both_3 23 rfl rfl)
theorem dX0_both_100 : decode cX0_both 100 = .ok (.if_icmp .le 7, 3) := dk_164 0 7 (dk_at dksX0_both_4 0 rfl rfl)
theorem dX0_both_103 : decode cX0_both 103 = .ok (.iconst 1, 1) := dk_4 (dk_at dksX0_both_4 3 rfl rfl)
theorem dX0_both_104 : decode cX0_both 104 = .ok (.goto 4, 3) := dk_167 0 4 (dk_at dksX0_both_4 4 rfl rfl)
theorem dX0_both_107 : decode cX0_both 107 = .ok (.iconst 0, 1) := dk_3 (dk_at dksX0_both_4 7 rfl rfl)
theorem dX0_both_108 : decode cX0_both 108 = .ok (.ireturn, 1) := dk_172 (dk_at dksX0_both_4 8 rfl rfl)
theorem dX0_both_109 : decode cX0_both 109 = .ok (.iload_n 1, 1) := dk_27 (dk_at dksX0_both_4 9 rfl rfl)
theorem dX0_both_110 : decode cX0_both 110 = .ok (.ifCond .eq 11, 3) := dk_153 0 11 (dk_at dksX0_both_4 10 rfl rfl)
theorem dX0_both_113 : decode cX0_both 113 = .ok (.iload_n 2, 1) := dk_28 (dk_at dksX0_both_4 13 rfl rfl)
theorem dX0_both_114 : decode cX0_both 114 = .ok (.ifCond .eq 7, 3) := dk_153 0 7 (dk_at dksX0_both_4 14 rfl rfl)
theorem dX0_both_117 : decode cX0_both 117 = .ok (.iconst 1, 1) := dk_4 (dk_at dksX0_both_4 17 rfl rfl)
theorem dX0_both_118 : decode cX0_both 118 = .ok (.goto 4, 3) := dk_167 0 4 (dk_at dksX0_both_4 18 rfl rfl)
theorem dX0_both_121 : decode cX0_both 121 = .ok (.iconst 0, 1) := dk_3 (dk_at dksX0_both_4 21 rfl rfl)
theorem dX0_both_122 : decode cX0_both 122 = .ok (.ireturn, 1) := dk_172 (dk_at dksX0_both_4 22 rfl rfl)
theorem dX0_both_123 : decode cX0_both 123 = .ok (.iload_n 1, 1) := dk_27 (dk_at dksX0_both_4 23 rfl rfl)
theorem dX0_both_124 : decode cX0_both 124 = .ok (.ifCond .ne 7, 3) := dk_154 0 7 (dk_at dksX0_both_5 0 rfl rfl)
theorem dX0_both_127 : decode cX0_both 127 = .ok (.iload_n 2, 1) := dk_28 (dk_at dksX0_both_5 3 rfl rfl)
theorem dX0_both_128 : decode cX0_both 128 = .ok (.ifCond .eq 7, 3) := dk_153 0 7 (dk_at dksX0_both_5 4 rfl rfl)
theorem dX0_both_131 : decode cX0_both 131 = .ok (.iconst 1, 1) := dk_4 (dk_at dksX0_both_5 7 rfl rfl)
theorem dX0_both_132 : decode cX0_both 132 = .ok (.goto 4, 3) := dk_167 0 4 (dk_at dksX0_both_5 8 rfl rfl)
theorem dX0_both_135 : decode cX0_both 135 = .ok (.iconst 0, 1) := dk_3 (dk_at dksX0_both_5 11 rfl rfl)
theorem dX0_both_136 : decode cX0_both 136 = .ok (.ireturn, 1) := dk_172 (dk_at dksX0_both_5 12 rfl rfl)
abbrev cX0_within : ByteArray := prog_1_method_3_code
def yX0_within : MethodName := ⟨RX0, "within", "(III)I"⟩
def dkwX0_within_0 : List UInt8 := [27, 28, 26, 184, 0, 4, 184, 0, 10, 172]
abbrev dktX0_within_0 : List UInt8 := dkwX0_within_0 ++ []
theorem dksX0_within_0 : cX0_within.data.toList.drop 0 = dktX0_within_0 := by decide +kernel
theorem dX0_within_0 : decode cX0_within 0 = .ok (.iload_n 1, 1) := dk_27 (dk_at dksX0_within_0 0 rfl rfl)
theorem dX0_within_1 : decode cX0_within 1 = .ok (.iload_n 2, 1) := dk_28 (dk_at dksX0_within_0 1 rfl rfl)
theorem dX0_within_2 : decode cX0_within 2 = .ok (.iload_n 0, 1) := dk_26 (dk_at dksX0_within_0 2 rfl rfl)
theorem dX0_within_3 : decode cX0_within 3 = .ok (.invokestatic 4, 3) := dk_184 0 4 (dk_at dksX0_within_0 3 rfl rfl)
theorem dX0_within_6 : decode cX0_within 6 = .ok (.invokestatic 10, 3) := dk_184 0 10 (dk_at dksX0_within_0 6 rfl rfl)
theorem dX0_within_9 : decode cX0_within 9 = .ok (.ireturn, 1) := dk_172 (dk_at dksX0_within_0 9 rfl rfl)
abbrev cX0_missOf : ByteArray := prog_1_method_39_code
def yX0_missOf : MethodName := ⟨RX0, "missOf", "(I)I"⟩
def dkwX0_missOf_3 : List UInt8 := [182, 1, 69, 3, 17, 3, 231, 184, 1, 73, 54, 4, 44, 21, 4, 42, 27, 182, 1, 78, 182, 1, 81, 172]
abbrev dktX0_missOf_3 : List UInt8 := dkwX0_missOf_3 ++ []
def dkwX0_missOf_2 : List UInt8 := [180, 0, 84, 16, 115, 44, 180, 1, 40, 79, 42, 42, 180, 0, 46, 180, 1, 18, 29, 50, 180, 1, 65]
abbrev dktX0_missOf_2 : List UInt8 := dkwX0_missOf_2 ++ dktX0_missOf_3
def dkwX0_missOf_1 : List UInt8 := [159, 0, 58, 42, 180, 0, 84, 16, 108, 44, 180, 1, 43, 79, 42, 180, 0, 84, 16, 110, 27, 79, 42]
abbrev dktX0_missOf_1 : List UInt8 := dkwX0_missOf_1 ++ dktX0_missOf_2
def dkwX0_missOf_0 : List UInt8 := [42, 180, 0, 46, 180, 1, 32, 27, 50, 77, 42, 4, 182, 1, 25, 62, 44, 180, 1, 43, 54, 4, 29, 2]
abbrev dktX0_missOf_0 : List UInt8 := dkwX0_missOf_0 ++ dktX0_missOf_1
theorem dksX0_missOf_0 : cX0_missOf.data.toList.drop 0 = dktX0_missOf_0 := by decide +kernel
theorem dksX0_missOf_1 : cX0_missOf.data.toList.drop 24 = dktX0_missOf_1 := dk_seg dksX0_missOf_0 24 rfl rfl
theorem dksX0_missOf_2 : cX0_missOf.data.toList.drop 47 = dktX0_missOf_2 := dk_seg dksX0_missOf_1 23 rfl rfl
theorem dksX0_missOf_3 : cX0_missOf.data.toList.drop 70 = dktX0_missOf_3 := dk_seg dksX0_missOf_2 23 rfl rfl
theorem dX0_missOf_0 : decode cX0_missOf 0 = .ok (.aload_n 0, 1) := dk_42 (dk_at dksX0_missOf_0 0 rfl rfl)
theorem dX0_missOf_1 : decode cX0_missOf 1 = .ok (.getfield 46, 3) := dk_180 0 46 (dk_at dksX0_missOf_0 1 rfl rfl)
theorem dX0_missOf_4 : decode cX0_missOf 4 = .ok (.getfield 288, 3) := dk_180 1 32 (dk_at dksX0_missOf_0 4 rfl rfl)
theorem dX0_missOf_7 : decode cX0_missOf 7 = .ok (.iload_n 1, 1) := dk_27 (dk_at dksX0_missOf_0 7 rfl rfl)
theorem dX0_missOf_8 : decode cX0_missOf 8 = .ok (.aaload, 1) := dk_50 (dk_at dksX0_missOf_0 8 rfl rfl)
theorem dX0_missOf_9 : decode cX0_missOf 9 = .ok (.astore_n 2, 1) := dk_77 (dk_at dksX0_missOf_0 9 rfl rfl)
theorem dX0_missOf_10 : decode cX0_missOf 10 = .ok (.aload_n 0, 1) := dk_42 (dk_at dksX0_missOf_0 10 rfl rfl)
theorem dX0_missOf_11 : decode cX0_missOf 11 = .ok (.iconst 1, 1) := dk_4 (dk_at dksX0_missOf_0 11 rfl rfl)
theorem dX0_missOf_12 : decode cX0_missOf 12 = .ok (.invokevirtual 281, 3) := dk_182 1 25 (dk_at dksX0_missOf_0 12 rfl rfl)
theorem dX0_missOf_15 : decode cX0_missOf 15 = .ok (.istore_n 3, 1) := dk_62 (dk_at dksX0_missOf_0 15 rfl rfl)
theorem dX0_missOf_16 : decode cX0_missOf 16 = .ok (.aload_n 2, 1) := dk_44 (dk_at dksX0_missOf_0 16 rfl rfl)
theorem dX0_missOf_17 : decode cX0_missOf 17 = .ok (.getfield 299, 3) := dk_180 1 43 (dk_at dksX0_missOf_0 17 rfl rfl)
theorem dX0_missOf_20 : decode cX0_missOf 20 = .ok (.istore 4, 2) := dk_54 4 (dk_at dksX0_missOf_0 20 rfl rfl)
theorem dX0_missOf_22 : decode cX0_missOf 22 = .ok (.iload_n 3, 1) := dk_29 (dk_at dksX0_missOf_0 22 rfl rfl)
theorem dX0_missOf_23 : decode cX0_missOf 23 = .ok (.iconst (-1), 1) := dk_2 (dk_at dksX0_missOf_0 23 rfl rfl)
theorem dX0_missOf_24 : decode cX0_missOf 24 = .ok (.if_icmp .eq 58, 3) := dk_159 0 58 (dk_at dksX0_missOf_1 0 rfl rfl)
theorem dX0_missOf_27 : decode cX0_missOf 27 = .ok (.aload_n 0, 1) := dk_42 (dk_at dksX0_missOf_1 3 rfl rfl)
theorem dX0_missOf_28 : decode cX0_missOf 28 = .ok (.getfield 84, 3) := dk_180 0 84 (dk_at dksX0_missOf_1 4 rfl rfl)
theorem dX0_missOf_31 : decode cX0_missOf 31 = .ok (.bipush 108, 2) := dk_16 108 (dk_at dksX0_missOf_1 7 rfl rfl)
theorem dX0_missOf_33 : decode cX0_missOf 33 = .ok (.aload_n 2, 1) := dk_44 (dk_at dksX0_missOf_1 9 rfl rfl)
theorem dX0_missOf_34 : decode cX0_missOf 34 = .ok (.getfield 299, 3) := dk_180 1 43 (dk_at dksX0_missOf_1 10 rfl rfl)
theorem dX0_missOf_37 : decode cX0_missOf 37 = .ok (.iastore, 1) := dk_79 (dk_at dksX0_missOf_1 13 rfl rfl)
theorem dX0_missOf_38 : decode cX0_missOf 38 = .ok (.aload_n 0, 1) := dk_42 (dk_at dksX0_missOf_1 14 rfl rfl)
theorem dX0_missOf_39 : decode cX0_missOf 39 = .ok (.getfield 84, 3) := dk_180 0 84 (dk_at dksX0_missOf_1 15 rfl rfl)
theorem dX0_missOf_42 : decode cX0_missOf 42 = .ok (.bipush 110, 2) := dk_16 110 (dk_at dksX0_missOf_1 18 rfl rfl)
theorem dX0_missOf_44 : decode cX0_missOf 44 = .ok (.iload_n 1, 1) := dk_27 (dk_at dksX0_missOf_1 20 rfl rfl)
theorem dX0_missOf_45 : decode cX0_missOf 45 = .ok (.iastore, 1) := dk_79 (dk_at dksX0_missOf_1 21 rfl rfl)
theorem dX0_missOf_46 : decode cX0_missOf 46 = .ok (.aload_n 0, 1) := dk_42 (dk_at dksX0_missOf_1 22 rfl rfl)
theorem dX0_missOf_47 : decode cX0_missOf 47 = .ok (.getfield 84, 3) := dk_180 0 84 (dk_at dksX0_missOf_2 0 rfl rfl)
theorem dX0_missOf_50 : decode cX0_missOf 50 = .ok (.bipush 115, 2) := dk_16 115 (dk_at dksX0_missOf_2 3 rfl rfl)
theorem dX0_missOf_52 : decode cX0_missOf 52 = .ok (.aload_n 2, 1) := dk_44 (dk_at dksX0_missOf_2 5 rfl rfl)
theorem dX0_missOf_53 : decode cX0_missOf 53 = .ok (.getfield 296, 3) := dk_180 1 40 (dk_at dksX0_missOf_2 6 rfl rfl)
theorem dX0_missOf_56 : decode cX0_missOf 56 = .ok (.iastore, 1) := dk_79 (dk_at dksX0_missOf_2 9 rfl rfl)
theorem dX0_missOf_57 : decode cX0_missOf 57 = .ok (.aload_n 0, 1) := dk_42 (dk_at dksX0_missOf_2 10 rfl rfl)
theorem dX0_missOf_58 : decode cX0_missOf 58 = .ok (.aload_n 0, 1) := dk_42 (dk_at dksX0_missOf_2 11 rfl rfl)
theorem dX0_missOf_59 : decode cX0_missOf 59 = .ok (.getfield 46, 3) := dk_180 0 46 (dk_at dksX0_missOf_2 12 rfl rfl)
theorem dX0_missOf_62 : decode cX0_missOf 62 = .ok (.getfield 274, 3) := dk_180 1 18 (dk_at dksX0_missOf_2 15 rfl rfl)
theorem dX0_missOf_65 : decode cX0_missOf 65 = .ok (.iload_n 3, 1) := dk_29 (dk_at dksX0_missOf_2 18 rfl rfl)
theorem dX0_missOf_66 : decode cX0_missOf 66 = .ok (.aaload, 1) := dk_50 (dk_at dksX0_missOf_2 19 rfl rfl)
theorem dX0_missOf_67 : decode cX0_missOf 67 = .ok (.getfield 321, 3) := dk_180 1 65 (dk_at dksX0_missOf_2 20 rfl rfl)
theorem dX0_missOf_70 : decode cX0_missOf 70 = .ok (.invokevirtual 325, 3) := dk_182 1 69 (dk_at dksX0_missOf_3 0 rfl rfl)
theorem dX0_missOf_73 : decode cX0_missOf 73 = .ok (.iconst 0, 1) := dk_3 (dk_at dksX0_missOf_3 3 rfl rfl)
theorem dX0_missOf_74 : decode cX0_missOf 74 = .ok (.sipush 999, 3) := dk_17 3 231 (dk_at dksX0_missOf_3 4 rfl rfl)
theorem dX0_missOf_77 : decode cX0_missOf 77 = .ok (.invokestatic 329, 3) := dk_184 1 73 (dk_at dksX0_missOf_3 7 rfl rfl)
theorem dX0_missOf_80 : decode cX0_missOf 80 = .ok (.istore 4, 2) := dk_54 4 (dk_at dksX0_missOf_3 10 rfl rfl)
theorem dX0_missOf_82 : decode cX0_missOf 82 = .ok (.aload_n 2, 1) := dk_44 (dk_at dksX0_missOf_3 12 rfl rfl)
theorem dX0_missOf_83 : decode cX0_missOf 83 = .ok (.iload 4, 2) := dk_21 4 (dk_at dksX0_missOf_3 13 rfl rfl)
theorem dX0_missOf_85 : decode cX0_missOf 85 = .ok (.aload_n 0, 1) := dk_42 (dk_at dksX0_missOf_3 15 rfl rfl)
theorem dX0_missOf_86 : decode cX0_missOf 86 = .ok (.iload_n 1, 1) := dk_27 (dk_at dksX0_missOf_3 16 rfl rfl)
theorem dX0_missOf_87 : decode cX0_missOf 87 = .ok (.invokevirtual 334, 3) := dk_182 1 78 (dk_at dksX0_missOf_3 17 rfl rfl)
theorem dX0_missOf_90 : decode cX0_missOf 90 = .ok (.invokevirtual 337, 3) := dk_182 1 81 (dk_at dksX0_missOf_3 20 rfl rfl)
theorem dX0_missOf_93 : decode cX0_missOf 93 = .ok (.ireturn, 1) := dk_172 (dk_at dksX0_missOf_3 23 rfl rfl)
abbrev cX0_leaningOn : ByteArray := prog_1_method_37_code
def yX0_leaningOn : MethodName := ⟨RX0, "leaningOn", "(I)I"⟩
def dkwX0_leaningOn_1 : List UInt8 := [50, 180, 1, 46, 27, 160, 0, 7, 4, 167, 0, 4, 3, 96, 61, 132, 3, 1, 167, 255, 218, 28, 172]
abbrev dktX0_leaningOn_1 : List UInt8 := dkwX0_leaningOn_1 ++ []
def dkwX0_leaningOn_0 : List UInt8 := [3, 61, 3, 62, 29, 42, 180, 0, 46, 180, 0, 133, 162, 0, 33, 28, 42, 180, 0, 46, 180, 1, 32, 29]
abbrev dktX0_leaningOn_0 : List UInt8 := dkwX0_leaningOn_0 ++ dktX0_leaningOn_1
theorem dksX0_leaningOn_0 : cX0_leaningOn.data.toList.drop 0 = dktX0_leaningOn_0 := by decide +kernel
theorem dksX0_leaningOn_1 : cX0_leaningOn.data.toList.drop 24 = dktX0_leaningOn_1 := dk_seg dksX0_leaningOn_0 24 rfl rfl
theorem dX0_leaningOn_0 : decode cX0_leaningOn 0 = .ok (.iconst 0, 1) := dk_3 (dk_at dksX0_leaningOn_0 0 rfl rfl)
theorem dX0_leaningOn_1 : decode cX0_leaningOn 1 = .ok (.istore_n 2, 1) := dk_61 (dk_at dksX0_leaningOn_0 1 rfl rfl)
theorem dX0_leaningOn_2 : decode cX0_leaningOn 2 = .ok (.iconst 0, 1) := dk_3 (dk_at dksX0_leaningOn_0 2 rfl rfl)
theorem dX0_leaningOn_3 : decode cX0_leaningOn 3 = .ok (.istore_n 3, 1) := dk_62 (dk_at dksX0_leaningOn_0 3 rfl rfl)
theorem dX0_leaningOn_4 : decode cX0_leaningOn 4 = .ok (.iload_n 3, 1) := dk_29 (dk_at dksX0_leaningOn_0 4 rfl rfl)
theorem dX0_leaningOn_5 : decode cX0_leaningOn 5 = .ok (.aload_n 0, 1) := dk_42 (dk_at dksX0_leaningOn_0 5 rfl rfl)
theorem dX0_leaningOn_6 : decode cX0_leaningOn 6 = .ok (.getfield 46, 3) := dk_180 0 46 (dk_at dksX0_leaningOn_0 6 rfl rfl)
theorem dX0_leaningOn_9 : decode cX0_leaningOn 9 = .ok (.getfield 133, 3) := dk_180 0 133 (dk_at dksX0_leaningOn_0 9 rfl rfl)
theorem dX0_leaningOn_12 : decode cX0_leaningOn 12 = .ok (.if_icmp .ge 33, 3) := dk_162 0 33 (dk_at dksX0_leaningOn_0 12 rfl rfl)
theorem dX0_leaningOn_15 : decode cX0_leaningOn 15 = .ok (.iload_n 2, 1) := dk_28 (dk_at dksX0_leaningOn_0 15 rfl rfl)
theorem dX0_leaningOn_16 : decode cX0_leaningOn 16 = .ok (.aload_n 0, 1) := dk_42 (dk_at dksX0_leaningOn_0 16 rfl rfl)
theorem dX0_leaningOn_17 : decode cX0_leaningOn 17 = .ok (.getfield 46, 3) := dk_180 0 46 (dk_at dksX0_leaningOn_0 17 rfl rfl)
theorem dX0_leaningOn_20 : decode cX0_leaningOn 20 = .ok (.getfield 288, 3) := dk_180 1 32 (dk_at dksX0_leaningOn_0 20 rfl rfl)
theorem dX0_leaningOn_23 : decode cX0_leaningOn 23 = .ok (.iload_n 3, 1) := dk_29 (dk_at dksX0_leaningOn_0 23 rfl rfl)
theorem dX0_leaningOn_24 : decode cX0_leaningOn 24 = .ok (.aaload, 1) := dk_50 (dk_at dksX0_leaningOn_1 0 rfl rfl)
theorem dX0_leaningOn_25 : decode cX0_leaningOn 25 = .ok (.getfield 302, 3) := dk_180 1 46 (dk_at dksX0_leaningOn_1 1 rfl rfl)
theorem dX0_leaningOn_28 : decode cX0_leaningOn 28 = .ok (.iload_n 1, 1) := dk_27 (dk_at dksX0_leaningOn_1 4 rfl rfl)
theorem dX0_leaningOn_29 : decode cX0_leaningOn 29 = .ok (.if_icmp .ne 7, 3) := dk_160 0 7 (dk_at dksX0_leaningOn_1 5 rfl rfl)
theorem dX0_leaningOn_32 : decode cX0_leaningOn 32 = .ok (.iconst 1, 1) := dk_4 (dk_at dksX0_leaningOn_1 8 rfl rfl)
theorem dX0_leaningOn_33 : decode cX0_leaningOn 33 = .ok (.goto 4, 3) := dk_167 0 4 (dk_at dksX0_leaningOn_1 9 rfl rfl)
theorem dX0_leaningOn_36 : decode cX0_leaningOn 36 = .ok (.iconst 0, 1) := dk_3 (dk_at dksX0_leaningOn_1 12 rfl rfl)
theorem dX0_leaningOn_37 : decode cX0_leaningOn 37 = .ok (.iadd, 1) := dk_96 (dk_at dksX0_leaningOn_1 13 rfl rfl)
theorem dX0_leaningOn_38 : decode cX0_leaningOn 38 = .ok (.istore_n 2, 1) := dk_61 (dk_at dksX0_leaningOn_1 14 rfl rfl)
theorem dX0_leaningOn_39 : decode cX0_leaningOn 39 = .ok (.iinc 3 1, 3) := dk_132 3 1 (dk_at dksX0_leaningOn_1 15 rfl rfl)
theorem dX0_leaningOn_42 : decode cX0_leaningOn 42 = .ok (.goto (-38), 3) := dk_167 255 218 (dk_at dksX0_leaningOn_1 18 rfl rfl)
theorem dX0_leaningOn_45 : decode cX0_leaningOn 45 = .ok (.iload_n 2, 1) := dk_28 (dk_at dksX0_leaningOn_1 21 rfl rfl)
theorem dX0_leaningOn_46 : decode cX0_leaningOn 46 = .ok (.ireturn, 1) := dk_172 (dk_at dksX0_leaningOn_1 22 rfl rfl)
abbrev cX0_isRead : ByteArray := prog_1_method_41_code
def yX0_isRead : MethodName := ⟨RX0, "isRead", "(II)Z"⟩
def dkwX0_isRead_0 : List UInt8 := [28, 42, 180, 0, 93, 27, 46, 126, 42, 180, 0, 93, 27, 46, 160, 0, 7, 4, 167, 0, 4, 3, 172]
abbrev dktX0_isRead_0 : List UInt8 := dkwX0_isRead_0 ++ []
theorem dksX0_isRead_0 : cX0_isRead.data.toList.drop 0 = dktX0_isRead_0 := by decide +kernel
theorem dX0_isRead_0 : decode cX0_isRead 0 = .ok (.iload_n 2, 1) := dk_28 (dk_at dksX0_isRead_0 0 rfl rfl)
theorem dX0_isRead_1 : decode cX0_isRead 1 = .ok (.aload_n 0, 1) := dk_42 (dk_at dksX0_isRead_0 1 rfl rfl)
theorem dX0_isRead_2 : decode cX0_isRead 2 = .ok (.getfield 93, 3) := dk_180 0 93 (dk_at dksX0_isRead_0 2 rfl rfl)
theorem dX0_isRead_5 : decode cX0_isRead 5 = .ok (.iload_n 1, 1) := dk_27 (dk_at dksX0_isRead_0 5 rfl rfl)
theorem dX0_isRead_6 : decode cX0_isRead 6 = .ok (.iaload, 1) := dk_46 (dk_at dksX0_isRead_0 6 rfl rfl)
theorem dX0_isRead_7 : decode cX0_isRead 7 = .ok (.iand, 1) := dk_126 (dk_at dksX0_isRead_0 7 rfl rfl)
theorem dX0_isRead_8 : decode cX0_isRead 8 = .ok (.aload_n 0, 1) := dk_42 (dk_at dksX0_isRead_0 8 rfl rfl)
theorem dX0_isRead_9 : decode cX0_isRead 9 = .ok (.getfield 93, 3) := dk_180 0 93 (dk_at dksX0_isRead_0 9 rfl rfl)
theorem dX0_isRead_12 : decode cX0_isRead 12 = .ok (.iload_n 1, 1) := dk_27 (dk_at dksX0_isRead_0 12 rfl rfl)
theorem dX0_isRead_13 : decode cX0_isRead 13 = .ok (.iaload, 1) := dk_46 (dk_at dksX0_isRead_0 13 rfl rfl)
theorem dX0_isRead_14 : decode cX0_isRead 14 = .ok (.if_icmp .ne 7, 3) := dk_160 0 7 (dk_at dksX0_isRead_0 14 rfl rfl)
theorem dX0_isRead_17 : decode cX0_isRead 17 = .ok (.iconst 1, 1) := dk_4 (dk_at dksX0_isRead_0 17 rfl rfl)
theorem dX0_isRead_18 : decode cX0_isRead 18 = .ok (.goto 4, 3) := dk_167 0 4 (dk_at dksX0_isRead_0 18 rfl rfl)
theorem dX0_isRead_21 : decode cX0_isRead 21 = .ok (.iconst 0, 1) := dk_3 (dk_at dksX0_isRead_0 21 rfl rfl)
theorem dX0_isRead_22 : decode cX0_isRead 22 = .ok (.ireturn, 1) := dk_172 (dk_at dksX0_isRead_0 22 rfl rfl)
abbrev cX0_as : ByteArray := prog_1_method_44_code
def yX0_as : MethodName := ⟨RX0, "as", "(II)I"⟩
def dkwX0_as_1 : List UInt8 := [180, 1, 32, 27, 50, 78, 45, 28, 184, 1, 111, 180, 1, 40, 172, 58, 4, 19, 1, 117, 172]
abbrev dktX0_as_1 : List UInt8 := dkwX0_as_1 ++ []
def dkwX0_as_0 : List UInt8 := [42, 27, 182, 1, 58, 153, 0, 12, 28, 3, 8, 184, 0, 137, 154, 0, 6, 18, 164, 172, 42, 180, 0, 46]
abbrev dktX0_as_0 : List UInt8 := dkwX0_as_0 ++ dktX0_as_1
theorem dksX0_as_0 : cX0_as.data.toList.drop 0 = dktX0_as_0 := by decide +kernel
theorem dksX0_as_1 : cX0_as.data.toList.drop 24 = dktX0_as_1 := dk_seg dksX0_as_0 24 rfl rfl
theorem dX0_as_0 : decode cX0_as 0 = .ok (.aload_n 0, 1) := dk_42 (dk_at dksX0_as_0 0 rfl rfl)
theorem dX0_as_1 : decode cX0_as 1 = .ok (.iload_n 1, 1) := dk_27 (dk_at dksX0_as_0 1 rfl rfl)
theorem dX0_as_2 : decode cX0_as 2 = .ok (.invokevirtual 314, 3) := dk_182 1 58 (dk_at dksX0_as_0 2 rfl rfl)
theorem dX0_as_5 : decode cX0_as 5 = .ok (.ifCond .eq 12, 3) := dk_153 0 12 (dk_at dksX0_as_0 5 rfl rfl)
theorem dX0_as_8 : decode cX0_as 8 = .ok (.iload_n 2, 1) := dk_28 (dk_at dksX0_as_0 8 rfl rfl)
theorem dX0_as_9 : decode cX0_as 9 = .ok (.iconst 0, 1) := dk_3 (dk_at dksX0_as_0 9 rfl rfl)
theorem dX0_as_10 : decode cX0_as 10 = .ok (.iconst 5, 1) := dk_8 (dk_at dksX0_as_0 10 rfl rfl)
theorem dX0_as_11 : decode cX0_as 11 = .ok (.invokestatic 137, 3) := dk_184 0 137 (dk_at dksX0_as_0 11 rfl rfl)
theorem dX0_as_14 : decode cX0_as 14 = .ok (.ifCond .ne 6, 3) := dk_154 0 6 (dk_at dksX0_as_0 14 rfl rfl)
theorem dX0_as_17 : decode cX0_as 17 = .ok (.ldc 164, 2) := dk_18 164 (dk_at dksX0_as_0 17 rfl rfl)
theorem dX0_as_19 : decode cX0_as 19 = .ok (.ireturn, 1) := dk_172 (dk_at dksX0_as_0 19 rfl rfl)
theorem dX0_as_20 : decode cX0_as 20 = .ok (.aload_n 0, 1) := dk_42 (dk_at dksX0_as_0 20 rfl rfl)
theorem dX0_as_21 : decode cX0_as 21 = .ok (.getfield 46, 3) := dk_180 0 46 (dk_at dksX0_as_0 21 rfl rfl)
theorem dX0_as_24 : decode cX0_as 24 = .ok (.getfield 288, 3) := dk_180 1 32 (dk_at dksX0_as_1 0 rfl rfl)
theorem dX0_as_27 : decode cX0_as 27 = .ok (.iload_n 1, 1) := dk_27 (dk_at dksX0_as_1 3 rfl rfl)
theorem dX0_as_28 : decode cX0_as 28 = .ok (.aaload, 1) := dk_50 (dk_at dksX0_as_1 4 rfl rfl)
theorem dX0_as_29 : decode cX0_as 29 = .ok (.astore_n 3, 1) := dk_78 (dk_at dksX0_as_1 5 rfl rfl)
theorem dX0_as_30 : decode cX0_as 30 = .ok (.aload_n 3, 1) := dk_45 (dk_at dksX0_as_1 6 rfl rfl)
theorem dX0_as_31 : decode cX0_as 31 = .ok (.iload_n 2, 1) := dk_28 (dk_at dksX0_as_1 7 rfl rfl)
theorem dX0_as_32 : decode cX0_as 32 = .ok (.invokestatic 367, 3) := dk_184 1 111 (dk_at dksX0_as_1 8 rfl rfl)
theorem dX0_as_35 : decode cX0_as 35 = .ok (.getfield 296, 3) := dk_180 1 40 (dk_at dksX0_as_1 11 rfl rfl)
theorem dX0_as_38 : decode cX0_as 38 = .ok (.ireturn, 1) := dk_172 (dk_at dksX0_as_1 14 rfl rfl)
theorem dX0_as_39 : decode cX0_as 39 = .ok (.astore 4, 2) := dk_58 4 (dk_at dksX0_as_1 15 rfl rfl)
theorem dX0_as_41 : decode cX0_as 41 = .ok (.ldc_w 373, 3) := dk_19 1 117 (dk_at dksX0_as_1 17 rfl rfl)
theorem dX0_as_44 : decode cX0_as 44 = .ok (.ireturn, 1) := dk_172 (dk_at dksX0_as_1 20 rfl rfl)
abbrev cX0_takenFor : ByteArray := prog_1_method_43_code
def yX0_takenFor : MethodName := ⟨RX0, "takenFor", "(Ljava/lang/Object;I)LKeptLeaves$Leaf;"⟩
def dkwX0_takenFor_3 : List UInt8 := [176, 42, 192, 0, 31, 176]
abbrev dktX0_takenFor_3 : List UInt8 := dkwX0_takenFor_3 ++ []
def dkwX0_takenFor_2 : List UInt8 := [42, 192, 0, 13, 176, 42, 192, 0, 19, 176, 42, 192, 0, 22, 176, 42, 192, 0, 25, 176, 42, 192, 0, 28]
abbrev dktX0_takenFor_2 : List UInt8 := dkwX0_takenFor_2 ++ dktX0_takenFor_3
def dkwX0_takenFor_1 : List UInt8 := [170, 0, 0, 0, 0, 0, 60, 0, 0, 0, 1, 0, 0, 0, 5, 0, 0, 0, 35, 0, 0, 0, 40, 0, 0, 0, 45, 0, 0, 0, 50, 0, 0, 0, 55]
abbrev dktX0_takenFor_1 : List UInt8 := dkwX0_takenFor_1 ++ dktX0_takenFor_2
def dkwX0_takenFor_0 : List UInt8 := [27]
abbrev dktX0_takenFor_0 : List UInt8 := dkwX0_takenFor_0 ++ dktX0_takenFor_1
theorem dksX0_takenFor_0 : cX0_takenFor.data.toList.drop 0 = dktX0_takenFor_0 := by decide +kernel
theorem dksX0_takenFor_1 : cX0_takenFor.data.toList.drop 1 = dktX0_takenFor_1 := dk_seg dksX0_takenFor_0 1 rfl rfl
theorem dksX0_takenFor_2 : cX0_takenFor.data.toList.drop 36 = dktX0_takenFor_2 := dk_seg dksX0_takenFor_1 35 rfl rfl
theorem dksX0_takenFor_3 : cX0_takenFor.data.toList.drop 60 = dktX0_takenFor_3 := dk_seg dksX0_takenFor_2 24 rfl rfl
theorem dX0_takenFor_0 : decode cX0_takenFor 0 = .ok (.iload_n 1, 1) := dk_27 (dk_at dksX0_takenFor_0 0 rfl rfl)
theorem dX0_takenFor_1 : decode cX0_takenFor 1 = .ok (.tableswitch 60 1 5 #[35, 40, 45, 50, 55], 35) := by decide +kernel
theorem dX0_takenFor_36 : decode cX0_takenFor 36 = .ok (.aload_n 0, 1) := dk_42 (dk_at dksX0_takenFor_2 0 rfl rfl)
theorem dX0_takenFor_37 : decode cX0_takenFor 37 = .ok (.checkcast 13, 3) := dk_192 0 13 (dk_at dksX0_takenFor_2 1 rfl rfl)
theorem dX0_takenFor_40 : decode cX0_takenFor 40 = .ok (.areturn, 1) := dk_176 (dk_at dksX0_takenFor_2 4 rfl rfl)
theorem dX0_takenFor_41 : decode cX0_takenFor 41 = .ok (.aload_n 0, 1) := dk_42 (dk_at dksX0_takenFor_2 5 rfl rfl)
theorem dX0_takenFor_42 : decode cX0_takenFor 42 = .ok (.checkcast 19, 3) := dk_192 0 19 (dk_at dksX0_takenFor_2 6 rfl rfl)
theorem dX0_takenFor_45 : decode cX0_takenFor 45 = .ok (.areturn, 1) := dk_176 (dk_at dksX0_takenFor_2 9 rfl rfl)
theorem dX0_takenFor_46 : decode cX0_takenFor 46 = .ok (.aload_n 0, 1) := dk_42 (dk_at dksX0_takenFor_2 10 rfl rfl)
theorem dX0_takenFor_47 : decode cX0_takenFor 47 = .ok (.checkcast 22, 3) := dk_192 0 22 (dk_at dksX0_takenFor_2 11 rfl rfl)
theorem dX0_takenFor_50 : decode cX0_takenFor 50 = .ok (.areturn, 1) := dk_176 (dk_at dksX0_takenFor_2 14 rfl rfl)
theorem dX0_takenFor_51 : decode cX0_takenFor 51 = .ok (.aload_n 0, 1) := dk_42 (dk_at dksX0_takenFor_2 15 rfl rfl)
theorem dX0_takenFor_52 : decode cX0_takenFor 52 = .ok (.checkcast 25, 3) := dk_192 0 25 (dk_at dksX0_takenFor_2 16 rfl rfl)
theorem dX0_takenFor_55 : decode cX0_takenFor 55 = .ok (.areturn, 1) := dk_176 (dk_at dksX0_takenFor_2 19 rfl rfl)
theorem dX0_takenFor_56 : decode cX0_takenFor 56 = .ok (.aload_n 0, 1) := dk_42 (dk_at dksX0_takenFor_2 20 rfl rfl)
theorem dX0_takenFor_57 : decode cX0_takenFor 57 = .ok (.checkcast 28, 3) := dk_192 0 28 (dk_at dksX0_takenFor_2 21 rfl rfl)
theorem dX0_takenFor_60 : decode cX0_takenFor 60 = .ok (.areturn, 1) := dk_176 (dk_at dksX0_takenFor_3 0 rfl rfl)
theorem dX0_takenFor_61 : decode cX0_takenFor 61 = .ok (.aload_n 0, 1) := dk_42 (dk_at dksX0_takenFor_3 1 rfl rfl)
theorem dX0_takenFor_62 : decode cX0_takenFor 62 = .ok (.checkcast 31, 3) := dk_192 0 31 (dk_at dksX0_takenFor_3 2 rfl rfl)
theorem dX0_takenFor_65 : decode cX0_takenFor 65 = .ok (.areturn, 1) := dk_176 (dk_at dksX0_takenFor_3 5 rfl rfl)
abbrev cX0_turns : ByteArray := prog_1_method_45_code
def yX0_turns : MethodName := ⟨RX0, "turns", "(II)I"⟩
def dkwX0_turns_2 : List UInt8 := [180, 1, 32, 27, 50, 45, 182, 1, 118, 45, 182, 1, 92, 172]
abbrev dktX0_turns_2 : List UInt8 := dkwX0_turns_2 ++ []
def dkwX0_turns_1 : List UInt8 := [180, 1, 32, 27, 50, 78, 42, 180, 0, 46, 180, 1, 32, 27, 28, 184, 1, 36, 83, 42, 180, 0, 46]
abbrev dktX0_turns_1 : List UInt8 := dkwX0_turns_1 ++ dktX0_turns_2
def dkwX0_turns_0 : List UInt8 := [42, 27, 182, 1, 58, 153, 0, 12, 28, 3, 8, 184, 0, 137, 154, 0, 6, 18, 164, 172, 42, 180, 0, 46]
abbrev dktX0_turns_0 : List UInt8 := dkwX0_turns_0 ++ dktX0_turns_1
theorem dksX0_turns_0 : cX0_turns.data.toList.drop 0 = dktX0_turns_0 := by decide +kernel
theorem dksX0_turns_1 : cX0_turns.data.toList.drop 24 = dktX0_turns_1 := dk_seg dksX0_turns_0 24 rfl rfl
theorem dksX0_turns_2 : cX0_turns.data.toList.drop 47 = dktX0_turns_2 := dk_seg dksX0_turns_1 23 rfl rfl
theorem dX0_turns_0 : decode cX0_turns 0 = .ok (.aload_n 0, 1) := dk_42 (dk_at dksX0_turns_0 0 rfl rfl)
theorem dX0_turns_1 : decode cX0_turns 1 = .ok (.iload_n 1, 1) := dk_27 (dk_at dksX0_turns_0 1 rfl rfl)
theorem dX0_turns_2 : decode cX0_turns 2 = .ok (.invokevirtual 314, 3) := dk_182 1 58 (dk_at dksX0_turns_0 2 rfl rfl)
theorem dX0_turns_5 : decode cX0_turns 5 = .ok (.ifCond .eq 12, 3) := dk_153 0 12 (dk_at dksX0_turns_0 5 rfl rfl)
theorem dX0_turns_8 : decode cX0_turns 8 = .ok (.iload_n 2, 1) := dk_28 (dk_at dksX0_turns_0 8 rfl rfl)
theorem dX0_turns_9 : decode cX0_turns 9 = .ok (.iconst 0, 1) := dk_3 (dk_at dksX0_turns_0 9 rfl rfl)
theorem dX0_turns_10 : decode cX0_turns 10 = .ok (.iconst 5, 1) := dk_8 (dk_at dksX0_turns_0 10 rfl rfl)
theorem dX0_turns_11 : decode cX0_turns 11 = .ok (.invokestatic 137, 3) := dk_184 0 137 (dk_at dksX0_turns_0 11 rfl rfl)
theorem dX0_turns_14 : decode cX0_turns 14 = .ok (.ifCond .ne 6, 3) := dk_154 0 6 (dk_at dksX0_turns_0 14 rfl rfl)
theorem dX0_turns_17 : decode cX0_turns 17 = .ok (.ldc 164, 2) := dk_18 164 (dk_at dksX0_turns_0 17 rfl rfl)
theorem dX0_turns_19 : decode cX0_turns 19 = .ok (.ireturn, 1) := dk_172 (dk_at dksX0_turns_0 19 rfl rfl)
theorem dX0_turns_20 : decode cX0_turns 20 = .ok (.aload_n 0, 1) := dk_42 (dk_at dksX0_turns_0 20 rfl rfl)
theorem dX0_turns_21 : decode cX0_turns 21 = .ok (.getfield 46, 3) := dk_180 0 46 (dk_at dksX0_turns_0 21 rfl rfl)
theorem dX0_turns_24 : decode cX0_turns 24 = .ok (.getfield 288, 3) := dk_180 1 32 (dk_at dksX0_turns_1 0 rfl rfl)
theorem dX0_turns_27 : decode cX0_turns 27 = .ok (.iload_n 1, 1) := dk_27 (dk_at dksX0_turns_1 3 rfl rfl)
theorem dX0_turns_28 : decode cX0_turns 28 = .ok (.aaload, 1) := dk_50 (dk_at dksX0_turns_1 4 rfl rfl)
theorem dX0_turns_29 : decode cX0_turns 29 = .ok (.astore_n 3, 1) := dk_78 (dk_at dksX0_turns_1 5 rfl rfl)
theorem dX0_turns_30 : decode cX0_turns 30 = .ok (.aload_n 0, 1) := dk_42 (dk_at dksX0_turns_1 6 rfl rfl)
theorem dX0_turns_31 : decode cX0_turns 31 = .ok (.getfield 46, 3) := dk_180 0 46 (dk_at dksX0_turns_1 7 rfl rfl)
theorem dX0_turns_34 : decode cX0_turns 34 = .ok (.getfield 288, 3) := dk_180 1 32 (dk_at dksX0_turns_1 10 rfl rfl)
theorem dX0_turns_37 : decode cX0_turns 37 = .ok (.iload_n 1, 1) := dk_27 (dk_at dksX0_turns_1 13 rfl rfl)
theorem dX0_turns_38 : decode cX0_turns 38 = .ok (.iload_n 2, 1) := dk_28 (dk_at dksX0_turns_1 14 rfl rfl)
theorem dX0_turns_39 : decode cX0_turns 39 = .ok (.invokestatic 292, 3) := dk_184 1 36 (dk_at dksX0_turns_1 15 rfl rfl)
theorem dX0_turns_42 : decode cX0_turns 42 = .ok (.aastore, 1) := dk_83 (dk_at dksX0_turns_1 18 rfl rfl)
theorem dX0_turns_43 : decode cX0_turns 43 = .ok (.aload_n 0, 1) := dk_42 (dk_at dksX0_turns_1 19 rfl rfl)
theorem dX0_turns_44 : decode cX0_turns 44 = .ok (.getfield 46, 3) := dk_180 0 46 (dk_at dksX0_turns_1 20 rfl rfl)
theorem dX0_turns_47 : decode cX0_turns 47 = .ok (.getfield 288, 3) := dk_180 1 32 (dk_at dksX0_turns_2 0 rfl rfl)
theorem dX0_turns_50 : decode cX0_turns 50 = .ok (.iload_n 1, 1) := dk_27 (dk_at dksX0_turns_2 3 rfl rfl)
theorem dX0_turns_51 : decode cX0_turns 51 = .ok (.aaload, 1) := dk_50 (dk_at dksX0_turns_2 4 rfl rfl)
theorem dX0_turns_52 : decode cX0_turns 52 = .ok (.aload_n 3, 1) := dk_45 (dk_at dksX0_turns_2 5 rfl rfl)
theorem dX0_turns_53 : decode cX0_turns 53 = .ok (.invokevirtual 374, 3) := dk_182 1 118 (dk_at dksX0_turns_2 6 rfl rfl)
theorem dX0_turns_56 : decode cX0_turns 56 = .ok (.aload_n 3, 1) := dk_45 (dk_at dksX0_turns_2 9 rfl rfl)
theorem dX0_turns_57 : decode cX0_turns 57 = .ok (.invokevirtual 348, 3) := dk_182 1 92 (dk_at dksX0_turns_2 10 rfl rfl)
theorem dX0_turns_60 : decode cX0_turns 60 = .ok (.ireturn, 1) := dk_172 (dk_at dksX0_turns_2 13 rfl rfl)
abbrev cX0_set : ByteArray := prog_1_method_47_code
def yX0_set : MethodName := ⟨RX0, "set", "(III)I"⟩
def dkwX0_set_2 : List UInt8 := [172, 42, 180, 0, 46, 180, 1, 32, 27, 50, 28, 29, 184, 1, 122, 172]
abbrev dktX0_set_2 : List UInt8 := dkwX0_set_2 ++ []
def dkwX0_set_1 : List UInt8 := [167, 0, 4, 3, 28, 4, 160, 0, 8, 16, 99, 167, 0, 5, 16, 9, 184, 0, 137, 154, 0, 6, 18, 164]
abbrev dktX0_set_1 : List UInt8 := dkwX0_set_1 ++ dktX0_set_2
def dkwX0_set_0 : List UInt8 := [42, 27, 182, 1, 58, 153, 0, 40, 28, 3, 5, 184, 0, 137, 153, 0, 31, 29, 28, 154, 0, 7, 4]
abbrev dktX0_set_0 : List UInt8 := dkwX0_set_0 ++ dktX0_set_1
theorem dksX0_set_0 : cX0_set.data.toList.drop 0 = dktX0_set_0 := by decide +kernel
theorem dksX0_set_1 : cX0_set.data.toList.drop 23 = dktX0_set_1 := dk_seg dksX0_set_0 23 rfl rfl
theorem dksX0_set_2 : cX0_set.data.toList.drop 47 = dktX0_set_2 := dk_seg dksX0_set_1 24 rfl rfl
theorem dX0_set_0 : decode cX0_set 0 = .ok (.aload_n 0, 1) := dk_42 (dk_at dksX0_set_0 0 rfl rfl)
theorem dX0_set_1 : decode cX0_set 1 = .ok (.iload_n 1, 1) := dk_27 (dk_at dksX0_set_0 1 rfl rfl)
theorem dX0_set_2 : decode cX0_set 2 = .ok (.invokevirtual 314, 3) := dk_182 1 58 (dk_at dksX0_set_0 2 rfl rfl)
theorem dX0_set_5 : decode cX0_set 5 = .ok (.ifCond .eq 40, 3) := dk_153 0 40 (dk_at dksX0_set_0 5 rfl rfl)
theorem dX0_set_8 : decode cX0_set 8 = .ok (.iload_n 2, 1) := dk_28 (dk_at dksX0_set_0 8 rfl rfl)
theorem dX0_set_9 : decode cX0_set 9 = .ok (.iconst 0, 1) := dk_3 (dk_at dksX0_set_0 9 rfl rfl)
theorem dX0_set_10 : decode cX0_set 10 = .ok (.iconst 2, 1) := dk_5 (dk_at dksX0_set_0 10 rfl rfl)
theorem dX0_set_11 : decode cX0_set 11 = .ok (.invokestatic 137, 3) := dk_184 0 137 (dk_at dksX0_set_0 11 rfl rfl)
theorem dX0_set_14 : decode cX0_set 14 = .ok (.ifCond .eq 31, 3) := dk_153 0 31 (dk_at dksX0_set_0 14 rfl rfl)
theorem dX0_set_17 : decode cX0_set 17 = .ok (.iload_n 3, 1) := dk_29 (dk_at dksX0_set_0 17 rfl rfl)
theorem dX0_set_18 : decode cX0_set 18 = .ok (.iload_n 2, 1) := dk_28 (dk_at dksX0_set_0 18 rfl rfl)
theorem dX0_set_19 : decode cX0_set 19 = .ok (.ifCond .ne 7, 3) := dk_154 0 7 (dk_at dksX0_set_0 19 rfl rfl)
theorem dX0_set_22 : decode cX0_set 22 = .ok (.iconst 1, 1) := dk_4 (dk_at dksX0_set_0 22 rfl rfl)
theorem dX0_set_23 : decode cX0_set 23 = .ok (.goto 4, 3) := dk_167 0 4 (dk_at dksX0_set_1 0 rfl rfl)
theorem dX0_set_26 : decode cX0_set 26 = .ok (.iconst 0, 1) := dk_3 (dk_at dksX0_set_1 3 rfl rfl)
theorem dX0_set_27 : decode cX0_set 27 = .ok (.iload_n 2, 1) := dk_28 (dk_at dksX0_set_1 4 rfl rfl)
theorem dX0_set_28 : decode cX0_set 28 = .ok (.iconst 1, 1) := dk_4 (dk_at dksX0_set_1 5 rfl rfl)
theorem dX0_set_29 : decode cX0_set 29 = .ok (.if_icmp .ne 8, 3) := dk_160 0 8 (dk_at dksX0_set_1 6 rfl rfl)
theorem dX0_set_32 : decode cX0_set 32 = .ok (.bipush 99, 2) := dk_16 99 (dk_at dksX0_set_1 9 rfl rfl)
theorem dX0_set_34 : decode cX0_set 34 = .ok (.goto 5, 3) := dk_167 0 5 (dk_at dksX0_set_1 11 rfl rfl)
theorem dX0_set_37 : decode cX0_set 37 = .ok (.bipush 9, 2) := dk_16 9 (dk_at dksX0_set_1 14 rfl rfl)
theorem dX0_set_39 : decode cX0_set 39 = .ok (.invokestatic 137, 3) := dk_184 0 137 (dk_at dksX0_set_1 16 rfl rfl)
theorem dX0_set_42 : decode cX0_set 42 = .ok (.ifCond .ne 6, 3) := dk_154 0 6 (dk_at dksX0_set_1 19 rfl rfl)
theorem dX0_set_45 : decode cX0_set 45 = .ok (.ldc 164, 2) := dk_18 164 (dk_at dksX0_set_1 22 rfl rfl)
theorem dX0_set_47 : decode cX0_set 47 = .ok (.ireturn, 1) := dk_172 (dk_at dksX0_set_2 0 rfl rfl)
theorem dX0_set_48 : decode cX0_set 48 = .ok (.aload_n 0, 1) := dk_42 (dk_at dksX0_set_2 1 rfl rfl)
theorem dX0_set_49 : decode cX0_set 49 = .ok (.getfield 46, 3) := dk_180 0 46 (dk_at dksX0_set_2 2 rfl rfl)
theorem dX0_set_52 : decode cX0_set 52 = .ok (.getfield 288, 3) := dk_180 1 32 (dk_at dksX0_set_2 5 rfl rfl)
theorem dX0_set_55 : decode cX0_set 55 = .ok (.iload_n 1, 1) := dk_27 (dk_at dksX0_set_2 8 rfl rfl)
theorem dX0_set_56 : decode cX0_set 56 = .ok (.aaload, 1) := dk_50 (dk_at dksX0_set_2 9 rfl rfl)
theorem dX0_set_57 : decode cX0_set 57 = .ok (.iload_n 2, 1) := dk_28 (dk_at dksX0_set_2 10 rfl rfl)
theorem dX0_set_58 : decode cX0_set 58 = .ok (.iload_n 3, 1) := dk_29 (dk_at dksX0_set_2 11 rfl rfl)
theorem dX0_set_59 : decode cX0_set 59 = .ok (.invokestatic 378, 3) := dk_184 1 122 (dk_at dksX0_set_2 12 rfl rfl)
theorem dX0_set_62 : decode cX0_set 62 = .ok (.ireturn, 1) := dk_172 (dk_at dksX0_set_2 15 rfl rfl)
abbrev cX0_becomes : ByteArray := prog_1_method_46_code
def yX0_becomes : MethodName := ⟨RX0, "becomes", "(LKeptLeaves$Leaf;II)I"⟩
def dkwX0_becomes_3 : List UInt8 := [42, 28, 181, 1, 40, 167, 0, 16, 42, 28, 181, 1, 43, 167, 0, 8, 42, 28, 181, 1, 95, 29, 172]
abbrev dktX0_becomes_3 : List UInt8 := dkwX0_becomes_3 ++ []
def dkwX0_becomes_2 : List UInt8 := [171, 0, 0, 0, 0, 0, 43, 0, 0, 0, 2, 0, 0, 0, 0, 0, 0, 0, 27, 0, 0, 0, 1, 0, 0, 0, 35]
abbrev dktX0_becomes_2 : List UInt8 := dkwX0_becomes_2 ++ dktX0_becomes_3
def dkwX0_becomes_1 : List UInt8 := [180, 1, 95, 62, 27]
abbrev dktX0_becomes_1 : List UInt8 := dkwX0_becomes_1 ++ dktX0_becomes_2
def dkwX0_becomes_0 : List UInt8 := [27, 154, 0, 10, 42, 180, 1, 40, 167, 0, 19, 27, 4, 160, 0, 10, 42, 180, 1, 43, 167, 0, 7, 42]
abbrev dktX0_becomes_0 : List UInt8 := dkwX0_becomes_0 ++ dktX0_becomes_1
theorem dksX0_becomes_0 : cX0_becomes.data.toList.drop 0 = dktX0_becomes_0 := by decide +kernel
theorem dksX0_becomes_1 : cX0_becomes.data.toList.drop 24 = dktX0_becomes_1 := dk_seg dksX0_becomes_0 24 rfl rfl
theorem dksX0_becomes_2 : cX0_becomes.data.toList.drop 29 = dktX0_becomes_2 := dk_seg dksX0_becomes_1 5 rfl rfl
theorem dksX0_becomes_3 : cX0_becomes.data.toList.drop 56 = dktX0_becomes_3 := dk_seg dksX0_becomes_2 27 rfl rfl
theorem dX0_becomes_0 : decode cX0_becomes 0 = .ok (.iload_n 1, 1) := dk_27 (dk_at dksX0_becomes_0 0 rfl rfl)
theorem dX0_becomes_1 : decode cX0_becomes 1 = .ok (.ifCond .ne 10, 3) := dk_154 0 10 (dk_at dksX0_becomes_0 1 rfl rfl)
theorem dX0_becomes_4 : decode cX0_becomes 4 = .ok (.aload_n 0, 1) := dk_42 (dk_at dksX0_becomes_0 4 rfl rfl)
theorem dX0_becomes_5 : decode cX0_becomes 5 = .ok (.getfield 296, 3) := dk_180 1 40 (dk_at dksX0_becomes_0 5 rfl rfl)
theorem dX0_becomes_8 : decode cX0_becomes 8 = .ok (.goto 19, 3) := dk_167 0 19 (dk_at dksX0_becomes_0 8 rfl rfl)
theorem dX0_becomes_11 : decode cX0_becomes 11 = .ok (.iload_n 1, 1) := dk_27 (dk_at dksX0_becomes_0 11 rfl rfl)
theorem dX0_becomes_12 : decode cX0_becomes 12 = .ok (.iconst 1, 1) := dk_4 (dk_at dksX0_becomes_0 12 rfl rfl)
theorem dX0_becomes_13 : decode cX0_becomes 13 = .ok (.if_icmp .ne 10, 3) := dk_160 0 10 (dk_at dksX0_becomes_0 13 rfl rfl)
theorem dX0_becomes_16 : decode cX0_becomes 16 = .ok (.aload_n 0, 1) := dk_42 (dk_at dksX0_becomes_0 16 rfl rfl)
theorem dX0_becomes_17 : decode cX0_becomes 17 = .ok (.getfield 299, 3) := dk_180 1 43 (dk_at dksX0_becomes_0 17 rfl rfl)
theorem dX0_becomes_20 : decode cX0_becomes 20 = .ok (.goto 7, 3) := dk_167 0 7 (dk_at dksX0_becomes_0 20 rfl rfl)
theorem dX0_becomes_23 : decode cX0_becomes 23 = .ok (.aload_n 0, 1) := dk_42 (dk_at dksX0_becomes_0 23 rfl rfl)
theorem dX0_becomes_24 : decode cX0_becomes 24 = .ok (.getfield 351, 3) := dk_180 1 95 (dk_at dksX0_becomes_1 0 rfl rfl)
theorem dX0_becomes_27 : decode cX0_becomes 27 = .ok (.istore_n 3, 1) := dk_62 (dk_at dksX0_becomes_1 3 rfl rfl)
theorem dX0_becomes_28 : decode cX0_becomes 28 = .ok (.iload_n 1, 1) := dk_27 (dk_at dksX0_becomes_1 4 rfl rfl)
theorem dX0_becomes_29 : decode cX0_becomes 29 = .ok (.lookupswitch 43 #[(0, 27), (1, 35)], 27) := by decide +kernel
theorem dX0_becomes_56 : decode cX0_becomes 56 = .ok (.aload_n 0, 1) := dk_42 (dk_at dksX0_becomes_3 0 rfl rfl)
theorem dX0_becomes_57 : decode cX0_becomes 57 = .ok (.iload_n 2, 1) := dk_28 (dk_at dksX0_becomes_3 1 rfl rfl)
theorem dX0_becomes_58 : decode cX0_becomes 58 = .ok (.putfield 296, 3) := dk_181 1 40 (dk_at dksX0_becomes_3 2 rfl rfl)
theorem dX0_becomes_61 : decode cX0_becomes 61 = .ok (.goto 16, 3) := dk_167 0 16 (dk_at dksX0_becomes_3 5 rfl rfl)
theorem dX0_becomes_64 : decode cX0_becomes 64 = .ok (.aload_n 0, 1) := dk_42 (dk_at dksX0_becomes_3 8 rfl rfl)
theorem dX0_becomes_65 : decode cX0_becomes 65 = .ok (.iload_n 2, 1) := dk_28 (dk_at dksX0_becomes_3 9 rfl rfl)
theorem dX0_becomes_66 : decode cX0_becomes 66 = .ok (.putfield 299, 3) := dk_181 1 43 (dk_at dksX0_becomes_3 10 rfl rfl)
theorem dX0_becomes_69 : decode cX0_becomes 69 = .ok (.goto 8, 3) := dk_167 0 8 (dk_at dksX0_becomes_3 13 rfl rfl)
theorem dX0_becomes_72 : decode cX0_becomes 72 = .ok (.aload_n 0, 1) := dk_42 (dk_at dksX0_becomes_3 16 rfl rfl)
theorem dX0_becomes_73 : decode cX0_becomes 73 = .ok (.iload_n 2, 1) := dk_28 (dk_at dksX0_becomes_3 17 rfl rfl)
theorem dX0_becomes_74 : decode cX0_becomes 74 = .ok (.putfield 351, 3) := dk_181 1 95 (dk_at dksX0_becomes_3 18 rfl rfl)
theorem dX0_becomes_77 : decode cX0_becomes 77 = .ok (.iload_n 3, 1) := dk_29 (dk_at dksX0_becomes_3 21 rfl rfl)
theorem dX0_becomes_78 : decode cX0_becomes 78 = .ok (.ireturn, 1) := dk_172 (dk_at dksX0_becomes_3 22 rfl rfl)
abbrev cX0_leans : ByteArray := prog_1_method_48_code
def yX0_leans : MethodName := ⟨RX0, "leans", "(II)I"⟩
def dkwX0_leans_2 : List UInt8 := [180, 1, 32, 27, 50, 28, 18, 3, 160, 0, 7, 2, 167, 0, 4, 28, 181, 1, 46, 29, 184, 1, 29, 172]
abbrev dktX0_leans_2 : List UInt8 := dkwX0_leans_2 ++ []
def dkwX0_leans_1 : List UInt8 := [154, 0, 6, 18, 164, 172, 42, 180, 0, 46, 180, 1, 32, 27, 50, 180, 1, 46, 62, 42, 180, 0, 46]
abbrev dktX0_leans_1 : List UInt8 := dkwX0_leans_1 ++ dktX0_leans_2
def dkwX0_leans_0 : List UInt8 := [42, 27, 182, 1, 58, 153, 0, 20, 28, 18, 3, 159, 0, 17, 28, 3, 27, 4, 100, 184, 0, 137]
abbrev dktX0_leans_0 : List UInt8 := dkwX0_leans_0 ++ dktX0_leans_1
theorem dksX0_leans_0 : cX0_leans.data.toList.drop 0 = dktX0_leans_0 := by decide +kernel
theorem dksX0_leans_1 : cX0_leans.data.toList.drop 22 = dktX0_leans_1 := dk_seg dksX0_leans_0 22 rfl rfl
theorem dksX0_leans_2 : cX0_leans.data.toList.drop 45 = dktX0_leans_2 := dk_seg dksX0_leans_1 23 rfl rfl
theorem dX0_leans_0 : decode cX0_leans 0 = .ok (.aload_n 0, 1) := dk_42 (dk_at dksX0_leans_0 0 rfl rfl)
theorem dX0_leans_1 : decode cX0_leans 1 = .ok (.iload_n 1, 1) := dk_27 (dk_at dksX0_leans_0 1 rfl rfl)
theorem dX0_leans_2 : decode cX0_leans 2 = .ok (.invokevirtual 314, 3) := dk_182 1 58 (dk_at dksX0_leans_0 2 rfl rfl)
theorem dX0_leans_5 : decode cX0_leans 5 = .ok (.ifCond .eq 20, 3) := dk_153 0 20 (dk_at dksX0_leans_0 5 rfl rfl)
theorem dX0_leans_8 : decode cX0_leans 8 = .ok (.iload_n 2, 1) := dk_28 (dk_at dksX0_leans_0 8 rfl rfl)
theorem dX0_leans_9 : decode cX0_leans 9 = .ok (.ldc 3, 2) := dk_18 3 (dk_at dksX0_leans_0 9 rfl rfl)
theorem dX0_leans_11 : decode cX0_leans 11 = .ok (.if_icmp .eq 17, 3) := dk_159 0 17 (dk_at dksX0_leans_0 11 rfl rfl)
theorem dX0_leans_14 : decode cX0_leans 14 = .ok (.iload_n 2, 1) := dk_28 (dk_at dksX0_leans_0 14 rfl rfl)
theorem dX0_leans_15 : decode cX0_leans 15 = .ok (.iconst 0, 1) := dk_3 (dk_at dksX0_leans_0 15 rfl rfl)
theorem dX0_leans_16 : decode cX0_leans 16 = .ok (.iload_n 1, 1) := dk_27 (dk_at dksX0_leans_0 16 rfl rfl)
theorem dX0_leans_17 : decode cX0_leans 17 = .ok (.iconst 1, 1) := dk_4 (dk_at dksX0_leans_0 17 rfl rfl)
theorem dX0_leans_18 : decode cX0_leans 18 = .ok (.isub, 1) := dk_100 (dk_at dksX0_leans_0 18 rfl rfl)
theorem dX0_leans_19 : decode cX0_leans 19 = .ok (.invokestatic 137, 3) := dk_184 0 137 (dk_at dksX0_leans_0 19 rfl rfl)
theorem dX0_leans_22 : decode cX0_leans 22 = .ok (.ifCond .ne 6, 3) := dk_154 0 6 (dk_at dksX0_leans_1 0 rfl rfl)
theorem dX0_leans_25 : decode cX0_leans 25 = .ok (.ldc 164, 2) := dk_18 164 (dk_at dksX0_leans_1 3 rfl rfl)
theorem dX0_leans_27 : decode cX0_leans 27 = .ok (.ireturn, 1) := dk_172 (dk_at dksX0_leans_1 5 rfl rfl)
theorem dX0_leans_28 : decode cX0_leans 28 = .ok (.aload_n 0, 1) := dk_42 (dk_at dksX0_leans_1 6 rfl rfl)
theorem dX0_leans_29 : decode cX0_leans 29 = .ok (.getfield 46, 3) := dk_180 0 46 (dk_at dksX0_leans_1 7 rfl rfl)
theorem dX0_leans_32 : decode cX0_leans 32 = .ok (.getfield 288, 3) := dk_180 1 32 (dk_at dksX0_leans_1 10 rfl rfl)
theorem dX0_leans_35 : decode cX0_leans 35 = .ok (.iload_n 1, 1) := dk_27 (dk_at dksX0_leans_1 13 rfl rfl)
theorem dX0_leans_36 : decode cX0_leans 36 = .ok (.aaload, 1) := dk_50 (dk_at dksX0_leans_1 14 rfl rfl)
theorem dX0_leans_37 : decode cX0_leans 37 = .ok (.getfield 302, 3) := dk_180 1 46 (dk_at dksX0_leans_1 15 rfl rfl)
theorem dX0_leans_40 : decode cX0_leans 40 = .ok (.istore_n 3, 1) := dk_62 (dk_at dksX0_leans_1 18 rfl rfl)
theorem dX0_leans_41 : decode cX0_leans 41 = .ok (.aload_n 0, 1) := dk_42 (dk_at dksX0_leans_1 19 rfl rfl)
theorem dX0_leans_42 : decode cX0_leans 42 = .ok (.getfield 46, 3) := dk_180 0 46 (dk_at dksX0_leans_1 20 rfl rfl)
theorem dX0_leans_45 : decode cX0_leans 45 = .ok (.getfield 288, 3) := dk_180 1 32 (dk_at dksX0_leans_2 0 rfl rfl)
theorem dX0_leans_48 : decode cX0_leans 48 = .ok (.iload_n 1, 1) := dk_27 (dk_at dksX0_leans_2 3 rfl rfl)
theorem dX0_leans_49 : decode cX0_leans 49 = .ok (.aaload, 1) := dk_50 (dk_at dksX0_leans_2 4 rfl rfl)
theorem dX0_leans_50 : decode cX0_leans 50 = .ok (.iload_n 2, 1) := dk_28 (dk_at dksX0_leans_2 5 rfl rfl)
theorem dX0_leans_51 : decode cX0_leans 51 = .ok (.ldc 3, 2) := dk_18 3 (dk_at dksX0_leans_2 6 rfl rfl)
theorem dX0_leans_53 : decode cX0_leans 53 = .ok (.if_icmp .ne 7, 3) := dk_160 0 7 (dk_at dksX0_leans_2 8 rfl rfl)
theorem dX0_leans_56 : decode cX0_leans 56 = .ok (.iconst (-1), 1) := dk_2 (dk_at dksX0_leans_2 11 rfl rfl)
theorem dX0_leans_57 : decode cX0_leans 57 = .ok (.goto 4, 3) := dk_167 0 4 (dk_at dksX0_leans_2 12 rfl rfl)
theorem dX0_leans_60 : decode cX0_leans 60 = .ok (.iload_n 2, 1) := dk_28 (dk_at dksX0_leans_2 15 rfl rfl)
theorem dX0_leans_61 : decode cX0_leans 61 = .ok (.putfield 302, 3) := dk_181 1 46 (dk_at dksX0_leans_2 16 rfl rfl)
theorem dX0_leans_64 : decode cX0_leans 64 = .ok (.iload_n 3, 1) := dk_29 (dk_at dksX0_leans_2 19 rfl rfl)
theorem dX0_leans_65 : decode cX0_leans 65 = .ok (.invokestatic 285, 3) := dk_184 1 29 (dk_at dksX0_leans_2 20 rfl rfl)
theorem dX0_leans_68 : decode cX0_leans 68 = .ok (.ireturn, 1) := dk_172 (dk_at dksX0_leans_2 23 rfl rfl)
abbrev cX0_deal : ByteArray := prog_1_method_49_code
def yX0_deal : MethodName := ⟨RX0, "deal", "(I)I"⟩
def dkwX0_deal_5 : List UInt8 := [167, 255, 155, 28, 172]
abbrev dktX0_deal_5 : List UInt8 := dkwX0_deal_5 ++ []
def dkwX0_deal_4 : List UInt8 := [180, 0, 46, 180, 0, 133, 160, 0, 7, 2, 167, 0, 5, 21, 5, 182, 1, 61, 54, 6, 132, 2, 1]
abbrev dktX0_deal_4 : List UInt8 := dkwX0_deal_4 ++ dktX0_deal_5
def dkwX0_deal_3 : List UInt8 := [182, 1, 126, 42, 180, 0, 46, 180, 0, 133, 4, 96, 112, 54, 5, 42, 3, 29, 21, 4, 21, 5, 42]
abbrev dktX0_deal_3 : List UInt8 := dkwX0_deal_3 ++ dktX0_deal_4
def dkwX0_deal_2 : List UInt8 := [42, 180, 0, 46, 180, 0, 63, 182, 1, 126, 16, 100, 112, 54, 4, 42, 180, 0, 46, 180, 0, 63]
abbrev dktX0_deal_2 : List UInt8 := dkwX0_deal_2 ++ dktX0_deal_3
def dkwX0_deal_1 : List UInt8 := [180, 0, 133, 16, 8, 162, 0, 90, 4, 42, 180, 0, 46, 180, 0, 63, 182, 1, 126, 16, 9, 112, 96, 62]
abbrev dktX0_deal_1 : List UInt8 := dkwX0_deal_1 ++ dktX0_deal_2
def dkwX0_deal_0 : List UInt8 := [27, 4, 16, 8, 184, 0, 137, 154, 0, 6, 18, 164, 172, 3, 61, 28, 27, 162, 0, 102, 42, 180, 0, 46]
abbrev dktX0_deal_0 : List UInt8 := dkwX0_deal_0 ++ dktX0_deal_1
theorem dksX0_deal_0 : cX0_deal.data.toList.drop 0 = dktX0_deal_0 := by decide +kernel
theorem dksX0_deal_1 : cX0_deal.data.toList.drop 24 = dktX0_deal_1 := dk_seg dksX0_deal_0 24 rfl rfl
theorem dksX0_deal_2 : cX0_deal.data.toList.drop 48 = dktX0_deal_2 := dk_seg dksX0_deal_1 24 rfl rfl
theorem dksX0_deal_3 : cX0_deal.data.toList.drop 70 = dktX0_deal_3 := dk_seg dksX0_deal_2 22 rfl rfl
theorem dksX0_deal_4 : cX0_deal.data.toList.drop 93 = dktX0_deal_4 := dk_seg dksX0_deal_3 23 rfl rfl
theorem dksX0_deal_5 : cX0_deal.data.toList.drop 116 = dktX0_deal_5 := dk_seg dksX0_deal_4 23 rfl rfl
theorem dX0_deal_0 : decode cX0_deal 0 = .ok (.iload_n 1, 1) := dk_27 (dk_at dksX0_deal_0 0 rfl rfl)
theorem dX0_deal_1 : decode cX0_deal 1 = .ok (.iconst 1, 1) := dk_4 (dk_at dksX0_deal_0 1 rfl rfl)
theorem dX0_deal_2 : decode cX0_deal 2 = .ok (.bipush 8, 2) := dk_16 8 (dk_at dksX0_deal_0 2 rfl rfl)
theorem dX0_deal_4 : decode cX0_deal 4 = .ok (.invokestatic 137, 3) := dk_184 0 137 (dk_at dksX0_deal_0 4 rfl rfl)
theorem dX0_deal_7 : decode cX0_deal 7 = .ok (.ifCond .ne 6, 3) := dk_154 0 6 (dk_at dksX0_deal_0 7 rfl rfl)
theorem dX0_deal_10 : decode cX0_deal 10 = .ok (.ldc 164, 2) := dk_18 164 (dk_at dksX0_deal_0 10 rfl rfl)
theorem dX0_deal_12 : decode cX0_deal 12 = .ok (.ireturn, 1) := dk_172 (dk_at dksX0_deal_0 12 rfl rfl)
theorem dX0_deal_13 : decode cX0_deal 13 = .ok (.iconst 0, 1) := dk_3 (dk_at dksX0_deal_0 13 rfl rfl)
theorem dX0_deal_14 : decode cX0_deal 14 = .ok (.istore_n 2, 1) := dk_61 (dk_at dksX0_deal_0 14 rfl rfl)
theorem dX0_deal_15 : decode cX0_deal 15 = .ok (.iload_n 2, 1) := dk_28 (dk_at dksX0_deal_0 15 rfl rfl)
theorem dX0_deal_16 : decode cX0_deal 16 = .ok (.iload_n 1, 1) := dk_27 (dk_at dksX0_deal_0 16 rfl rfl)
theorem dX0_deal_17 : decode cX0_deal 17 = .ok (.if_icmp .ge 102, 3) := dk_162 0 102 (dk_at dksX0_deal_0 17 rfl rfl)
theorem dX0_deal_20 : decode cX0_deal 20 = .ok (.aload_n 0, 1) := dk_42 (dk_at dksX0_deal_0 20 rfl rfl)
theorem dX0_deal_21 : decode cX0_deal 21 = .ok (.getfield 46, 3) := dk_180 0 46 (dk_at dksX0_deal_0 21 rfl rfl)
theorem dX0_deal_24 : decode cX0_deal 24 = .ok (.getfield 133, 3) := dk_180 0 133 (dk_at dksX0_deal_1 0 rfl rfl)
theorem dX0_deal_27 : decode cX0_deal 27 = .ok (.bipush 8, 2) := dk_16 8 (dk_at dksX0_deal_1 3 rfl rfl)
theorem dX0_deal_29 : decode cX0_deal 29 = .ok (.if_icmp .ge 90, 3) := dk_162 0 90 (dk_at dksX0_deal_1 5 rfl rfl)
theorem dX0_deal_32 : decode cX0_deal 32 = .ok (.iconst 1, 1) := dk_4 (dk_at dksX0_deal_1 8 rfl rfl)
theorem dX0_deal_33 : decode cX0_deal 33 = .ok (.aload_n 0, 1) := dk_42 (dk_at dksX0_deal_1 9 rfl rfl)
theorem dX0_deal_34 : decode cX0_deal 34 = .ok (.getfield 46, 3) := dk_180 0 46 (dk_at dksX0_deal_1 10 rfl rfl)
theorem dX0_deal_37 : decode cX0_deal 37 = .ok (.getfield 63, 3) := dk_180 0 63 (dk_at dksX0_deal_1 13 rfl rfl)
theorem dX0_deal_40 : decode cX0_deal 40 = .ok (.invokevirtual 382, 3) := dk_182 1 126 (dk_at dksX0_deal_1 16 rfl rfl)
theorem dX0_deal_43 : decode cX0_deal 43 = .ok (.bipush 9, 2) := dk_16 9 (dk_at dksX0_deal_1 19 rfl rfl)
theorem dX0_deal_45 : decode cX0_deal 45 = .ok (.irem, 1) := dk_112 (dk_at dksX0_deal_1 21 rfl rfl)
theorem dX0_deal_46 : decode cX0_deal 46 = .ok (.iadd, 1) := dk_96 (dk_at dksX0_deal_1 22 rfl rfl)
theorem dX0_deal_47 : decode cX0_deal 47 = .ok (.istore_n 3, 1) := dk_62 (dk_at dksX0_deal_1 23 rfl rfl)
theorem dX0_deal_48 : decode cX0_deal 48 = .ok (.aload_n 0, 1) := dk_42 (dk_at dksX0_deal_2 0 rfl rfl)
theorem dX0_deal_49 : decode cX0_deal 49 = .ok (.getfield 46, 3) := dk_180 0 46 (dk_at dksX0_deal_2 1 rfl rfl)
theorem dX0_deal_52 : decode cX0_deal 52 = .ok (.getfield 63, 3) := dk_180 0 63 (dk_at dksX0_deal_2 4 rfl rfl)
theorem dX0_deal_55 : decode cX0_deal 55 = .ok (.invokevirtual 382, 3) := dk_182 1 126 (dk_at dksX0_deal_2 7 rfl rfl)
theorem dX0_deal_58 : decode cX0_deal 58 = .ok (.bipush 100, 2) := dk_16 100 (dk_at dksX0_deal_2 10 rfl rfl)
theorem dX0_deal_60 : decode cX0_deal 60 = .ok (.irem, 1) := dk_112 (dk_at dksX0_deal_2 12 rfl rfl)
theorem dX0_deal_61 : decode cX0_deal 61 = .ok (.istore 4, 2) := dk_54 4 (dk_at dksX0_deal_2 13 rfl rfl)
theorem dX0_deal_63 : decode cX0_deal 63 = .ok (.aload_n 0, 1) := dk_42 (dk_at dksX0_deal_2 15 rfl rfl)
theorem dX0_deal_64 : decode cX0_deal 64 = .ok (.getfield 46, 3) := dk_180 0 46 (dk_at dksX0_deal_2 16 rfl rfl)
theorem dX0_deal_67 : decode cX0_deal 67 = .ok (.getfield 63, 3) := dk_180 0 63 (dk_at dksX0_deal_2 19 rfl rfl)
theorem dX0_deal_70 : decode cX0_deal 70 = .ok (.invokevirtual 382, 3) := dk_182 1 126 (dk_at dksX0_deal_3 0 rfl rfl)
theorem dX0_deal_73 : decode cX0_deal 73 = .ok (.aload_n 0, 1) := dk_42 (dk_at dksX0_deal_3 3 rfl rfl)
theorem dX0_deal_74 : decode cX0_deal 74 = .ok (.getfield 46, 3) := dk_180 0 46 (dk_at dksX0_deal_3 4 rfl rfl)
theorem dX0_deal_77 : decode cX0_deal 77 = .ok (.getfield 133, 3) := dk_180 0 133 (dk_at dksX0_deal_3 7 rfl rfl)
theorem dX0_deal_80 : decode cX0_deal 80 = .ok (.iconst 1, 1) := dk_4 (dk_at dksX0_deal_3 10 rfl rfl)
theorem dX0_deal_81 : decode cX0_deal 81 = .ok (.iadd, 1) := dk_96 (dk_at dksX0_deal_3 11 rfl rfl)
theorem dX0_deal_82 : decode cX0_deal 82 = .ok (.irem, 1) := dk_112 (dk_at dksX0_deal_3 12 rfl rfl)
theorem dX0_deal_83 : decode cX0_deal 83 = .ok (.istore 5, 2) := dk_54 5 (dk_at dksX0_deal_3 13 rfl rfl)
theorem dX0_deal_85 : decode cX0_deal 85 = .ok (.aload_n 0, 1) := dk_42 (dk_at dksX0_deal_3 15 rfl rfl)
theorem dX0_deal_86 : decode cX0_deal 86 = .ok (.iconst 0, 1) := dk_3 (dk_at dksX0_deal_3 16 rfl rfl)
theorem dX0_deal_87 : decode cX0_deal 87 = .ok (.iload_n 3, 1) := dk_29 (dk_at dksX0_deal_3 17 rfl rfl)
theorem dX0_deal_88 : decode cX0_deal 88 = .ok (.iload 4, 2) := dk_21 4 (dk_at dksX0_deal_3 18 rfl rfl)
theorem dX0_deal_90 : decode cX0_deal 90 = .ok (.iload 5, 2) := dk_21 5 (dk_at dksX0_deal_3 20 rfl rfl)
theorem dX0_deal_92 : decode cX0_deal 92 = .ok (.aload_n 0, 1) := dk_42 (dk_at dksX0_deal_3 22 rfl rfl)
theorem dX0_deal_93 : decode cX0_deal 93 = .ok (.getfield 46, 3) := dk_180 0 46 (dk_at dksX0_deal_4 0 rfl rfl)
theorem dX0_deal_96 : decode cX0_deal 96 = .ok (.getfield 133, 3) := dk_180 0 133 (dk_at dksX0_deal_4 3 rfl rfl)
theorem dX0_deal_99 : decode cX0_deal 99 = .ok (.if_icmp .ne 7, 3) := dk_160 0 7 (dk_at dksX0_deal_4 6 rfl rfl)
theorem dX0_deal_102 : decode cX0_deal 102 = .ok (.iconst (-1), 1) := dk_2 (dk_at dksX0_deal_4 9 rfl rfl)
theorem dX0_deal_103 : decode cX0_deal 103 = .ok (.goto 5, 3) := dk_167 0 5 (dk_at dksX0_deal_4 10 rfl rfl)
theorem dX0_deal_106 : decode cX0_deal 106 = .ok (.iload 5, 2) := dk_21 5 (dk_at dksX0_deal_4 13 rfl rfl)
theorem dX0_deal_108 : decode cX0_deal 108 = .ok (.invokevirtual 317, 3) := dk_182 1 61 (dk_at dksX0_deal_4 15 rfl rfl)
theorem dX0_deal_111 : decode cX0_deal 111 = .ok (.istore 6, 2) := dk_54 6 (dk_at dksX0_deal_4 18 rfl rfl)
theorem dX0_deal_113 : decode cX0_deal 113 = .ok (.iinc 2 1, 3) := dk_132 2 1 (dk_at dksX0_deal_4 20 rfl rfl)
theorem dX0_deal_116 : decode cX0_deal 116 = .ok (.goto (-101), 3) := dk_167 255 155 (dk_at dksX0_deal_5 0 rfl rfl)
theorem dX0_deal_119 : decode cX0_deal 119 = .ok (.iload_n 2, 1) := dk_28 (dk_at dksX0_deal_5 3 rfl rfl)
theorem dX0_deal_120 : decode cX0_deal 120 = .ok (.ireturn, 1) := dk_172 (dk_at dksX0_deal_5 4 rfl rfl)
abbrev cX0_space : ByteArray := prog_1_method_58_code
def yX0_space : MethodName := ⟨RX0, "space", "(I)I"⟩
def dkwX0_space_1 : List UInt8 := [182, 1, 89, 42, 27, 182, 1, 171, 172]
abbrev dktX0_space_1 : List UInt8 := dkwX0_space_1 ++ []
def dkwX0_space_0 : List UInt8 := [27, 3, 16, 60, 184, 0, 137, 154, 0, 6, 18, 164, 172, 42, 180, 0, 46, 27, 181, 1, 168, 42]
abbrev dktX0_space_0 : List UInt8 := dkwX0_space_0 ++ dktX0_space_1
theorem dksX0_space_0 : cX0_space.data.toList.drop 0 = dktX0_space_0 := by decide +kernel
theorem dksX0_space_1 : cX0_space.data.toList.drop 22 = dktX0_space_1 := dk_seg dksX0_space_0 22 rfl rfl
theorem dX0_space_0 : decode cX0_space 0 = .ok (.iload_n 1, 1) := dk_27 (dk_at dksX0_space_0 0 rfl rfl)
theorem dX0_space_1 : decode cX0_space 1 = .ok (.iconst 0, 1) := dk_3 (dk_at dksX0_space_0 1 rfl rfl)
theorem dX0_space_2 : decode cX0_space 2 = .ok (.bipush 60, 2) := dk_16 60 (dk_at dksX0_space_0 2 rfl rfl)
theorem dX0_space_4 : decode cX0_space 4 = .ok (.invokestatic 137, 3) := dk_184 0 137 (dk_at dksX0_space_0 4 rfl rfl)
theorem dX0_space_7 : decode cX0_space 7 = .ok (.ifCond .ne 6, 3) := dk_154 0 6 (dk_at dksX0_space_0 7 rfl rfl)
theorem dX0_space_10 : decode cX0_space 10 = .ok (.ldc 164, 2) := dk_18 164 (dk_at dksX0_space_0 10 rfl rfl)
theorem dX0_space_12 : decode cX0_space 12 = .ok (.ireturn, 1) := dk_172 (dk_at dksX0_space_0 12 rfl rfl)
theorem dX0_space_13 : decode cX0_space 13 = .ok (.aload_n 0, 1) := dk_42 (dk_at dksX0_space_0 13 rfl rfl)
theorem dX0_space_14 : decode cX0_space 14 = .ok (.getfield 46, 3) := dk_180 0 46 (dk_at dksX0_space_0 14 rfl rfl)
theorem dX0_space_17 : decode cX0_space 17 = .ok (.iload_n 1, 1) := dk_27 (dk_at dksX0_space_0 17 rfl rfl)
theorem dX0_space_18 : decode cX0_space 18 = .ok (.putfield 424, 3) := dk_181 1 168 (dk_at dksX0_space_0 18 rfl rfl)
theorem dX0_space_21 : decode cX0_space 21 = .ok (.aload_n 0, 1) := dk_42 (dk_at dksX0_space_0 21 rfl rfl)
theorem dX0_space_22 : decode cX0_space 22 = .ok (.invokevirtual 345, 3) := dk_182 1 89 (dk_at dksX0_space_1 0 rfl rfl)
theorem dX0_space_25 : decode cX0_space 25 = .ok (.aload_n 0, 1) := dk_42 (dk_at dksX0_space_1 3 rfl rfl)
theorem dX0_space_26 : decode cX0_space 26 = .ok (.iload_n 1, 1) := dk_27 (dk_at dksX0_space_1 4 rfl rfl)
theorem dX0_space_27 : decode cX0_space 27 = .ok (.invokevirtual 427, 3) := dk_182 1 171 (dk_at dksX0_space_1 5 rfl rfl)
theorem dX0_space_30 : decode cX0_space 30 = .ok (.ireturn, 1) := dk_172 (dk_at dksX0_space_1 8 rfl rfl)
abbrev cX0_throwsDownTo : ByteArray := prog_1_method_56_code
def yX0_throwsDownTo : MethodName := ⟨RX0, "throwsDownTo", "(I)I"⟩
def dkwX0_throwsDownTo_1 : List UInt8 := [42, 182, 1, 157, 182, 1, 160, 132, 2, 1, 167, 255, 224, 28, 172]
abbrev dktX0_throwsDownTo_1 : List UInt8 := dkwX0_throwsDownTo_1 ++ []
def dkwX0_throwsDownTo_0 : List UInt8 := [3, 61, 42, 180, 0, 66, 180, 1, 129, 158, 0, 28, 42, 182, 1, 154, 27, 164, 0, 20, 42, 180, 0, 66]
abbrev dktX0_throwsDownTo_0 : List UInt8 := dkwX0_throwsDownTo_0 ++ dktX0_throwsDownTo_1
theorem dksX0_throwsDownTo_0 : cX0_throwsDownTo.data.toList.drop 0 = dktX0_throwsDownTo_0 := by decide +kernel
theorem dksX0_throwsDownTo_1 : cX0_throwsDownTo.data.toList.drop 24 = dktX0_throwsDownTo_1 := dk_seg dksX0_throwsDownTo_0 24 rfl rfl
theorem dX0_throwsDownTo_0 : decode cX0_throwsDownTo 0 = .ok (.iconst 0, 1) := dk_3 (dk_at dksX0_throwsDownTo_0 0 rfl rfl)
theorem dX0_throwsDownTo_1 : decode cX0_throwsDownTo 1 = .ok (.istore_n 2, 1) := dk_61 (dk_at dksX0_throwsDownTo_0 1 rfl rfl)
theorem dX0_throwsDownTo_2 : decode cX0_throwsDownTo 2 = .ok (.aload_n 0, 1) := dk_42 (dk_at dksX0_throwsDownTo_0 2 rfl rfl)
theorem dX0_throwsDownTo_3 : decode cX0_throwsDownTo 3 = .ok (.getfield 66, 3) := dk_180 0 66 (dk_at dksX0_throwsDownTo_0 3 rfl rfl)
theorem dX0_throwsDownTo_6 : decode cX0_throwsDownTo 6 = .ok (.getfield 385, 3) := dk_180 1 129 (dk_at dksX0_throwsDownTo_0 6 rfl rfl)
theorem dX0_throwsDownTo_9 : decode cX0_throwsDownTo 9 = .ok (.ifCond .le 28, 3) := dk_158 0 28 (dk_at dksX0_throwsDownTo_0 9 rfl rfl)
theorem dX0_throwsDownTo_12 : decode cX0_throwsDownTo 12 = .ok (.aload_n 0, 1) := dk_42 (dk_at dksX0_throwsDownTo_0 12 rfl rfl)
theorem dX0_throwsDownTo_13 : decode cX0_throwsDownTo 13 = .ok (.invokevirtual 410, 3) := dk_182 1 154 (dk_at dksX0_throwsDownTo_0 13 rfl rfl)
theorem dX0_throwsDownTo_16 : decode cX0_throwsDownTo 16 = .ok (.iload_n 1, 1) := dk_27 (dk_at dksX0_throwsDownTo_0 16 rfl rfl)
theorem dX0_throwsDownTo_17 : decode cX0_throwsDownTo 17 = .ok (.if_icmp .le 20, 3) := dk_164 0 20 (dk_at dksX0_throwsDownTo_0 17 rfl rfl)
theorem dX0_throwsDownTo_20 : decode cX0_throwsDownTo 20 = .ok (.aload_n 0, 1) := dk_42 (dk_at dksX0_throwsDownTo_0 20 rfl rfl)
theorem dX0_throwsDownTo_21 : decode cX0_throwsDownTo 21 = .ok (.getfield 66, 3) := dk_180 0 66 (dk_at dksX0_throwsDownTo_0 21 rfl rfl)
theorem dX0_throwsDownTo_24 : decode cX0_throwsDownTo 24 = .ok (.aload_n 0, 1) := dk_42 (dk_at dksX0_throwsDownTo_1 0 rfl rfl)
theorem dX0_throwsDownTo_25 : decode cX0_throwsDownTo 25 = .ok (.invokevirtual 413, 3) := dk_182 1 157 (dk_at dksX0_throwsDownTo_1 1 rfl rfl)
theorem dX0_throwsDownTo_28 : decode cX0_throwsDownTo 28 = .ok (.invokevirtual 416, 3) := dk_182 1 160 (dk_at dksX0_throwsDownTo_1 4 rfl rfl)
theorem dX0_throwsDownTo_31 : decode cX0_throwsDownTo 31 = .ok (.iinc 2 1, 3) := dk_132 2 1 (dk_at dksX0_throwsDownTo_1 7 rfl rfl)
theorem dX0_throwsDownTo_34 : decode cX0_throwsDownTo 34 = .ok (.goto (-32), 3) := dk_167 255 224 (dk_at dksX0_throwsDownTo_1 10 rfl rfl)
theorem dX0_throwsDownTo_37 : decode cX0_throwsDownTo 37 = .ok (.iload_n 2, 1) := dk_28 (dk_at dksX0_throwsDownTo_1 13 rfl rfl)
theorem dX0_throwsDownTo_38 : decode cX0_throwsDownTo 38 = .ok (.ireturn, 1) := dk_172 (dk_at dksX0_throwsDownTo_1 14 rfl rfl)
abbrev cX0_fullness : ByteArray := prog_1_method_50_code
def yX0_fullness : MethodName := ⟨RX0, "fullness", "()I"⟩
def dkwX0_fullness_1 : List UInt8 := [180, 1, 130, 28, 46, 46, 96, 60, 132, 2, 1, 167, 255, 225, 27, 172]
abbrev dktX0_fullness_1 : List UInt8 := dkwX0_fullness_1 ++ []
def dkwX0_fullness_0 : List UInt8 := [3, 60, 3, 61, 28, 42, 180, 0, 66, 180, 1, 129, 162, 0, 26, 27, 42, 180, 0, 87, 42, 180, 0, 66]
abbrev dktX0_fullness_0 : List UInt8 := dkwX0_fullness_0 ++ dktX0_fullness_1
theorem dksX0_fullness_0 : cX0_fullness.data.toList.drop 0 = dktX0_fullness_0 := by decide +kernel
theorem dksX0_fullness_1 : cX0_fullness.data.toList.drop 24 = dktX0_fullness_1 := dk_seg dksX0_fullness_0 24 rfl rfl
theorem dX0_fullness_0 : decode cX0_fullness 0 = .ok (.iconst 0, 1) := dk_3 (dk_at dksX0_fullness_0 0 rfl rfl)
theorem dX0_fullness_1 : decode cX0_fullness 1 = .ok (.istore_n 1, 1) := dk_60 (dk_at dksX0_fullness_0 1 rfl rfl)
theorem dX0_fullness_2 : decode cX0_fullness 2 = .ok (.iconst 0, 1) := dk_3 (dk_at dksX0_fullness_0 2 rfl rfl)
theorem dX0_fullness_3 : decode cX0_fullness 3 = .ok (.istore_n 2, 1) := dk_61 (dk_at dksX0_fullness_0 3 rfl rfl)
theorem dX0_fullness_4 : decode cX0_fullness 4 = .ok (.iload_n 2, 1) := dk_28 (dk_at dksX0_fullness_0 4 rfl rfl)
theorem dX0_fullness_5 : decode cX0_fullness 5 = .ok (.aload_n 0, 1) := dk_42 (dk_at dksX0_fullness_0 5 rfl rfl)
theorem dX0_fullness_6 : decode cX0_fullness 6 = .ok (.getfield 66, 3) := dk_180 0 66 (dk_at dksX0_fullness_0 6 rfl rfl)
theorem dX0_fullness_9 : decode cX0_fullness 9 = .ok (.getfield 385, 3) := dk_180 1 129 (dk_at dksX0_fullness_0 9 rfl rfl)
theorem dX0_fullness_12 : decode cX0_fullness 12 = .ok (.if_icmp .ge 26, 3) := dk_162 0 26 (dk_at dksX0_fullness_0 12 rfl rfl)
theorem dX0_fullness_15 : decode cX0_fullness 15 = .ok (.iload_n 1, 1) := dk_27 (dk_at dksX0_fullness_0 15 rfl rfl)
theorem dX0_fullness_16 : decode cX0_fullness 16 = .ok (.aload_n 0, 1) := dk_42 (dk_at dksX0_fullness_0 16 rfl rfl)
theorem dX0_fullness_17 : decode cX0_fullness 17 = .ok (.getfield 87, 3) := dk_180 0 87 (dk_at dksX0_fullness_0 17 rfl rfl)
theorem dX0_fullness_20 : decode cX0_fullness 20 = .ok (.aload_n 0, 1) := dk_42 (dk_at dksX0_fullness_0 20 rfl rfl)
theorem dX0_fullness_21 : decode cX0_fullness 21 = .ok (.getfield 66, 3) := dk_180 0 66 (dk_at dksX0_fullness_0 21 rfl rfl)
theorem dX0_fullness_24 : decode cX0_fullness 24 = .ok (.getfield 386, 3) := dk_180 1 130 (dk_at dksX0_fullness_1 0 rfl rfl)
theorem dX0_fullness_27 : decode cX0_fullness 27 = .ok (.iload_n 2, 1) := dk_28 (dk_at dksX0_fullness_1 3 rfl rfl)
theorem dX0_fullness_28 : decode cX0_fullness 28 = .ok (.iaload, 1) := dk_46 (dk_at dksX0_fullness_1 4 rfl rfl)
theorem dX0_fullness_29 : decode cX0_fullness 29 = .ok (.iaload, 1) := dk_46 (dk_at dksX0_fullness_1 5 rfl rfl)
theorem dX0_fullness_30 : decode cX0_fullness 30 = .ok (.iadd, 1) := dk_96 (dk_at dksX0_fullness_1 6 rfl rfl)
theorem dX0_fullness_31 : decode cX0_fullness 31 = .ok (.istore_n 1, 1) := dk_60 (dk_at dksX0_fullness_1 7 rfl rfl)
theorem dX0_fullness_32 : decode cX0_fullness 32 = .ok (.iinc 2 1, 3) := dk_132 2 1 (dk_at dksX0_fullness_1 8 rfl rfl)
theorem dX0_fullness_35 : decode cX0_fullness 35 = .ok (.goto (-31), 3) := dk_167 255 225 (dk_at dksX0_fullness_1 11 rfl rfl)
theorem dX0_fullness_38 : decode cX0_fullness 38 = .ok (.iload_n 1, 1) := dk_27 (dk_at dksX0_fullness_1 14 rfl rfl)
theorem dX0_fullness_39 : decode cX0_fullness 39 = .ok (.ireturn, 1) := dk_172 (dk_at dksX0_fullness_1 15 rfl rfl)
abbrev cX0_chosen : ByteArray := prog_1_method_55_code
def yX0_chosen : MethodName := ⟨RX0, "chosen", "()I"⟩
def dkwX0_chosen_4 : List UInt8 := [167, 255, 191, 28, 172]
abbrev dktX0_chosen_4 : List UInt8 := dkwX0_chosen_4 ++ []
def dkwX0_chosen_3 : List UInt8 := [54, 6, 28, 2, 159, 0, 9, 21, 6, 29, 164, 0, 9, 21, 5, 61, 21, 6, 62, 132, 4, 1]
abbrev dktX0_chosen_3 : List UInt8 := dkwX0_chosen_3 ++ dktX0_chosen_4
def dkwX0_chosen_2 : List UInt8 := [21, 4, 46, 54, 5, 42, 21, 5, 182, 1, 145, 154, 0, 6, 167, 0, 29, 42, 21, 5, 27, 182, 1, 151]
abbrev dktX0_chosen_2 : List UInt8 := dkwX0_chosen_2 ++ dktX0_chosen_3
def dkwX0_chosen_1 : List UInt8 := [3, 62, 3, 54, 4, 21, 4, 42, 180, 0, 66, 180, 1, 129, 162, 0, 59, 42, 180, 0, 66, 180, 1, 130]
abbrev dktX0_chosen_1 : List UInt8 := dkwX0_chosen_1 ++ dktX0_chosen_2
def dkwX0_chosen_0 : List UInt8 := [42, 180, 0, 46, 180, 1, 133, 6, 160, 0, 8, 42, 182, 1, 148, 172, 42, 5, 182, 1, 25, 60, 2, 61]
abbrev dktX0_chosen_0 : List UInt8 := dkwX0_chosen_0 ++ dktX0_chosen_1
theorem dksX0_chosen_0 : cX0_chosen.data.toList.drop 0 = dktX0_chosen_0 := by decide +kernel
theorem dksX0_chosen_1 : cX0_chosen.data.toList.drop 24 = dktX0_chosen_1 := dk_seg dksX0_chosen_0 24 rfl rfl
theorem dksX0_chosen_2 : cX0_chosen.data.toList.drop 48 = dktX0_chosen_2 := dk_seg dksX0_chosen_1 24 rfl rfl
theorem dksX0_chosen_3 : cX0_chosen.data.toList.drop 72 = dktX0_chosen_3 := dk_seg dksX0_chosen_2 24 rfl rfl
theorem dksX0_chosen_4 : cX0_chosen.data.toList.drop 94 = dktX0_chosen_4 := dk_seg dksX0_chosen_3 22 rfl rfl
theorem dX0_chosen_0 : decode cX0_chosen 0 = .ok (.aload_n 0, 1) := dk_42 (dk_at dksX0_chosen_0 0 rfl rfl)
theorem dX0_chosen_1 : decode cX0_chosen 1 = .ok (.getfield 46, 3) := dk_180 0 46 (dk_at dksX0_chosen_0 1 rfl rfl)
theorem dX0_chosen_4 : decode cX0_chosen 4 = .ok (.getfield 389, 3) := dk_180 1 133 (dk_at dksX0_chosen_0 4 rfl rfl)
theorem dX0_chosen_7 : decode cX0_chosen 7 = .ok (.iconst 3, 1) := dk_6 (dk_at dksX0_chosen_0 7 rfl rfl)
theorem dX0_chosen_8 : decode cX0_chosen 8 = .ok (.if_icmp .ne 8, 3) := dk_160 0 8 (dk_at dksX0_chosen_0 8 rfl rfl)
theorem dX0_chosen_11 : decode cX0_chosen 11 = .ok (.aload_n 0, 1) := dk_42 (dk_at dksX0_chosen_0 11 rfl rfl)
theorem dX0_chosen_12 : decode cX0_chosen 12 = .ok (.invokevirtual 404, 3) := dk_182 1 148 (dk_at dksX0_chosen_0 12 rfl rfl)
theorem dX0_chosen_15 : decode cX0_chosen 15 = .ok (.ireturn, 1) := dk_172 (dk_at dksX0_chosen_0 15 rfl rfl)
theorem dX0_chosen_16 : decode cX0_chosen 16 = .ok (.aload_n 0, 1) := dk_42 (dk_at dksX0_chosen_0 16 rfl rfl)
theorem dX0_chosen_17 : decode cX0_chosen 17 = .ok (.iconst 2, 1) := dk_5 (dk_at dksX0_chosen_0 17 rfl rfl)
theorem dX0_chosen_18 : decode cX0_chosen 18 = .ok (.invokevirtual 281, 3) := dk_182 1 25 (dk_at dksX0_chosen_0 18 rfl rfl)
theorem dX0_chosen_21 : decode cX0_chosen 21 = .ok (.istore_n 1, 1) := dk_60 (dk_at dksX0_chosen_0 21 rfl rfl)
theorem dX0_chosen_22 : decode cX0_chosen 22 = .ok (.iconst (-1), 1) := dk_2 (dk_at dksX0_chosen_0 22 rfl rfl)
theorem dX0_chosen_23 : decode cX0_chosen 23 = .ok (.istore_n 2, 1) := dk_61 (dk_at dksX0_chosen_0 23 rfl rfl)
theorem dX0_chosen_24 : decode cX0_chosen 24 = .ok (.iconst 0, 1) := dk_3 (dk_at dksX0_chosen_1 0 rfl rfl)
theorem dX0_chosen_25 : decode cX0_chosen 25 = .ok (.istore_n 3, 1) := dk_62 (dk_at dksX0_chosen_1 1 rfl rfl)
theorem dX0_chosen_26 : decode cX0_chosen 26 = .ok (.iconst 0, 1) := dk_3 (dk_at dksX0_chosen_1 2 rfl rfl)
theorem dX0_chosen_27 : decode cX0_chosen 27 = .ok (.istore 4, 2) := dk_54 4 (dk_at dksX0_chosen_1 3 rfl rfl)
theorem dX0_chosen_29 : decode cX0_chosen 29 = .ok (.iload 4, 2) := dk_21 4 (dk_at dksX0_chosen_1 5 rfl rfl)
theorem dX0_chosen_31 : decode cX0_chosen 31 = .ok (.aload_n 0, 1) := dk_42 (dk_at dksX0_chosen_1 7 rfl rfl)
theorem dX0_chosen_32 : decode cX0_chosen 32 = .ok (.getfield 66, 3) := dk_180 0 66 (dk_at dksX0_chosen_1 8 rfl rfl)
theorem dX0_chosen_35 : decode cX0_chosen 35 = .ok (.getfield 385, 3) := dk_180 1 129 (dk_at dksX0_chosen_1 11 rfl rfl)
theorem dX0_chosen_38 : decode cX0_chosen 38 = .ok (.if_icmp .ge 59, 3) := dk_162 0 59 (dk_at dksX0_chosen_1 14 rfl rfl)
theorem dX0_chosen_41 : decode cX0_chosen 41 = .ok (.aload_n 0, 1) := dk_42 (dk_at dksX0_chosen_1 17 rfl rfl)
theorem dX0_chosen_42 : decode cX0_chosen 42 = .ok (.getfield 66, 3) := dk_180 0 66 (dk_at dksX0_chosen_1 18 rfl rfl)
theorem dX0_chosen_45 : decode cX0_chosen 45 = .ok (.getfield 386, 3) := dk_180 1 130 (dk_at dksX0_chosen_1 21 rfl rfl)
theorem dX0_chosen_48 : decode cX0_chosen 48 = .ok (.iload 4, 2) := dk_21 4 (dk_at dksX0_chosen_2 0 rfl rfl)
theorem dX0_chosen_50 : decode cX0_chosen 50 = .ok (.iaload, 1) := dk_46 (dk_at dksX0_chosen_2 2 rfl rfl)
theorem dX0_chosen_51 : decode cX0_chosen 51 = .ok (.istore 5, 2) := dk_54 5 (dk_at dksX0_chosen_2 3 rfl rfl)
theorem dX0_chosen_53 : decode cX0_chosen 53 = .ok (.aload_n 0, 1) := dk_42 (dk_at dksX0_chosen_2 5 rfl rfl)
theorem dX0_chosen_54 : decode cX0_chosen 54 = .ok (.iload 5, 2) := dk_21 5 (dk_at dksX0_chosen_2 6 rfl rfl)
theorem dX0_chosen_56 : decode cX0_chosen 56 = .ok (.invokevirtual 401, 3) := dk_182 1 145 (dk_at dksX0_chosen_2 8 rfl rfl)
theorem dX0_chosen_59 : decode cX0_chosen 59 = .ok (.ifCond .ne 6, 3) := dk_154 0 6 (dk_at dksX0_chosen_2 11 rfl rfl)
theorem dX0_chosen_62 : decode cX0_chosen 62 = .ok (.goto 29, 3) := dk_167 0 29 (dk_at dksX0_chosen_2 14 rfl rfl)
theorem dX0_chosen_65 : decode cX0_chosen 65 = .ok (.aload_n 0, 1) := dk_42 (dk_at dksX0_chosen_2 17 rfl rfl)
theorem dX0_chosen_66 : decode cX0_chosen 66 = .ok (.iload 5, 2) := dk_21 5 (dk_at dksX0_chosen_2 18 rfl rfl)
theorem dX0_chosen_68 : decode cX0_chosen 68 = .ok (.iload_n 1, 1) := dk_27 (dk_at dksX0_chosen_2 20 rfl rfl)
theorem dX0_chosen_69 : decode cX0_chosen 69 = .ok (.invokevirtual 407, 3) := dk_182 1 151 (dk_at dksX0_chosen_2 21 rfl rfl)
theorem dX0_chosen_72 : decode cX0_chosen 72 = .ok (.istore 6, 2) := dk_54 6 (dk_at dksX0_chosen_3 0 rfl rfl)
theorem dX0_chosen_74 : decode cX0_chosen 74 = .ok (.iload_n 2, 1) := dk_28 (dk_at dksX0_chosen_3 2 rfl rfl)
theorem dX0_chosen_75 : decode cX0_chosen 75 = .ok (.iconst (-1), 1) := dk_2 (dk_at dksX0_chosen_3 3 rfl rfl)
theorem dX0_chosen_76 : decode cX0_chosen 76 = .ok (.if_icmp .eq 9, 3) := dk_159 0 9 (dk_at dksX0_chosen_3 4 rfl rfl)
theorem dX0_chosen_79 : decode cX0_chosen 79 = .ok (.iload 6, 2) := dk_21 6 (dk_at dksX0_chosen_3 7 rfl rfl)
theorem dX0_chosen_81 : decode cX0_chosen 81 = .ok (.iload_n 3, 1) := dk_29 (dk_at dksX0_chosen_3 9 rfl rfl)
theorem dX0_chosen_82 : decode cX0_chosen 82 = .ok (.if_icmp .le 9, 3) := dk_164 0 9 (dk_at dksX0_chosen_3 10 rfl rfl)
theorem dX0_chosen_85 : decode cX0_chosen 85 = .ok (.iload 5, 2) := dk_21 5 (dk_at dksX0_chosen_3 13 rfl rfl)
theorem dX0_chosen_87 : decode cX0_chosen 87 = .ok (.istore_n 2, 1) := dk_61 (dk_at dksX0_chosen_3 15 rfl rfl)
theorem dX0_chosen_88 : decode cX0_chosen 88 = .ok (.iload 6, 2) := dk_21 6 (dk_at dksX0_chosen_3 16 rfl rfl)
theorem dX0_chosen_90 : decode cX0_chosen 90 = .ok (.istore_n 3, 1) := dk_62 (dk_at dksX0_chosen_3 18 rfl rfl)
theorem dX0_chosen_91 : decode cX0_chosen 91 = .ok (.iinc 4 1, 3) := dk_132 4 1 (dk_at dksX0_chosen_3 19 rfl rfl)
theorem dX0_chosen_94 : decode cX0_chosen 94 = .ok (.goto (-65), 3) := dk_167 255 191 (dk_at dksX0_chosen_4 0 rfl rfl)
theorem dX0_chosen_97 : decode cX0_chosen 97 = .ok (.iload_n 2, 1) := dk_28 (dk_at dksX0_chosen_4 3 rfl rfl)
theorem dX0_chosen_98 : decode cX0_chosen 98 = .ok (.ireturn, 1) := dk_172 (dk_at dksX0_chosen_4 4 rfl rfl)
abbrev cX0_byLot : ByteArray := prog_1_method_54_code
def yX0_byLot : MethodName := ⟨RX0, "byLot", "()I"⟩
def dkwX0_byLot_4 : List UInt8 := [4, 167, 0, 4, 3, 100, 61, 132, 3, 1, 167, 255, 209, 42, 180, 0, 66, 180, 1, 130, 29, 46, 172]
abbrev dktX0_byLot_4 : List UInt8 := dkwX0_byLot_4 ++ []
def dkwX0_byLot_3 : List UInt8 := [46, 182, 1, 145, 154, 0, 33, 28, 42, 42, 180, 0, 66, 180, 1, 130, 29, 46, 182, 1, 145, 153, 0, 7]
abbrev dktX0_byLot_3 : List UInt8 := dkwX0_byLot_3 ++ dktX0_byLot_4
def dkwX0_byLot_2 : List UInt8 := [180, 0, 66, 182, 1, 126, 27, 112, 61, 3, 62, 28, 157, 0, 19, 42, 42, 180, 0, 66, 180, 1, 130, 29]
abbrev dktX0_byLot_2 : List UInt8 := dkwX0_byLot_2 ++ dktX0_byLot_3
def dkwX0_byLot_1 : List UInt8 := [28, 46, 182, 1, 145, 153, 0, 7, 4, 167, 0, 4, 3, 96, 60, 132, 2, 1, 167, 255, 218, 42]
abbrev dktX0_byLot_1 : List UInt8 := dkwX0_byLot_1 ++ dktX0_byLot_2
def dkwX0_byLot_0 : List UInt8 := [3, 60, 3, 61, 28, 42, 180, 0, 66, 180, 1, 129, 162, 0, 33, 27, 42, 42, 180, 0, 66, 180, 1, 130]
abbrev dktX0_byLot_0 : List UInt8 := dkwX0_byLot_0 ++ dktX0_byLot_1
theorem dksX0_byLot_0 : cX0_byLot.data.toList.drop 0 = dktX0_byLot_0 := by decide +kernel
theorem dksX0_byLot_1 : cX0_byLot.data.toList.drop 24 = dktX0_byLot_1 := dk_seg dksX0_byLot_0 24 rfl rfl
theorem dksX0_byLot_2 : cX0_byLot.data.toList.drop 46 = dktX0_byLot_2 := dk_seg dksX0_byLot_1 22 rfl rfl
theorem dksX0_byLot_3 : cX0_byLot.data.toList.drop 70 = dktX0_byLot_3 := dk_seg dksX0_byLot_2 24 rfl rfl
theorem dksX0_byLot_4 : cX0_byLot.data.toList.drop 94 = dktX0_byLot_4 := dk_seg dksX0_byLot_3 24 rfl rfl
theorem dX0_byLot_0 : decode cX0_byLot 0 = .ok (.iconst 0, 1) := dk_3 (dk_at dksX0_byLot_0 0 rfl rfl)
theorem dX0_byLot_1 : decode cX0_byLot 1 = .ok (.istore_n 1, 1) := dk_60 (dk_at dksX0_byLot_0 1 rfl rfl)
theorem dX0_byLot_2 : decode cX0_byLot 2 = .ok (.iconst 0, 1) := dk_3 (dk_at dksX0_byLot_0 2 rfl rfl)
theorem dX0_byLot_3 : decode cX0_byLot 3 = .ok (.istore_n 2, 1) := dk_61 (dk_at dksX0_byLot_0 3 rfl rfl)
theorem dX0_byLot_4 : decode cX0_byLot 4 = .ok (.iload_n 2, 1) := dk_28 (dk_at dksX0_byLot_0 4 rfl rfl)
theorem dX0_byLot_5 : decode cX0_byLot 5 = .ok (.aload_n 0, 1) := dk_42 (dk_at dksX0_byLot_0 5 rfl rfl)
theorem dX0_byLot_6 : decode cX0_byLot 6 = .ok (.getfield 66, 3) := dk_180 0 66 (dk_at dksX0_byLot_0 6 rfl rfl)
theorem dX0_byLot_9 : decode cX0_byLot 9 = .ok (.getfield 385, 3) := dk_180 1 129 (dk_at dksX0_byLot_0 9 rfl rfl)
theorem dX0_byLot_12 : decode cX0_byLot 12 = .ok (.if_icmp .ge 33, 3) := dk_162 0 33 (dk_at dksX0_byLot_0 12 rfl rfl)
theorem dX0_byLot_15 : decode cX0_byLot 15 = .ok (.iload_n 1, 1) := dk_27 (dk_at dksX0_byLot_0 15 rfl rfl)
theorem dX0_byLot_16 : decode cX0_byLot 16 = .ok (.aload_n 0, 1) := dk_42 (dk_at dksX0_byLot_0 16 rfl rfl)
theorem dX0_byLot_17 : decode cX0_byLot 17 = .ok (.aload_n 0, 1) := dk_42 (dk_at dksX0_byLot_0 17 rfl rfl)
theorem dX0_byLot_18 : decode cX0_byLot 18 = .ok (.getfield 66, 3) := dk_180 0 66 (dk_at dksX0_byLot_0 18 rfl rfl)
theorem dX0_byLot_21 : decode cX0_byLot 21 = .ok (.getfield 386, 3) := dk_180 1 130 (dk_at dksX0_byLot_0 21 rfl rfl)
theorem dX0_byLot_24 : decode cX0_byLot 24 = .ok (.iload_n 2, 1) := dk_28 (dk_at dksX0_byLot_1 0 rfl rfl)
theorem dX0_byLot_25 : decode cX0_byLot 25 = .ok (.iaload, 1) := dk_46 (dk_at dksX0_byLot_1 1 rfl rfl)
theorem dX0_byLot_26 : decode cX0_byLot 26 = .ok (.invokevirtual 401, 3) := dk_182 1 145 (dk_at dksX0_byLot_1 2 rfl rfl)
theorem dX0_byLot_29 : decode cX0_byLot 29 = .ok (.ifCond .eq 7, 3) := dk_153 0 7 (dk_at dksX0_byLot_1 5 rfl rfl)
theorem dX0_byLot_32 : decode cX0_byLot 32 = .ok (.iconst 1, 1) := dk_4 (dk_at dksX0_byLot_1 8 rfl rfl)
theorem dX0_byLot_33 : decode cX0_byLot 33 = .ok (.goto 4, 3) := dk_167 0 4 (dk_at dksX0_byLot_1 9 rfl rfl)
theorem dX0_byLot_36 : decode cX0_byLot 36 = .ok (.iconst 0, 1) := dk_3 (dk_at dksX0_byLot_1 12 rfl rfl)
theorem dX0_byLot_37 : decode cX0_byLot 37 = .ok (.iadd, 1) := dk_96 (dk_at dksX0_byLot_1 13 rfl rfl)
theorem dX0_byLot_38 : decode cX0_byLot 38 = .ok (.istore_n 1, 1) := dk_60 (dk_at dksX0_byLot_1 14 rfl rfl)
theorem dX0_byLot_39 : decode cX0_byLot 39 = .ok (.iinc 2 1, 3) := dk_132 2 1 (dk_at dksX0_byLot_1 15 rfl rfl)
theorem dX0_byLot_42 : decode cX0_byLot 42 = .ok (.goto (-38), 3) := dk_167 255 218 (dk_at dksX0_byLot_1 18 rfl rfl)
theorem dX0_byLot_45 : decode cX0_byLot 45 = .ok (.aload_n 0, 1) := dk_42 (dk_at dksX0_byLot_1 21 rfl rfl)
theorem dX0_byLot_46 : decode cX0_byLot 46 = .ok (.getfield 66, 3) := dk_180 0 66 (dk_at dksX0_byLot_2 0 rfl rfl)
theorem dX0_byLot_49 : decode cX0_byLot 49 = .ok (.invokevirtual 382, 3) := dk_182 1 126 (dk_at dksX0_byLot_2 3 rfl rfl)
theorem dX0_byLot_52 : decode cX0_byLot 52 = .ok (.iload_n 1, 1) := dk_27 (dk_at dksX0_byLot_2 6 rfl rfl)
theorem dX0_byLot_53 : decode cX0_byLot 53 = .ok (.irem, 1) := dk_112 (dk_at dksX0_byLot_2 7 rfl rfl)
theorem dX0_byLot_54 : decode cX0_byLot 54 = .ok (.istore_n 2, 1) := dk_61 (dk_at dksX0_byLot_2 8 rfl rfl)
theorem dX0_byLot_55 : decode cX0_byLot 55 = .ok (.iconst 0, 1) := dk_3 (dk_at dksX0_byLot_2 9 rfl rfl)
theorem dX0_byLot_56 : decode cX0_byLot 56 = .ok (.istore_n 3, 1) := dk_62 (dk_at dksX0_byLot_2 10 rfl rfl)
theorem dX0_byLot_57 : decode cX0_byLot 57 = .ok (.iload_n 2, 1) := dk_28 (dk_at dksX0_byLot_2 11 rfl rfl)
theorem dX0_byLot_58 : decode cX0_byLot 58 = .ok (.ifCond .gt 19, 3) := dk_157 0 19 (dk_at dksX0_byLot_2 12 rfl rfl)
theorem dX0_byLot_61 : decode cX0_byLot 61 = .ok (.aload_n 0, 1) := dk_42 (dk_at dksX0_byLot_2 15 rfl rfl)
theorem dX0_byLot_62 : decode cX0_byLot 62 = .ok (.aload_n 0, 1) := dk_42 (dk_at dksX0_byLot_2 16 rfl rfl)
theorem dX0_byLot_63 : decode cX0_byLot 63 = .ok (.getfield 66, 3) := dk_180 0 66 (dk_at dksX0_byLot_2 17 rfl rfl)
theorem dX0_byLot_66 : decode cX0_byLot 66 = .ok (.getfield 386, 3) := dk_180 1 130 (dk_at dksX0_byLot_2 20 rfl rfl)
theorem dX0_byLot_69 : decode cX0_byLot 69 = .ok (.iload_n 3, 1) := dk_29 (dk_at dksX0_byLot_2 23 rfl rfl)
theorem dX0_byLot_70 : decode cX0_byLot 70 = .ok (.iaload, 1) := dk_46 (dk_at dksX0_byLot_3 0 rfl rfl)
theorem dX0_byLot_71 : decode cX0_byLot 71 = .ok (.invokevirtual 401, 3) := dk_182 1 145 (dk_at dksX0_byLot_3 1 rfl rfl)
theorem dX0_byLot_74 : decode cX0_byLot 74 = .ok (.ifCond .ne 33, 3) := dk_154 0 33 (dk_at dksX0_byLot_3 4 rfl rfl)
theorem dX0_byLot_77 : decode cX0_byLot 77 = .ok (.iload_n 2, 1) := dk_28 (dk_at dksX0_byLot_3 7 rfl rfl)
theorem dX0_byLot_78 : decode cX0_byLot 78 = .ok (.aload_n 0, 1) := dk_42 (dk_at dksX0_byLot_3 8 rfl rfl)
theorem dX0_byLot_79 : decode cX0_byLot 79 = .ok (.aload_n 0, 1) := dk_42 (dk_at dksX0_byLot_3 9 rfl rfl)
theorem dX0_byLot_80 : decode cX0_byLot 80 = .ok (.getfield 66, 3) := dk_180 0 66 (dk_at dksX0_byLot_3 10 rfl rfl)
theorem dX0_byLot_83 : decode cX0_byLot 83 = .ok (.getfield 386, 3) := dk_180 1 130 (dk_at dksX0_byLot_3 13 rfl rfl)
theorem dX0_byLot_86 : decode cX0_byLot 86 = .ok (.iload_n 3, 1) := dk_29 (dk_at dksX0_byLot_3 16 rfl rfl)
theorem dX0_byLot_87 : decode cX0_byLot 87 = .ok (.iaload, 1) := dk_46 (dk_at dksX0_byLot_3 17 rfl rfl)
theorem dX0_byLot_88 : decode cX0_byLot 88 = .ok (.invokevirtual 401, 3) := dk_182 1 145 (dk_at dksX0_byLot_3 18 rfl rfl)
theorem dX0_byLot_91 : decode cX0_byLot 91 = .ok (.ifCond .eq 7, 3) := dk_153 0 7 (dk_at dksX0_byLot_3 21 rfl rfl)
theorem dX0_byLot_94 : decode cX0_byLot 94 = .ok (.iconst 1, 1) := dk_4 (dk_at dksX0_byLot_4 0 rfl rfl)
theorem dX0_byLot_95 : decode cX0_byLot 95 = .ok (.goto 4, 3) := dk_167 0 4 (dk_at dksX0_byLot_4 1 rfl rfl)
theorem dX0_byLot_98 : decode cX0_byLot 98 = .ok (.iconst 0, 1) := dk_3 (dk_at dksX0_byLot_4 4 rfl rfl)
theorem dX0_byLot_99 : decode cX0_byLot 99 = .ok (.isub, 1) := dk_100 (dk_at dksX0_byLot_4 5 rfl rfl)
theorem dX0_byLot_100 : decode cX0_byLot 100 = .ok (.istore_n 2, 1) := dk_61 (dk_at dksX0_byLot_4 6 rfl rfl)
theorem dX0_byLot_101 : decode cX0_byLot 101 = .ok (.iinc 3 1, 3) := dk_132 3 1 (dk_at dksX0_byLot_4 7 rfl rfl)
theorem dX0_byLot_104 : decode cX0_byLot 104 = .ok (.goto (-47), 3) := dk_167 255 209 (dk_at dksX0_byLot_4 10 rfl rfl)
theorem dX0_byLot_107 : decode cX0_byLot 107 = .ok (.aload_n 0, 1) := dk_42 (dk_at dksX0_byLot_4 13 rfl rfl)
theorem dX0_byLot_108 : decode cX0_byLot 108 = .ok (.getfield 66, 3) := dk_180 0 66 (dk_at dksX0_byLot_4 14 rfl rfl)
theorem dX0_byLot_111 : decode cX0_byLot 111 = .ok (.getfield 386, 3) := dk_180 1 130 (dk_at dksX0_byLot_4 17 rfl rfl)
theorem dX0_byLot_114 : decode cX0_byLot 114 = .ok (.iload_n 3, 1) := dk_29 (dk_at dksX0_byLot_4 20 rfl rfl)
theorem dX0_byLot_115 : decode cX0_byLot 115 = .ok (.iaload, 1) := dk_46 (dk_at dksX0_byLot_4 21 rfl rfl)
theorem dX0_byLot_116 : decode cX0_byLot 116 = .ok (.ireturn, 1) := dk_172 (dk_at dksX0_byLot_4 22 rfl rfl)
abbrev cX0_isLooked : ByteArray := prog_1_method_53_code
def yX0_isLooked : MethodName := ⟨RX0, "isLooked", "(I)Z"⟩
def dkwX0_isLooked_0 : List UInt8 := [42, 180, 0, 46, 180, 1, 139, 153, 0, 11, 42, 27, 182, 1, 142, 154, 0, 7, 4, 167, 0, 4, 3, 172]
abbrev dktX0_isLooked_0 : List UInt8 := dkwX0_isLooked_0 ++ []
theorem dksX0_isLooked_0 : cX0_isLooked.data.toList.drop 0 = dktX0_isLooked_0 := by decide +kernel
theorem dX0_isLooked_0 : decode cX0_isLooked 0 = .ok (.aload_n 0, 1) := dk_42 (dk_at dksX0_isLooked_0 0 rfl rfl)
theorem dX0_isLooked_1 : decode cX0_isLooked 1 = .ok (.getfield 46, 3) := dk_180 0 46 (dk_at dksX0_isLooked_0 1 rfl rfl)
theorem dX0_isLooked_4 : decode cX0_isLooked 4 = .ok (.getfield 395, 3) := dk_180 1 139 (dk_at dksX0_isLooked_0 4 rfl rfl)
theorem dX0_isLooked_7 : decode cX0_isLooked 7 = .ok (.ifCond .eq 11, 3) := dk_153 0 11 (dk_at dksX0_isLooked_0 7 rfl rfl)
theorem dX0_isLooked_10 : decode cX0_isLooked 10 = .ok (.aload_n 0, 1) := dk_42 (dk_at dksX0_isLooked_0 10 rfl rfl)
theorem dX0_isLooked_11 : decode cX0_isLooked 11 = .ok (.iload_n 1, 1) := dk_27 (dk_at dksX0_isLooked_0 11 rfl rfl)
theorem dX0_isLooked_12 : decode cX0_isLooked 12 = .ok (.invokevirtual 398, 3) := dk_182 1 142 (dk_at dksX0_isLooked_0 12 rfl rfl)
theorem dX0_isLooked_15 : decode cX0_isLooked 15 = .ok (.ifCond .ne 7, 3) := dk_154 0 7 (dk_at dksX0_isLooked_0 15 rfl rfl)
theorem dX0_isLooked_18 : decode cX0_isLooked 18 = .ok (.iconst 1, 1) := dk_4 (dk_at dksX0_isLooked_0 18 rfl rfl)
theorem dX0_isLooked_19 : decode cX0_isLooked 19 = .ok (.goto 4, 3) := dk_167 0 4 (dk_at dksX0_isLooked_0 19 rfl rfl)
theorem dX0_isLooked_22 : decode cX0_isLooked 22 = .ok (.iconst 0, 1) := dk_3 (dk_at dksX0_isLooked_0 22 rfl rfl)
theorem dX0_isLooked_23 : decode cX0_isLooked 23 = .ok (.ireturn, 1) := dk_172 (dk_at dksX0_isLooked_0 23 rfl rfl)
abbrev cX0_isLeaned : ByteArray := prog_1_method_51_code
def yX0_isLeaned : MethodName := ⟨RX0, "isLeaned", "(I)Z"⟩
def dkwX0_isLeaned_1 : List UInt8 := [180, 1, 130, 28, 46, 50, 180, 1, 46, 27, 160, 0, 5, 4, 172, 132, 2, 1, 167, 255, 216, 3, 172]
abbrev dktX0_isLeaned_1 : List UInt8 := dkwX0_isLeaned_1 ++ []
def dkwX0_isLeaned_0 : List UInt8 := [3, 61, 28, 42, 180, 0, 66, 180, 1, 129, 162, 0, 35, 42, 180, 0, 46, 180, 1, 32, 42, 180, 0, 66]
abbrev dktX0_isLeaned_0 : List UInt8 := dkwX0_isLeaned_0 ++ dktX0_isLeaned_1
theorem dksX0_isLeaned_0 : cX0_isLeaned.data.toList.drop 0 = dktX0_isLeaned_0 := by decide +kernel
theorem dksX0_isLeaned_1 : cX0_isLeaned.data.toList.drop 24 = dktX0_isLeaned_1 := dk_seg dksX0_isLeaned_0 24 rfl rfl
theorem dX0_isLeaned_0 : decode cX0_isLeaned 0 = .ok (.iconst 0, 1) := dk_3 (dk_at dksX0_isLeaned_0 0 rfl rfl)
theorem dX0_isLeaned_1 : decode cX0_isLeaned 1 = .ok (.istore_n 2, 1) := dk_61 (dk_at dksX0_isLeaned_0 1 rfl rfl)
theorem dX0_isLeaned_2 : decode cX0_isLeaned 2 = .ok (.iload_n 2, 1) := dk_28 (dk_at dksX0_isLeaned_0 2 rfl rfl)
theorem dX0_isLeaned_3 : decode cX0_isLeaned 3 = .ok (.aload_n 0, 1) := dk_42 (dk_at dksX0_isLeaned_0 3 rfl rfl)
theorem dX0_isLeaned_4 : decode cX0_isLeaned 4 = .ok (.getfield 66, 3) := dk_180 0 66 (dk_at dksX0_isLeaned_0 4 rfl rfl)
theorem dX0_isLeaned_7 : decode cX0_isLeaned 7 = .ok (.getfield 385, 3) := dk_180 1 129 (dk_at dksX0_isLeaned_0 7 rfl rfl)
theorem dX0_isLeaned_10 : decode cX0_isLeaned 10 = .ok (.if_icmp .ge 35, 3) := dk_162 0 35 (dk_at dksX0_isLeaned_0 10 rfl rfl)
theorem dX0_isLeaned_13 : decode cX0_isLeaned 13 = .ok (.aload_n 0, 1) := dk_42 (dk_at dksX0_isLeaned_0 13 rfl rfl)
theorem dX0_isLeaned_14 : decode cX0_isLeaned 14 = .ok (.getfield 46, 3) := dk_180 0 46 (dk_at dksX0_isLeaned_0 14 rfl rfl)
theorem dX0_isLeaned_17 : decode cX0_isLeaned 17 = .ok (.getfield 288, 3) := dk_180 1 32 (dk_at dksX0_isLeaned_0 17 rfl rfl)
theorem dX0_isLeaned_20 : decode cX0_isLeaned 20 = .ok (.aload_n 0, 1) := dk_42 (dk_at dksX0_isLeaned_0 20 rfl rfl)
theorem dX0_isLeaned_21 : decode cX0_isLeaned 21 = .ok (.getfield 66, 3) := dk_180 0 66 (dk_at dksX0_isLeaned_0 21 rfl rfl)
theorem dX0_isLeaned_24 : decode cX0_isLeaned 24 = .ok (.getfield 386, 3) := dk_180 1 130 (dk_at dksX0_isLeaned_1 0 rfl rfl)
theorem dX0_isLeaned_27 : decode cX0_isLeaned 27 = .ok (.iload_n 2, 1) := dk_28 (dk_at dksX0_isLeaned_1 3 rfl rfl)
theorem dX0_isLeaned_28 : decode cX0_isLeaned 28 = .ok (.iaload, 1) := dk_46 (dk_at dksX0_isLeaned_1 4 rfl rfl)
theorem dX0_isLeaned_29 : decode cX0_isLeaned 29 = .ok (.aaload, 1) := dk_50 (dk_at dksX0_isLeaned_1 5 rfl rfl)
theorem dX0_isLeaned_30 : decode cX0_isLeaned 30 = .ok (.getfield 302, 3) := dk_180 1 46 (dk_at dksX0_isLeaned_1 6 rfl rfl)
theorem dX0_isLeaned_33 : decode cX0_isLeaned 33 = .ok (.iload_n 1, 1) := dk_27 (dk_at dksX0_isLeaned_1 9 rfl rfl)
theorem dX0_isLeaned_34 : decode cX0_isLeaned 34 = .ok (.if_icmp .ne 5, 3) := dk_160 0 5 (dk_at dksX0_isLeaned_1 10 rfl rfl)
theorem dX0_isLeaned_37 : decode cX0_isLeaned 37 = .ok (.iconst 1, 1) := dk_4 (dk_at dksX0_isLeaned_1 13 rfl rfl)
theorem dX0_isLeaned_38 : decode cX0_isLeaned 38 = .ok (.ireturn, 1) := dk_172 (dk_at dksX0_isLeaned_1 14 rfl rfl)
theorem dX0_isLeaned_39 : decode cX0_isLeaned 39 = .ok (.iinc 2 1, 3) := dk_132 2 1 (dk_at dksX0_isLeaned_1 15 rfl rfl)
theorem dX0_isLeaned_42 : decode cX0_isLeaned 42 = .ok (.goto (-40), 3) := dk_167 255 216 (dk_at dksX0_isLeaned_1 18 rfl rfl)
theorem dX0_isLeaned_45 : decode cX0_isLeaned 45 = .ok (.iconst 0, 1) := dk_3 (dk_at dksX0_isLeaned_1 21 rfl rfl)
theorem dX0_isLeaned_46 : decode cX0_isLeaned 46 = .ok (.ireturn, 1) := dk_172 (dk_at dksX0_isLeaned_1 22 rfl rfl)
abbrev cX0_goesBy : ByteArray := prog_1_method_52_code
def yX0_goesBy : MethodName := ⟨RX0, "goesBy", "(II)I"⟩
def dkwX0_goesBy_6 : List UInt8 := [180, 0, 46, 180, 1, 18, 28, 50, 180, 1, 65, 182, 1, 69, 172, 3, 172]
abbrev dktX0_goesBy_6 : List UInt8 := dkwX0_goesBy_6 ++ []
def dkwX0_goesBy_5 : List UInt8 := [180, 0, 84, 16, 114, 42, 180, 0, 87, 27, 46, 79, 42, 180, 0, 84, 16, 110, 27, 79, 42, 42]
abbrev dktX0_goesBy_5 : List UInt8 := dkwX0_goesBy_5 ++ dktX0_goesBy_6
def dkwX0_goesBy_4 : List UInt8 := [180, 1, 49, 27, 46, 100, 79, 42, 180, 0, 84, 16, 116, 42, 180, 0, 66, 180, 1, 52, 27, 46, 79, 42]
abbrev dktX0_goesBy_4 : List UInt8 := dkwX0_goesBy_4 ++ dktX0_goesBy_5
def dkwX0_goesBy_3 : List UInt8 := [160, 0, 5, 3, 172, 42, 180, 0, 84, 16, 97, 42, 180, 0, 66, 180, 1, 136, 42, 180, 0, 66]
abbrev dktX0_goesBy_3 : List UInt8 := dkwX0_goesBy_3 ++ dktX0_goesBy_4
def dkwX0_goesBy_2 : List UInt8 := [42, 180, 0, 66, 180, 1, 49, 27, 46, 116, 172, 42, 180, 0, 66, 180, 1, 52, 27, 46, 116, 172, 28, 2]
abbrev dktX0_goesBy_2 : List UInt8 := dkwX0_goesBy_2 ++ dktX0_goesBy_3
def dkwX0_goesBy_1 : List UInt8 := [170, 0, 0, 0, 136, 0, 0, 0, 1, 0, 0, 0, 4, 0, 0, 0, 29, 0, 0, 0, 40, 0, 0, 0, 136, 0, 0, 0, 51]
abbrev dktX0_goesBy_1 : List UInt8 := dkwX0_goesBy_1 ++ dktX0_goesBy_2
def dkwX0_goesBy_0 : List UInt8 := [42, 180, 0, 46, 180, 1, 133]
abbrev dktX0_goesBy_0 : List UInt8 := dkwX0_goesBy_0 ++ dktX0_goesBy_1
theorem dksX0_goesBy_0 : cX0_goesBy.data.toList.drop 0 = dktX0_goesBy_0 := by decide +kernel
theorem dksX0_goesBy_1 : cX0_goesBy.data.toList.drop 7 = dktX0_goesBy_1 := dk_seg dksX0_goesBy_0 7 rfl rfl
theorem dksX0_goesBy_2 : cX0_goesBy.data.toList.drop 36 = dktX0_goesBy_2 := dk_seg dksX0_goesBy_1 29 rfl rfl
theorem dksX0_goesBy_3 : cX0_goesBy.data.toList.drop 60 = dktX0_goesBy_3 := dk_seg dksX0_goesBy_2 24 rfl rfl
theorem dksX0_goesBy_4 : cX0_goesBy.data.toList.drop 82 = dktX0_goesBy_4 := dk_seg dksX0_goesBy_3 22 rfl rfl
theorem dksX0_goesBy_5 : cX0_goesBy.data.toList.drop 106 = dktX0_goesBy_5 := dk_seg dksX0_goesBy_4 24 rfl rfl
theorem dksX0_goesBy_6 : cX0_goesBy.data.toList.drop 128 = dktX0_goesBy_6 := dk_seg dksX0_goesBy_5 22 rfl rfl
theorem dX0_goesBy_0 : decode cX0_goesBy 0 = .ok (.aload_n 0, 1) := dk_42 (dk_at dksX0_goesBy_0 0 rfl rfl)
theorem dX0_goesBy_1 : decode cX0_goesBy 1 = .ok (.getfield 46, 3) := dk_180 0 46 (dk_at dksX0_goesBy_0 1 rfl rfl)
theorem dX0_goesBy_4 : decode cX0_goesBy 4 = .ok (.getfield 389, 3) := dk_180 1 133 (dk_at dksX0_goesBy_0 4 rfl rfl)
theorem dX0_goesBy_7 : decode cX0_goesBy 7 = .ok (.tableswitch 136 1 4 #[29, 40, 136, 51], 29) := by decide +kernel
theorem dX0_goesBy_36 : decode cX0_goesBy 36 = .ok (.aload_n 0, 1) := dk_42 (dk_at dksX0_goesBy_2 0 rfl rfl)
theorem dX0_goesBy_37 : decode cX0_goesBy 37 = .ok (.getfield 66, 3) := dk_180 0 66 (dk_at dksX0_goesBy_2 1 rfl rfl)
theorem dX0_goesBy_40 : decode cX0_goesBy 40 = .ok (.getfield 305, 3) := dk_180 1 49 (dk_at dksX0_goesBy_2 4 rfl rfl)
theorem dX0_goesBy_43 : decode cX0_goesBy 43 = .ok (.iload_n 1, 1) := dk_27 (dk_at dksX0_goesBy_2 7 rfl rfl)
theorem dX0_goesBy_44 : decode cX0_goesBy 44 = .ok (.iaload, 1) := dk_46 (dk_at dksX0_goesBy_2 8 rfl rfl)
theorem dX0_goesBy_45 : decode cX0_goesBy 45 = .ok (.ineg, 1) := dk_116 (dk_at dksX0_goesBy_2 9 rfl rfl)
theorem dX0_goesBy_46 : decode cX0_goesBy 46 = .ok (.ireturn, 1) := dk_172 (dk_at dksX0_goesBy_2 10 rfl rfl)
theorem dX0_goesBy_47 : decode cX0_goesBy 47 = .ok (.aload_n 0, 1) := dk_42 (dk_at dksX0_goesBy_2 11 rfl rfl)
theorem dX0_goesBy_48 : decode cX0_goesBy 48 = .ok (.getfield 66, 3) := dk_180 0 66 (dk_at dksX0_goesBy_2 12 rfl rfl)
theorem dX0_goesBy_51 : decode cX0_goesBy 51 = .ok (.getfield 308, 3) := dk_180 1 52 (dk_at dksX0_goesBy_2 15 rfl rfl)
theorem dX0_goesBy_54 : decode cX0_goesBy 54 = .ok (.iload_n 1, 1) := dk_27 (dk_at dksX0_goesBy_2 18 rfl rfl)
theorem dX0_goesBy_55 : decode cX0_goesBy 55 = .ok (.iaload, 1) := dk_46 (dk_at dksX0_goesBy_2 19 rfl rfl)
theorem dX0_goesBy_56 : decode cX0_goesBy 56 = .ok (.ineg, 1) := dk_116 (dk_at dksX0_goesBy_2 20 rfl rfl)
theorem dX0_goesBy_57 : decode cX0_goesBy 57 = .ok (.ireturn, 1) := dk_172 (dk_at dksX0_goesBy_2 21 rfl rfl)
theorem dX0_goesBy_58 : decode cX0_goesBy 58 = .ok (.iload_n 2, 1) := dk_28 (dk_at dksX0_goesBy_2 22 rfl rfl)
theorem dX0_goesBy_59 : decode cX0_goesBy 59 = .ok (.iconst (-1), 1) := dk_2 (dk_at dksX0_goesBy_2 23 rfl rfl)
theorem dX0_goesBy_60 : decode cX0_goesBy 60 = .ok (.if_icmp .ne 5, 3) := dk_160 0 5 (dk_at dksX0_goesBy_3 0 rfl rfl)
theorem dX0_goesBy_63 : decode cX0_goesBy 63 = .ok (.iconst 0, 1) := dk_3 (dk_at dksX0_goesBy_3 3 rfl rfl)
theorem dX0_goesBy_64 : decode cX0_goesBy 64 = .ok (.ireturn, 1) := dk_172 (dk_at dksX0_goesBy_3 4 rfl rfl)
theorem dX0_goesBy_65 : decode cX0_goesBy 65 = .ok (.aload_n 0, 1) := dk_42 (dk_at dksX0_goesBy_3 5 rfl rfl)
theorem dX0_goesBy_66 : decode cX0_goesBy 66 = .ok (.getfield 84, 3) := dk_180 0 84 (dk_at dksX0_goesBy_3 6 rfl rfl)
theorem dX0_goesBy_69 : decode cX0_goesBy 69 = .ok (.bipush 97, 2) := dk_16 97 (dk_at dksX0_goesBy_3 9 rfl rfl)
theorem dX0_goesBy_71 : decode cX0_goesBy 71 = .ok (.aload_n 0, 1) := dk_42 (dk_at dksX0_goesBy_3 11 rfl rfl)
theorem dX0_goesBy_72 : decode cX0_goesBy 72 = .ok (.getfield 66, 3) := dk_180 0 66 (dk_at dksX0_goesBy_3 12 rfl rfl)
theorem dX0_goesBy_75 : decode cX0_goesBy 75 = .ok (.getfield 392, 3) := dk_180 1 136 (dk_at dksX0_goesBy_3 15 rfl rfl)
theorem dX0_goesBy_78 : decode cX0_goesBy 78 = .ok (.aload_n 0, 1) := dk_42 (dk_at dksX0_goesBy_3 18 rfl rfl)
theorem dX0_goesBy_79 : decode cX0_goesBy 79 = .ok (.getfield 66, 3) := dk_180 0 66 (dk_at dksX0_goesBy_3 19 rfl rfl)
theorem dX0_goesBy_82 : decode cX0_goesBy 82 = .ok (.getfield 305, 3) := dk_180 1 49 (dk_at dksX0_goesBy_4 0 rfl rfl)
theorem dX0_goesBy_85 : decode cX0_goesBy 85 = .ok (.iload_n 1, 1) := dk_27 (dk_at dksX0_goesBy_4 3 rfl rfl)
theorem dX0_goesBy_86 : decode cX0_goesBy 86 = .ok (.iaload, 1) := dk_46 (dk_at dksX0_goesBy_4 4 rfl rfl)
theorem dX0_goesBy_87 : decode cX0_goesBy 87 = .ok (.isub, 1) := dk_100 (dk_at dksX0_goesBy_4 5 rfl rfl)
theorem dX0_goesBy_88 : decode cX0_goesBy 88 = .ok (.iastore, 1) := dk_79 (dk_at dksX0_goesBy_4 6 rfl rfl)
theorem dX0_goesBy_89 : decode cX0_goesBy 89 = .ok (.aload_n 0, 1) := dk_42 (dk_at dksX0_goesBy_4 7 rfl rfl)
theorem dX0_goesBy_90 : decode cX0_goesBy 90 = .ok (.getfield 84, 3) := dk_180 0 84 (dk_at dksX0_goesBy_4 8 rfl rfl)
theorem dX0_goesBy_93 : decode cX0_goesBy 93 = .ok (.bipush 116, 2) := dk_16 116 (dk_at dksX0_goesBy_4 11 rfl rfl)
theorem dX0_goesBy_95 : decode cX0_goesBy 95 = .ok (.aload_n 0, 1) := dk_42 (dk_at dksX0_goesBy_4 13 rfl rfl)
theorem dX0_goesBy_96 : decode cX0_goesBy 96 = .ok (.getfield 66, 3) := dk_180 0 66 (dk_at dksX0_goesBy_4 14 rfl rfl)
theorem dX0_goesBy_99 : decode cX0_goesBy 99 = .ok (.getfield 308, 3) := dk_180 1 52 (dk_at dksX0_goesBy_4 17 rfl rfl)
theorem dX0_goesBy_102 : decode cX0_goesBy 102 = .ok (.iload_n 1, 1) := dk_27 (dk_at dksX0_goesBy_4 20 rfl rfl)
theorem dX0_goesBy_103 : decode cX0_goesBy 103 = .ok (.iaload, 1) := dk_46 (dk_at dksX0_goesBy_4 21 rfl rfl)
theorem dX0_goesBy_104 : decode cX0_goesBy 104 = .ok (.iastore, 1) := dk_79 (dk_at dksX0_goesBy_4 22 rfl rfl)
theorem dX0_goesBy_105 : decode cX0_goesBy 105 = .ok (.aload_n 0, 1) := dk_42 (dk_at dksX0_goesBy_4 23 rfl rfl)
theorem dX0_goesBy_106 : decode cX0_goesBy 106 = .ok (.getfield 84, 3) := dk_180 0 84 (dk_at dksX0_goesBy_5 0 rfl rfl)
theorem dX0_goesBy_109 : decode cX0_goesBy 109 = .ok (.bipush 114, 2) := dk_16 114 (dk_at dksX0_goesBy_5 3 rfl rfl)
theorem dX0_goesBy_111 : decode cX0_goesBy 111 = .ok (.aload_n 0, 1) := dk_42 (dk_at dksX0_goesBy_5 5 rfl rfl)
theorem dX0_goesBy_112 : decode cX0_goesBy 112 = .ok (.getfield 87, 3) := dk_180 0 87 (dk_at dksX0_goesBy_5 6 rfl rfl)
theorem dX0_goesBy_115 : decode cX0_goesBy 115 = .ok (.iload_n 1, 1) := dk_27 (dk_at dksX0_goesBy_5 9 rfl rfl)
theorem dX0_goesBy_116 : decode cX0_goesBy 116 = .ok (.iaload, 1) := dk_46 (dk_at dksX0_goesBy_5 10 rfl rfl)
theorem dX0_goesBy_117 : decode cX0_goesBy 117 = .ok (.iastore, 1) := dk_79 (dk_at dksX0_goesBy_5 11 rfl rfl)
theorem dX0_goesBy_118 : decode cX0_goesBy 118 = .ok (.aload_n 0, 1) := dk_42 (dk_at dksX0_goesBy_5 12 rfl rfl)
theorem dX0_goesBy_119 : decode cX0_goesBy 119 = .ok (.getfield 84, 3) := dk_180 0 84 (dk_at dksX0_goesBy_5 13 rfl rfl)
theorem dX0_goesBy_122 : decode cX0_goesBy 122 = .ok (.bipush 110, 2) := dk_16 110 (dk_at dksX0_goesBy_5 16 rfl rfl)
theorem dX0_goesBy_124 : decode cX0_goesBy 124 = .ok (.iload_n 1, 1) := dk_27 (dk_at dksX0_goesBy_5 18 rfl rfl)
theorem dX0_goesBy_125 : decode cX0_goesBy 125 = .ok (.iastore, 1) := dk_79 (dk_at dksX0_goesBy_5 19 rfl rfl)
theorem dX0_goesBy_126 : decode cX0_goesBy 126 = .ok (.aload_n 0, 1) := dk_42 (dk_at dksX0_goesBy_5 20 rfl rfl)
theorem dX0_goesBy_127 : decode cX0_goesBy 127 = .ok (.aload_n 0, 1) := dk_42 (dk_at dksX0_goesBy_5 21 rfl rfl)
theorem dX0_goesBy_128 : decode cX0_goesBy 128 = .ok (.getfield 46, 3) := dk_180 0 46 (dk_at dksX0_goesBy_6 0 rfl rfl)
theorem dX0_goesBy_131 : decode cX0_goesBy 131 = .ok (.getfield 274, 3) := dk_180 1 18 (dk_at dksX0_goesBy_6 3 rfl rfl)
theorem dX0_goesBy_134 : decode cX0_goesBy 134 = .ok (.iload_n 2, 1) := dk_28 (dk_at dksX0_goesBy_6 6 rfl rfl)
theorem dX0_goesBy_135 : decode cX0_goesBy 135 = .ok (.aaload, 1) := dk_50 (dk_at dksX0_goesBy_6 7 rfl rfl)
theorem dX0_goesBy_136 : decode cX0_goesBy 136 = .ok (.getfield 321, 3) := dk_180 1 65 (dk_at dksX0_goesBy_6 8 rfl rfl)
theorem dX0_goesBy_139 : decode cX0_goesBy 139 = .ok (.invokevirtual 325, 3) := dk_182 1 69 (dk_at dksX0_goesBy_6 11 rfl rfl)
theorem dX0_goesBy_142 : decode cX0_goesBy 142 = .ok (.ireturn, 1) := dk_172 (dk_at dksX0_goesBy_6 14 rfl rfl)
theorem dX0_goesBy_143 : decode cX0_goesBy 143 = .ok (.iconst 0, 1) := dk_3 (dk_at dksX0_goesBy_6 15 rfl rfl)
theorem dX0_goesBy_144 : decode cX0_goesBy 144 = .ok (.ireturn, 1) := dk_172 (dk_at dksX0_goesBy_6 16 rfl rfl)
abbrev cX0_rule : ByteArray := prog_1_method_59_code
def yX0_rule : MethodName := ⟨RX0, "rule", "(I)I"⟩
def dkwX0_rule_1 : List UInt8 := [27, 181, 1, 133, 28, 172]
abbrev dktX0_rule_1 : List UInt8 := dkwX0_rule_1 ++ []
def dkwX0_rule_0 : List UInt8 := [27, 3, 7, 184, 0, 137, 154, 0, 6, 18, 164, 172, 42, 180, 0, 46, 180, 1, 133, 61, 42, 180, 0, 46]
abbrev dktX0_rule_0 : List UInt8 := dkwX0_rule_0 ++ dktX0_rule_1
theorem dksX0_rule_0 : cX0_rule.data.toList.drop 0 = dktX0_rule_0 := by decide +kernel
theorem dksX0_rule_1 : cX0_rule.data.toList.drop 24 = dktX0_rule_1 := dk_seg dksX0_rule_0 24 rfl rfl
theorem dX0_rule_0 : decode cX0_rule 0 = .ok (.iload_n 1, 1) := dk_27 (dk_at dksX0_rule_0 0 rfl rfl)
theorem dX0_rule_1 : decode cX0_rule 1 = .ok (.iconst 0, 1) := dk_3 (dk_at dksX0_rule_0 1 rfl rfl)
theorem dX0_rule_2 : decode cX0_rule 2 = .ok (.iconst 4, 1) := dk_7 (dk_at dksX0_rule_0 2 rfl rfl)
theorem dX0_rule_3 : decode cX0_rule 3 = .ok (.invokestatic 137, 3) := dk_184 0 137 (dk_at dksX0_rule_0 3 rfl rfl)
theorem dX0_rule_6 : decode cX0_rule 6 = .ok (.ifCond .ne 6, 3) := dk_154 0 6 (dk_at dksX0_rule_0 6 rfl rfl)
theorem dX0_rule_9 : decode cX0_rule 9 = .ok (.ldc 164, 2) := dk_18 164 (dk_at dksX0_rule_0 9 rfl rfl)
theorem dX0_rule_11 : decode cX0_rule 11 = .ok (.ireturn, 1) := dk_172 (dk_at dksX0_rule_0 11 rfl rfl)
theorem dX0_rule_12 : decode cX0_rule 12 = .ok (.aload_n 0, 1) := dk_42 (dk_at dksX0_rule_0 12 rfl rfl)
theorem dX0_rule_13 : decode cX0_rule 13 = .ok (.getfield 46, 3) := dk_180 0 46 (dk_at dksX0_rule_0 13 rfl rfl)
theorem dX0_rule_16 : decode cX0_rule 16 = .ok (.getfield 389, 3) := dk_180 1 133 (dk_at dksX0_rule_0 16 rfl rfl)
theorem dX0_rule_19 : decode cX0_rule 19 = .ok (.istore_n 2, 1) := dk_61 (dk_at dksX0_rule_0 19 rfl rfl)
theorem dX0_rule_20 : decode cX0_rule 20 = .ok (.aload_n 0, 1) := dk_42 (dk_at dksX0_rule_0 20 rfl rfl)
theorem dX0_rule_21 : decode cX0_rule 21 = .ok (.getfield 46, 3) := dk_180 0 46 (dk_at dksX0_rule_0 21 rfl rfl)
theorem dX0_rule_24 : decode cX0_rule 24 = .ok (.iload_n 1, 1) := dk_27 (dk_at dksX0_rule_1 0 rfl rfl)
theorem dX0_rule_25 : decode cX0_rule 25 = .ok (.putfield 389, 3) := dk_181 1 133 (dk_at dksX0_rule_1 1 rfl rfl)
theorem dX0_rule_28 : decode cX0_rule 28 = .ok (.iload_n 2, 1) := dk_28 (dk_at dksX0_rule_1 4 rfl rfl)
theorem dX0_rule_29 : decode cX0_rule 29 = .ok (.ireturn, 1) := dk_172 (dk_at dksX0_rule_1 5 rfl rfl)
abbrev cX0_care : ByteArray := prog_1_method_60_code
def yX0_care : MethodName := ⟨RX0, "care", "(I)I"⟩
def dkwX0_care_1 : List UInt8 := [27, 181, 1, 139, 28, 172]
abbrev dktX0_care_1 : List UInt8 := dkwX0_care_1 ++ []
def dkwX0_care_0 : List UInt8 := [27, 3, 4, 184, 0, 137, 154, 0, 6, 18, 164, 172, 42, 180, 0, 46, 180, 1, 139, 61, 42, 180, 0, 46]
abbrev dktX0_care_0 : List UInt8 := dkwX0_care_0 ++ dktX0_care_1
theorem dksX0_care_0 : cX0_care.data.toList.drop 0 = dktX0_care_0 := by decide +kernel
theorem dksX0_care_1 : cX0_care.data.toList.drop 24 = dktX0_care_1 := dk_seg dksX0_care_0 24 rfl rfl
theorem dX0_care_0 : decode cX0_care 0 = .ok (.iload_n 1, 1) := dk_27 (dk_at dksX0_care_0 0 rfl rfl)
theorem dX0_care_1 : decode cX0_care 1 = .ok (.iconst 0, 1) := dk_3 (dk_at dksX0_care_0 1 rfl rfl)
theorem dX0_care_2 : decode cX0_care 2 = .ok (.iconst 1, 1) := dk_4 (dk_at dksX0_care_0 2 rfl rfl)
theorem dX0_care_3 : decode cX0_care 3 = .ok (.invokestatic 137, 3) := dk_184 0 137 (dk_at dksX0_care_0 3 rfl rfl)
theorem dX0_care_6 : decode cX0_care 6 = .ok (.ifCond .ne 6, 3) := dk_154 0 6 (dk_at dksX0_care_0 6 rfl rfl)
theorem dX0_care_9 : decode cX0_care 9 = .ok (.ldc 164, 2) := dk_18 164 (dk_at dksX0_care_0 9 rfl rfl)
theorem dX0_care_11 : decode cX0_care 11 = .ok (.ireturn, 1) := dk_172 (dk_at dksX0_care_0 11 rfl rfl)
theorem dX0_care_12 : decode cX0_care 12 = .ok (.aload_n 0, 1) := dk_42 (dk_at dksX0_care_0 12 rfl rfl)
theorem dX0_care_13 : decode cX0_care 13 = .ok (.getfield 46, 3) := dk_180 0 46 (dk_at dksX0_care_0 13 rfl rfl)
theorem dX0_care_16 : decode cX0_care 16 = .ok (.getfield 395, 3) := dk_180 1 139 (dk_at dksX0_care_0 16 rfl rfl)
theorem dX0_care_19 : decode cX0_care 19 = .ok (.istore_n 2, 1) := dk_61 (dk_at dksX0_care_0 19 rfl rfl)
theorem dX0_care_20 : decode cX0_care 20 = .ok (.aload_n 0, 1) := dk_42 (dk_at dksX0_care_0 20 rfl rfl)
theorem dX0_care_21 : decode cX0_care 21 = .ok (.getfield 46, 3) := dk_180 0 46 (dk_at dksX0_care_0 21 rfl rfl)
theorem dX0_care_24 : decode cX0_care 24 = .ok (.iload_n 1, 1) := dk_27 (dk_at dksX0_care_1 0 rfl rfl)
theorem dX0_care_25 : decode cX0_care 25 = .ok (.putfield 395, 3) := dk_181 1 139 (dk_at dksX0_care_1 1 rfl rfl)
theorem dX0_care_28 : decode cX0_care 28 = .ok (.iload_n 2, 1) := dk_28 (dk_at dksX0_care_1 4 rfl rfl)
theorem dX0_care_29 : decode cX0_care 29 = .ok (.ireturn, 1) := dk_172 (dk_at dksX0_care_1 5 rfl rfl)
abbrev cX0_want : ByteArray := prog_1_method_61_code
def yX0_want : MethodName := ⟨RX0, "want", "(I)I"⟩
def dkwX0_want_1 : List UInt8 := [167, 0, 4, 3, 172]
abbrev dktX0_want_1 : List UInt8 := dkwX0_want_1 ++ []
def dkwX0_want_0 : List UInt8 := [42, 27, 182, 1, 58, 154, 0, 6, 18, 164, 172, 42, 182, 1, 89, 42, 27, 182, 1, 176, 153, 0, 7, 4]
abbrev dktX0_want_0 : List UInt8 := dkwX0_want_0 ++ dktX0_want_1
theorem dksX0_want_0 : cX0_want.data.toList.drop 0 = dktX0_want_0 := by decide +kernel
theorem dksX0_want_1 : cX0_want.data.toList.drop 24 = dktX0_want_1 := dk_seg dksX0_want_0 24 rfl rfl
theorem dX0_want_0 : decode cX0_want 0 = .ok (.aload_n 0, 1) := dk_42 (dk_at dksX0_want_0 0 rfl rfl)
theorem dX0_want_1 : decode cX0_want 1 = .ok (.iload_n 1, 1) := dk_27 (dk_at dksX0_want_0 1 rfl rfl)
theorem dX0_want_2 : decode cX0_want 2 = .ok (.invokevirtual 314, 3) := dk_182 1 58 (dk_at dksX0_want_0 2 rfl rfl)
theorem dX0_want_5 : decode cX0_want 5 = .ok (.ifCond .ne 6, 3) := dk_154 0 6 (dk_at dksX0_want_0 5 rfl rfl)
theorem dX0_want_8 : decode cX0_want 8 = .ok (.ldc 164, 2) := dk_18 164 (dk_at dksX0_want_0 8 rfl rfl)
theorem dX0_want_10 : decode cX0_want 10 = .ok (.ireturn, 1) := dk_172 (dk_at dksX0_want_0 10 rfl rfl)
theorem dX0_want_11 : decode cX0_want 11 = .ok (.aload_n 0, 1) := dk_42 (dk_at dksX0_want_0 11 rfl rfl)
theorem dX0_want_12 : decode cX0_want 12 = .ok (.invokevirtual 345, 3) := dk_182 1 89 (dk_at dksX0_want_0 12 rfl rfl)
theorem dX0_want_15 : decode cX0_want 15 = .ok (.aload_n 0, 1) := dk_42 (dk_at dksX0_want_0 15 rfl rfl)
theorem dX0_want_16 : decode cX0_want 16 = .ok (.iload_n 1, 1) := dk_27 (dk_at dksX0_want_0 16 rfl rfl)
theorem dX0_want_17 : decode cX0_want 17 = .ok (.invokevirtual 432, 3) := dk_182 1 176 (dk_at dksX0_want_0 17 rfl rfl)
theorem dX0_want_20 : decode cX0_want 20 = .ok (.ifCond .eq 7, 3) := dk_153 0 7 (dk_at dksX0_want_0 20 rfl rfl)
theorem dX0_want_23 : decode cX0_want 23 = .ok (.iconst 1, 1) := dk_4 (dk_at dksX0_want_0 23 rfl rfl)
theorem dX0_want_24 : decode cX0_want 24 = .ok (.goto 4, 3) := dk_167 0 4 (dk_at dksX0_want_1 0 rfl rfl)
theorem dX0_want_27 : decode cX0_want 27 = .ok (.iconst 0, 1) := dk_3 (dk_at dksX0_want_1 3 rfl rfl)
theorem dX0_want_28 : decode cX0_want 28 = .ok (.ireturn, 1) := dk_172 (dk_at dksX0_want_1 4 rfl rfl)
abbrev cX0_isFound : ByteArray := prog_1_method_57_code
def yX0_isFound : MethodName := ⟨RX0, "isFound", "(I)Z"⟩
def dkwX0_isFound_7 : List UInt8 := [180, 0, 66, 180, 1, 49, 27, 42, 180, 0, 66, 180, 1, 136, 79, 3, 172]
abbrev dktX0_isFound_7 : List UInt8 := dkwX0_isFound_7 ++ []
def dkwX0_isFound_6 : List UInt8 := [182, 1, 171, 61, 42, 180, 0, 66, 27, 182, 1, 174, 42, 180, 0, 66, 27, 182, 1, 165, 153, 0, 19, 42]
abbrev dktX0_isFound_6 : List UInt8 := dkwX0_isFound_6 ++ dktX0_isFound_7
def dkwX0_isFound_5 : List UInt8 := [180, 0, 46, 180, 1, 168, 163, 0, 30, 42, 42, 180, 0, 46, 180, 1, 168, 42, 180, 0, 87, 27, 46, 100]
abbrev dktX0_isFound_5 : List UInt8 := dkwX0_isFound_5 ++ dktX0_isFound_6
def dkwX0_isFound_4 : List UInt8 := [96, 181, 1, 162, 42, 180, 0, 66, 27, 182, 1, 165, 154, 0, 46, 42, 180, 0, 87, 27, 46, 42]
abbrev dktX0_isFound_4 : List UInt8 := dkwX0_isFound_4 ++ dktX0_isFound_5
def dkwX0_isFound_3 : List UInt8 := [50, 180, 1, 46, 61, 167, 255, 222, 4, 172, 42, 180, 0, 66, 89, 180, 1, 162, 42, 180, 0, 90, 27, 46]
abbrev dktX0_isFound_3 : List UInt8 := dkwX0_isFound_3 ++ dktX0_isFound_4
def dkwX0_isFound_2 : List UInt8 := [42, 180, 0, 66, 180, 1, 49, 28, 42, 180, 0, 66, 180, 1, 136, 79, 42, 180, 0, 46, 180, 1, 32, 28]
abbrev dktX0_isFound_2 : List UInt8 := dkwX0_isFound_2 ++ dktX0_isFound_3
def dkwX0_isFound_1 : List UInt8 := [96, 79, 42, 27, 42, 180, 0, 66, 180, 1, 101, 182, 1, 104, 153, 0, 44, 27, 61, 28, 2, 159, 0, 35]
abbrev dktX0_isFound_1 : List UInt8 := dkwX0_isFound_1 ++ dktX0_isFound_2
def dkwX0_isFound_0 : List UInt8 := [42, 180, 0, 66, 89, 180, 1, 136, 4, 96, 181, 1, 136, 42, 180, 0, 66, 180, 1, 52, 27, 92, 46, 4]
abbrev dktX0_isFound_0 : List UInt8 := dkwX0_isFound_0 ++ dktX0_isFound_1
theorem dksX0_isFound_0 : cX0_isFound.data.toList.drop 0 = dktX0_isFound_0 := by decide +kernel
theorem dksX0_isFound_1 : cX0_isFound.data.toList.drop 24 = dktX0_isFound_1 := dk_seg dksX0_isFound_0 24 rfl rfl
theorem dksX0_isFound_2 : cX0_isFound.data.toList.drop 48 = dktX0_isFound_2 := dk_seg dksX0_isFound_1 24 rfl rfl
theorem dksX0_isFound_3 : cX0_isFound.data.toList.drop 72 = dktX0_isFound_3 := dk_seg dksX0_isFound_2 24 rfl rfl
theorem dksX0_isFound_4 : cX0_isFound.data.toList.drop 96 = dktX0_isFound_4 := dk_seg dksX0_isFound_3 24 rfl rfl
theorem dksX0_isFound_5 : cX0_isFound.data.toList.drop 118 = dktX0_isFound_5 := dk_seg dksX0_isFound_4 22 rfl rfl
theorem dksX0_isFound_6 : cX0_isFound.data.toList.drop 142 = dktX0_isFound_6 := dk_seg dksX0_isFound_5 24 rfl rfl
theorem dksX0_isFound_7 : cX0_isFound.data.toList.drop 166 = dktX0_isFound_7 := dk_seg dksX0_isFound_6 24 rfl rfl
theorem dX0_isFound_0 : decode cX0_isFound 0 = .ok (.aload_n 0, 1) := dk_42 (dk_at dksX0_isFound_0 0 rfl rfl)
theorem dX0_isFound_1 : decode cX0_isFound 1 = .ok (.getfield 66, 3) := dk_180 0 66 (dk_at dksX0_isFound_0 1 rfl rfl)
theorem dX0_isFound_4 : decode cX0_isFound 4 = .ok (.dup, 1) := dk_89 (dk_at dksX0_isFound_0 4 rfl rfl)
theorem dX0_isFound_5 : decode cX0_isFound 5 = .ok (.getfield 392, 3) := dk_180 1 136 (dk_at dksX0_isFound_0 5 rfl rfl)
theorem dX0_isFound_8 : decode cX0_isFound 8 = .ok (.iconst 1, 1) := dk_4 (dk_at dksX0_isFound_0 8 rfl rfl)
theorem dX0_isFound_9 : decode cX0_isFound 9 = .ok (.iadd, 1) := dk_96 (dk_at dksX0_isFound_0 9 rfl rfl)
theorem dX0_isFound_10 : decode cX0_isFound 10 = .ok (.putfield 392, 3) := dk_181 1 136 (dk_at dksX0_isFound_0 10 rfl rfl)
theorem dX0_isFound_13 : decode cX0_isFound 13 = .ok (.aload_n 0, 1) := dk_42 (dk_at dksX0_isFound_0 13 rfl rfl)
theorem dX0_isFound_14 : decode cX0_isFound 14 = .ok (.getfield 66, 3) := dk_180 0 66 (dk_at dksX0_isFound_0 14 rfl rfl)
theorem dX0_isFound_17 : decode cX0_isFound 17 = .ok (.getfield 308, 3) := dk_180 1 52 (dk_at dksX0_isFound_0 17 rfl rfl)
theorem dX0_isFound_20 : decode cX0_isFound 20 = .ok (.iload_n 1, 1) := dk_27 (dk_at dksX0_isFound_0 20 rfl rfl)
theorem dX0_isFound_21 : decode cX0_isFound 21 = .ok (.dup2, 1) := dk_92 (dk_at dksX0_isFound_0 21 rfl rfl)
theorem dX0_isFound_22 : decode cX0_isFound 22 = .ok (.iaload, 1) := dk_46 (dk_at dksX0_isFound_0 22 rfl rfl)
theorem dX0_isFound_23 : decode cX0_isFound 23 = .ok (.iconst 1, 1) := dk_4 (dk_at dksX0_isFound_0 23 rfl rfl)
theorem dX0_isFound_24 : decode cX0_isFound 24 = .ok (.iadd, 1) := dk_96 (dk_at dksX0_isFound_1 0 rfl rfl)
theorem dX0_isFound_25 : decode cX0_isFound 25 = .ok (.iastore, 1) := dk_79 (dk_at dksX0_isFound_1 1 rfl rfl)
theorem dX0_isFound_26 : decode cX0_isFound 26 = .ok (.aload_n 0, 1) := dk_42 (dk_at dksX0_isFound_1 2 rfl rfl)
theorem dX0_isFound_27 : decode cX0_isFound 27 = .ok (.iload_n 1, 1) := dk_27 (dk_at dksX0_isFound_1 3 rfl rfl)
theorem dX0_isFound_28 : decode cX0_isFound 28 = .ok (.aload_n 0, 1) := dk_42 (dk_at dksX0_isFound_1 4 rfl rfl)
theorem dX0_isFound_29 : decode cX0_isFound 29 = .ok (.getfield 66, 3) := dk_180 0 66 (dk_at dksX0_isFound_1 5 rfl rfl)
theorem dX0_isFound_32 : decode cX0_isFound 32 = .ok (.getfield 357, 3) := dk_180 1 101 (dk_at dksX0_isFound_1 8 rfl rfl)
theorem dX0_isFound_35 : decode cX0_isFound 35 = .ok (.invokevirtual 360, 3) := dk_182 1 104 (dk_at dksX0_isFound_1 11 rfl rfl)
theorem dX0_isFound_38 : decode cX0_isFound 38 = .ok (.ifCond .eq 44, 3) := dk_153 0 44 (dk_at dksX0_isFound_1 14 rfl rfl)
theorem dX0_isFound_41 : decode cX0_isFound 41 = .ok (.iload_n 1, 1) := dk_27 (dk_at dksX0_isFound_1 17 rfl rfl)
theorem dX0_isFound_42 : decode cX0_isFound 42 = .ok (.istore_n 2, 1) := dk_61 (dk_at dksX0_isFound_1 18 rfl rfl)
theorem dX0_isFound_43 : decode cX0_isFound 43 = .ok (.iload_n 2, 1) := dk_28 (dk_at dksX0_isFound_1 19 rfl rfl)
theorem dX0_isFound_44 : decode cX0_isFound 44 = .ok (.iconst (-1), 1) := dk_2 (dk_at dksX0_isFound_1 20 rfl rfl)
theorem dX0_isFound_45 : decode cX0_isFound 45 = .ok (.if_icmp .eq 35, 3) := dk_159 0 35 (dk_at dksX0_isFound_1 21 rfl rfl)
theorem dX0_isFound_48 : decode cX0_isFound 48 = .ok (.aload_n 0, 1) := dk_42 (dk_at dksX0_isFound_2 0 rfl rfl)
theorem dX0_isFound_49 : decode cX0_isFound 49 = .ok (.getfield 66, 3) := dk_180 0 66 (dk_at dksX0_isFound_2 1 rfl rfl)
theorem dX0_isFound_52 : decode cX0_isFound 52 = .ok (.getfield 305, 3) := dk_180 1 49 (dk_at dksX0_isFound_2 4 rfl rfl)
theorem dX0_isFound_55 : decode cX0_isFound 55 = .ok (.iload_n 2, 1) := dk_28 (dk_at dksX0_isFound_2 7 rfl rfl)
theorem dX0_isFound_56 : decode cX0_isFound 56 = .ok (.aload_n 0, 1) := dk_42 (dk_at dksX0_isFound_2 8 rfl rfl)
theorem dX0_isFound_57 : decode cX0_isFound 57 = .ok (.getfield 66, 3) := dk_180 0 66 (dk_at dksX0_isFound_2 9 rfl rfl)
theorem dX0_isFound_60 : decode cX0_isFound 60 = .ok (.getfield 392, 3) := dk_180 1 136 (dk_at dksX0_isFound_2 12 rfl rfl)
theorem dX0_isFound_63 : decode cX0_isFound 63 = .ok (.iastore, 1) := dk_79 (dk_at dksX0_isFound_2 15 rfl rfl)
theorem dX0_isFound_64 : decode cX0_isFound 64 = .ok (.aload_n 0, 1) := dk_42 (dk_at dksX0_isFound_2 16 rfl rfl)
theorem dX0_isFound_65 : decode cX0_isFound 65 = .ok (.getfield 46, 3) := dk_180 0 46 (dk_at dksX0_isFound_2 17 rfl rfl)
theorem dX0_isFound_68 : decode cX0_isFound 68 = .ok (.getfield 288, 3) := dk_180 1 32 (dk_at dksX0_isFound_2 20 rfl rfl)
theorem dX0_isFound_71 : decode cX0_isFound 71 = .ok (.iload_n 2, 1) := dk_28 (dk_at dksX0_isFound_2 23 rfl rfl)
theorem dX0_isFound_72 : decode cX0_isFound 72 = .ok (.aaload, 1) := dk_50 (dk_at dksX0_isFound_3 0 rfl rfl)
theorem dX0_isFound_73 : decode cX0_isFound 73 = .ok (.getfield 302, 3) := dk_180 1 46 (dk_at dksX0_isFound_3 1 rfl rfl)
theorem dX0_isFound_76 : decode cX0_isFound 76 = .ok (.istore_n 2, 1) := dk_61 (dk_at dksX0_isFound_3 4 rfl rfl)
theorem dX0_isFound_77 : decode cX0_isFound 77 = .ok (.goto (-34), 3) := dk_167 255 222 (dk_at dksX0_isFound_3 5 rfl rfl)
theorem dX0_isFound_80 : decode cX0_isFound 80 = .ok (.iconst 1, 1) := dk_4 (dk_at dksX0_isFound_3 8 rfl rfl)
theorem dX0_isFound_81 : decode cX0_isFound 81 = .ok (.ireturn, 1) := dk_172 (dk_at dksX0_isFound_3 9 rfl rfl)
theorem dX0_isFound_82 : decode cX0_isFound 82 = .ok (.aload_n 0, 1) := dk_42 (dk_at dksX0_isFound_3 10 rfl rfl)
theorem dX0_isFound_83 : decode cX0_isFound 83 = .ok (.getfield 66, 3) := dk_180 0 66 (dk_at dksX0_isFound_3 11 rfl rfl)
theorem dX0_isFound_86 : decode cX0_isFound 86 = .ok (.dup, 1) := dk_89 (dk_at dksX0_isFound_3 14 rfl rfl)
theorem dX0_isFound_87 : decode cX0_isFound 87 = .ok (.getfield 418, 3) := dk_180 1 162 (dk_at dksX0_isFound_3 15 rfl rfl)
theorem dX0_isFound_90 : decode cX0_isFound 90 = .ok (.aload_n 0, 1) := dk_42 (dk_at dksX0_isFound_3 18 rfl rfl)
theorem dX0_isFound_91 : decode cX0_isFound 91 = .ok (.getfield 90, 3) := dk_180 0 90 (dk_at dksX0_isFound_3 19 rfl rfl)
theorem dX0_isFound_94 : decode cX0_isFound 94 = .ok (.iload_n 1, 1) := dk_27 (dk_at dksX0_isFound_3 22 rfl rfl)
theorem dX0_isFound_95 : decode cX0_isFound 95 = .ok (.iaload, 1) := dk_46 (dk_at dksX0_isFound_3 23 rfl rfl)
theorem dX0_isFound_96 : decode cX0_isFound 96 = .ok (.iadd, 1) := dk_96 (dk_at dksX0_isFound_4 0 rfl rfl)
theorem dX0_isFound_97 : decode cX0_isFound 97 = .ok (.putfield 418, 3) := dk_181 1 162 (dk_at dksX0_isFound_4 1 rfl rfl)
theorem dX0_isFound_100 : decode cX0_isFound 100 = .ok (.aload_n 0, 1) := dk_42 (dk_at dksX0_isFound_4 4 rfl rfl)
theorem dX0_isFound_101 : decode cX0_isFound 101 = .ok (.getfield 66, 3) := dk_180 0 66 (dk_at dksX0_isFound_4 5 rfl rfl)
theorem dX0_isFound_104 : decode cX0_isFound 104 = .ok (.iload_n 1, 1) := dk_27 (dk_at dksX0_isFound_4 8 rfl rfl)
theorem dX0_isFound_105 : decode cX0_isFound 105 = .ok (.invokevirtual 421, 3) := dk_182 1 165 (dk_at dksX0_isFound_4 9 rfl rfl)
theorem dX0_isFound_108 : decode cX0_isFound 108 = .ok (.ifCond .ne 46, 3) := dk_154 0 46 (dk_at dksX0_isFound_4 12 rfl rfl)
theorem dX0_isFound_111 : decode cX0_isFound 111 = .ok (.aload_n 0, 1) := dk_42 (dk_at dksX0_isFound_4 15 rfl rfl)
theorem dX0_isFound_112 : decode cX0_isFound 112 = .ok (.getfield 87, 3) := dk_180 0 87 (dk_at dksX0_isFound_4 16 rfl rfl)
theorem dX0_isFound_115 : decode cX0_isFound 115 = .ok (.iload_n 1, 1) := dk_27 (dk_at dksX0_isFound_4 19 rfl rfl)
theorem dX0_isFound_116 : decode cX0_isFound 116 = .ok (.iaload, 1) := dk_46 (dk_at dksX0_isFound_4 20 rfl rfl)
theorem dX0_isFound_117 : decode cX0_isFound 117 = .ok (.aload_n 0, 1) := dk_42 (dk_at dksX0_isFound_4 21 rfl rfl)
theorem dX0_isFound_118 : decode cX0_isFound 118 = .ok (.getfield 46, 3) := dk_180 0 46 (dk_at dksX0_isFound_5 0 rfl rfl)
theorem dX0_isFound_121 : decode cX0_isFound 121 = .ok (.getfield 424, 3) := dk_180 1 168 (dk_at dksX0_isFound_5 3 rfl rfl)
theorem dX0_isFound_124 : decode cX0_isFound 124 = .ok (.if_icmp .gt 30, 3) := dk_163 0 30 (dk_at dksX0_isFound_5 6 rfl rfl)
theorem dX0_isFound_127 : decode cX0_isFound 127 = .ok (.aload_n 0, 1) := dk_42 (dk_at dksX0_isFound_5 9 rfl rfl)
theorem dX0_isFound_128 : decode cX0_isFound 128 = .ok (.aload_n 0, 1) := dk_42 (dk_at dksX0_isFound_5 10 rfl rfl)
theorem dX0_isFound_129 : decode cX0_isFound 129 = .ok (.getfield 46, 3) := dk_180 0 46 (dk_at dksX0_isFound_5 11 rfl rfl)
theorem dX0_isFound_132 : decode cX0_isFound 132 = .ok (.getfield 424, 3) := dk_180 1 168 (dk_at dksX0_isFound_5 14 rfl rfl)
theorem dX0_isFound_135 : decode cX0_isFound 135 = .ok (.aload_n 0, 1) := dk_42 (dk_at dksX0_isFound_5 17 rfl rfl)
theorem dX0_isFound_136 : decode cX0_isFound 136 = .ok (.getfield 87, 3) := dk_180 0 87 (dk_at dksX0_isFound_5 18 rfl rfl)
theorem dX0_isFound_139 : decode cX0_isFound 139 = .ok (.iload_n 1, 1) := dk_27 (dk_at dksX0_isFound_5 21 rfl rfl)
theorem dX0_isFound_140 : decode cX0_isFound 140 = .ok (.iaload, 1) := dk_46 (dk_at dksX0_isFound_5 22 rfl rfl)
theorem dX0_isFound_141 : decode cX0_isFound 141 = .ok (.isub, 1) := dk_100 (dk_at dksX0_isFound_5 23 rfl rfl)
theorem dX0_isFound_142 : decode cX0_isFound 142 = .ok (.invokevirtual 427, 3) := dk_182 1 171 (dk_at dksX0_isFound_6 0 rfl rfl)
theorem dX0_isFound_145 : decode cX0_isFound 145 = .ok (.istore_n 2, 1) := dk_61 (dk_at dksX0_isFound_6 3 rfl rfl)
theorem dX0_isFound_146 : decode cX0_isFound 146 = .ok (.aload_n 0, 1) := dk_42 (dk_at dksX0_isFound_6 4 rfl rfl)
theorem dX0_isFound_147 : decode cX0_isFound 147 = .ok (.getfield 66, 3) := dk_180 0 66 (dk_at dksX0_isFound_6 5 rfl rfl)
theorem dX0_isFound_150 : decode cX0_isFound 150 = .ok (.iload_n 1, 1) := dk_27 (dk_at dksX0_isFound_6 8 rfl rfl)
theorem dX0_isFound_151 : decode cX0_isFound 151 = .ok (.invokevirtual 430, 3) := dk_182 1 174 (dk_at dksX0_isFound_6 9 rfl rfl)
theorem dX0_isFound_154 : decode cX0_isFound 154 = .ok (.aload_n 0, 1) := dk_42 (dk_at dksX0_isFound_6 12 rfl rfl)
theorem dX0_isFound_155 : decode cX0_isFound 155 = .ok (.getfield 66, 3) := dk_180 0 66 (dk_at dksX0_isFound_6 13 rfl rfl)
theorem dX0_isFound_158 : decode cX0_isFound 158 = .ok (.iload_n 1, 1) := dk_27 (dk_at dksX0_isFound_6 16 rfl rfl)
theorem dX0_isFound_159 : decode cX0_isFound 159 = .ok (.invokevirtual 421, 3) := dk_182 1 165 (dk_at dksX0_isFound_6 17 rfl rfl)
theorem dX0_isFound_162 : decode cX0_isFound 162 = .ok (.ifCond .eq 19, 3) := dk_153 0 19 (dk_at dksX0_isFound_6 20 rfl rfl)
theorem dX0_isFound_165 : decode cX0_isFound 165 = .ok (.aload_n 0, 1) := dk_42 (dk_at dksX0_isFound_6 23 rfl rfl)
theorem dX0_isFound_166 : decode cX0_isFound 166 = .ok (.getfield 66, 3) := dk_180 0 66 (dk_at dksX0_isFound_7 0 rfl rfl)
theorem dX0_isFound_169 : decode cX0_isFound 169 = .ok (.getfield 305, 3) := dk_180 1 49 (dk_at dksX0_isFound_7 3 rfl rfl)
theorem dX0_isFound_172 : decode cX0_isFound 172 = .ok (.iload_n 1, 1) := dk_27 (dk_at dksX0_isFound_7 6 rfl rfl)
theorem dX0_isFound_173 : decode cX0_isFound 173 = .ok (.aload_n 0, 1) := dk_42 (dk_at dksX0_isFound_7 7 rfl rfl)
theorem dX0_isFound_174 : decode cX0_isFound 174 = .ok (.getfield 66, 3) := dk_180 0 66 (dk_at dksX0_isFound_7 8 rfl rfl)
theorem dX0_isFound_177 : decode cX0_isFound 177 = .ok (.getfield 392, 3) := dk_180 1 136 (dk_at dksX0_isFound_7 11 rfl rfl)
theorem dX0_isFound_180 : decode cX0_isFound 180 = .ok (.iastore, 1) := dk_79 (dk_at dksX0_isFound_7 14 rfl rfl)
theorem dX0_isFound_181 : decode cX0_isFound 181 = .ok (.iconst 0, 1) := dk_3 (dk_at dksX0_isFound_7 15 rfl rfl)
theorem dX0_isFound_182 : decode cX0_isFound 182 = .ok (.ireturn, 1) := dk_172 (dk_at dksX0_isFound_7 16 rfl rfl)
abbrev cX0_next : ByteArray := prog_1_method_62_code
def yX0_next : MethodName := ⟨RX0, "next", "()I"⟩
def dkwX0_next_1 : List UInt8 := [60, 42, 182, 1, 157, 61, 42, 180, 0, 66, 27, 181, 1, 179, 28, 172]
abbrev dktX0_next_1 : List UInt8 := dkwX0_next_1 ++ []
def dkwX0_next_0 : List UInt8 := [42, 180, 0, 66, 180, 1, 129, 154, 0, 6, 18, 3, 172, 42, 182, 1, 89, 42, 180, 0, 66, 180, 1, 179]
abbrev dktX0_next_0 : List UInt8 := dkwX0_next_0 ++ dktX0_next_1
theorem dksX0_next_0 : cX0_next.data.toList.drop 0 = dktX0_next_0 := by decide +kernel
theorem dksX0_next_1 : cX0_next.data.toList.drop 24 = dktX0_next_1 := dk_seg dksX0_next_0 24 rfl rfl
theorem dX0_next_0 : decode cX0_next 0 = .ok (.aload_n 0, 1) := dk_42 (dk_at dksX0_next_0 0 rfl rfl)
theorem dX0_next_1 : decode cX0_next 1 = .ok (.getfield 66, 3) := dk_180 0 66 (dk_at dksX0_next_0 1 rfl rfl)
theorem dX0_next_4 : decode cX0_next 4 = .ok (.getfield 385, 3) := dk_180 1 129 (dk_at dksX0_next_0 4 rfl rfl)
theorem dX0_next_7 : decode cX0_next 7 = .ok (.ifCond .ne 6, 3) := dk_154 0 6 (dk_at dksX0_next_0 7 rfl rfl)
theorem dX0_next_10 : decode cX0_next 10 = .ok (.ldc 3, 2) := dk_18 3 (dk_at dksX0_next_0 10 rfl rfl)
theorem dX0_next_12 : decode cX0_next 12 = .ok (.ireturn, 1) := dk_172 (dk_at dksX0_next_0 12 rfl rfl)
theorem dX0_next_13 : decode cX0_next 13 = .ok (.aload_n 0, 1) := dk_42 (dk_at dksX0_next_0 13 rfl rfl)
theorem dX0_next_14 : decode cX0_next 14 = .ok (.invokevirtual 345, 3) := dk_182 1 89 (dk_at dksX0_next_0 14 rfl rfl)
theorem dX0_next_17 : decode cX0_next 17 = .ok (.aload_n 0, 1) := dk_42 (dk_at dksX0_next_0 17 rfl rfl)
theorem dX0_next_18 : decode cX0_next 18 = .ok (.getfield 66, 3) := dk_180 0 66 (dk_at dksX0_next_0 18 rfl rfl)
theorem dX0_next_21 : decode cX0_next 21 = .ok (.getfield 435, 3) := dk_180 1 179 (dk_at dksX0_next_0 21 rfl rfl)
theorem dX0_next_24 : decode cX0_next 24 = .ok (.istore_n 1, 1) := dk_60 (dk_at dksX0_next_1 0 rfl rfl)
theorem dX0_next_25 : decode cX0_next 25 = .ok (.aload_n 0, 1) := dk_42 (dk_at dksX0_next_1 1 rfl rfl)
theorem dX0_next_26 : decode cX0_next 26 = .ok (.invokevirtual 413, 3) := dk_182 1 157 (dk_at dksX0_next_1 2 rfl rfl)
theorem dX0_next_29 : decode cX0_next 29 = .ok (.istore_n 2, 1) := dk_61 (dk_at dksX0_next_1 5 rfl rfl)
theorem dX0_next_30 : decode cX0_next 30 = .ok (.aload_n 0, 1) := dk_42 (dk_at dksX0_next_1 6 rfl rfl)
theorem dX0_next_31 : decode cX0_next 31 = .ok (.getfield 66, 3) := dk_180 0 66 (dk_at dksX0_next_1 7 rfl rfl)
theorem dX0_next_34 : decode cX0_next 34 = .ok (.iload_n 1, 1) := dk_27 (dk_at dksX0_next_1 10 rfl rfl)
theorem dX0_next_35 : decode cX0_next 35 = .ok (.putfield 435, 3) := dk_181 1 179 (dk_at dksX0_next_1 11 rfl rfl)
theorem dX0_next_38 : decode cX0_next 38 = .ok (.iload_n 2, 1) := dk_28 (dk_at dksX0_next_1 14 rfl rfl)
theorem dX0_next_39 : decode cX0_next 39 = .ok (.ireturn, 1) := dk_172 (dk_at dksX0_next_1 15 rfl rfl)
abbrev cX0_out : ByteArray := prog_1_method_63_code
def yX0_out : MethodName := ⟨RX0, "out", "(I)I"⟩
def dkwX0_out_1 : List UInt8 := [42, 180, 0, 66, 27, 182, 1, 160, 4, 172]
abbrev dktX0_out_1 : List UInt8 := dkwX0_out_1 ++ []
def dkwX0_out_0 : List UInt8 := [42, 27, 182, 1, 58, 154, 0, 6, 18, 164, 172, 42, 180, 0, 66, 27, 182, 1, 165, 154, 0, 5, 3, 172]
abbrev dktX0_out_0 : List UInt8 := dkwX0_out_0 ++ dktX0_out_1
theorem dksX0_out_0 : cX0_out.data.toList.drop 0 = dktX0_out_0 := by decide +kernel
theorem dksX0_out_1 : cX0_out.data.toList.drop 24 = dktX0_out_1 := dk_seg dksX0_out_0 24 rfl rfl
theorem dX0_out_0 : decode cX0_out 0 = .ok (.aload_n 0, 1) := dk_42 (dk_at dksX0_out_0 0 rfl rfl)
theorem dX0_out_1 : decode cX0_out 1 = .ok (.iload_n 1, 1) := dk_27 (dk_at dksX0_out_0 1 rfl rfl)
theorem dX0_out_2 : decode cX0_out 2 = .ok (.invokevirtual 314, 3) := dk_182 1 58 (dk_at dksX0_out_0 2 rfl rfl)
theorem dX0_out_5 : decode cX0_out 5 = .ok (.ifCond .ne 6, 3) := dk_154 0 6 (dk_at dksX0_out_0 5 rfl rfl)
theorem dX0_out_8 : decode cX0_out 8 = .ok (.ldc 164, 2) := dk_18 164 (dk_at dksX0_out_0 8 rfl rfl)
theorem dX0_out_10 : decode cX0_out 10 = .ok (.ireturn, 1) := dk_172 (dk_at dksX0_out_0 10 rfl rfl)
theorem dX0_out_11 : decode cX0_out 11 = .ok (.aload_n 0, 1) := dk_42 (dk_at dksX0_out_0 11 rfl rfl)
theorem dX0_out_12 : decode cX0_out 12 = .ok (.getfield 66, 3) := dk_180 0 66 (dk_at dksX0_out_0 12 rfl rfl)
theorem dX0_out_15 : decode cX0_out 15 = .ok (.iload_n 1, 1) := dk_27 (dk_at dksX0_out_0 15 rfl rfl)
theorem dX0_out_16 : decode cX0_out 16 = .ok (.invokevirtual 421, 3) := dk_182 1 165 (dk_at dksX0_out_0 16 rfl rfl)
theorem dX0_out_19 : decode cX0_out 19 = .ok (.ifCond .ne 5, 3) := dk_154 0 5 (dk_at dksX0_out_0 19 rfl rfl)
theorem dX0_out_22 : decode cX0_out 22 = .ok (.iconst 0, 1) := dk_3 (dk_at dksX0_out_0 22 rfl rfl)
theorem dX0_out_23 : decode cX0_out 23 = .ok (.ireturn, 1) := dk_172 (dk_at dksX0_out_0 23 rfl rfl)
theorem dX0_out_24 : decode cX0_out 24 = .ok (.aload_n 0, 1) := dk_42 (dk_at dksX0_out_1 0 rfl rfl)
theorem dX0_out_25 : decode cX0_out 25 = .ok (.getfield 66, 3) := dk_180 0 66 (dk_at dksX0_out_1 1 rfl rfl)
theorem dX0_out_28 : decode cX0_out 28 = .ok (.iload_n 1, 1) := dk_27 (dk_at dksX0_out_1 4 rfl rfl)
theorem dX0_out_29 : decode cX0_out 29 = .ok (.invokevirtual 416, 3) := dk_182 1 160 (dk_at dksX0_out_1 5 rfl rfl)
theorem dX0_out_32 : decode cX0_out 32 = .ok (.iconst 1, 1) := dk_4 (dk_at dksX0_out_1 8 rfl rfl)
theorem dX0_out_33 : decode cX0_out 33 = .ok (.ireturn, 1) := dk_172 (dk_at dksX0_out_1 9 rfl rfl)
abbrev cX0_at : ByteArray := prog_1_method_64_code
def yX0_at : MethodName := ⟨RX0, "at", "(I)I"⟩
def dkwX0_at_1 : List UInt8 := [180, 1, 130, 27, 46, 167, 0, 5, 18, 3, 172]
abbrev dktX0_at_1 : List UInt8 := dkwX0_at_1 ++ []
def dkwX0_at_0 : List UInt8 := [27, 156, 0, 6, 18, 164, 172, 27, 42, 180, 0, 66, 180, 1, 129, 162, 0, 15, 42, 180, 0, 66]
abbrev dktX0_at_0 : List UInt8 := dkwX0_at_0 ++ dktX0_at_1
theorem dksX0_at_0 : cX0_at.data.toList.drop 0 = dktX0_at_0 := by decide +kernel
theorem dksX0_at_1 : cX0_at.data.toList.drop 22 = dktX0_at_1 := dk_seg dksX0_at_0 22 rfl rfl
theorem dX0_at_0 : decode cX0_at 0 = .ok (.iload_n 1, 1) := dk_27 (dk_at dksX0_at_0 0 rfl rfl)
theorem dX0_at_1 : decode cX0_at 1 = .ok (.ifCond .ge 6, 3) := dk_156 0 6 (dk_at dksX0_at_0 1 rfl rfl)
theorem dX0_at_4 : decode cX0_at 4 = .ok (.ldc 164, 2) := dk_18 164 (dk_at dksX0_at_0 4 rfl rfl)
theorem dX0_at_6 : decode cX0_at 6 = .ok (.ireturn, 1) := dk_172 (dk_at dksX0_at_0 6 rfl rfl)
theorem dX0_at_7 : decode cX0_at 7 = .ok (.iload_n 1, 1) := dk_27 (dk_at dksX0_at_0 7 rfl rfl)
theorem dX0_at_8 : decode cX0_at 8 = .ok (.aload_n 0, 1) := dk_42 (dk_at dksX0_at_0 8 rfl rfl)
theorem dX0_at_9 : decode cX0_at 9 = .ok (.getfield 66, 3) := dk_180 0 66 (dk_at dksX0_at_0 9 rfl rfl)
theorem dX0_at_12 : decode cX0_at 12 = .ok (.getfield 385, 3) := dk_180 1 129 (dk_at dksX0_at_0 12 rfl rfl)
theorem dX0_at_15 : decode cX0_at 15 = .ok (.if_icmp .ge 15, 3) := dk_162 0 15 (dk_at dksX0_at_0 15 rfl rfl)
theorem dX0_at_18 : decode cX0_at 18 = .ok (.aload_n 0, 1) := dk_42 (dk_at dksX0_at_0 18 rfl rfl)
theorem dX0_at_19 : decode cX0_at 19 = .ok (.getfield 66, 3) := dk_180 0 66 (dk_at dksX0_at_0 19 rfl rfl)
theorem dX0_at_22 : decode cX0_at 22 = .ok (.getfield 386, 3) := dk_180 1 130 (dk_at dksX0_at_1 0 rfl rfl)
theorem dX0_at_25 : decode cX0_at 25 = .ok (.iload_n 1, 1) := dk_27 (dk_at dksX0_at_1 3 rfl rfl)
theorem dX0_at_26 : decode cX0_at 26 = .ok (.iaload, 1) := dk_46 (dk_at dksX0_at_1 4 rfl rfl)
theorem dX0_at_27 : decode cX0_at 27 = .ok (.goto 5, 3) := dk_167 0 5 (dk_at dksX0_at_1 5 rfl rfl)
theorem dX0_at_30 : decode cX0_at 30 = .ok (.ldc 3, 2) := dk_18 3 (dk_at dksX0_at_1 8 rfl rfl)
theorem dX0_at_32 : decode cX0_at 32 = .ok (.ireturn, 1) := dk_172 (dk_at dksX0_at_1 10 rfl rfl)
abbrev cX0_fire : ByteArray := prog_1_method_65_code
def yX0_fire : MethodName := ⟨RX0, "fire", "(I)I"⟩
def dkwX0_fire_2 : List UInt8 := [180, 0, 66, 21, 4, 182, 1, 160, 132, 2, 1, 132, 3, 1, 167, 255, 212, 28, 172]
abbrev dktX0_fire_2 : List UInt8 := dkwX0_fire_2 ++ []
def dkwX0_fire_1 : List UInt8 := [180, 0, 66, 182, 1, 126, 16, 8, 112, 54, 4, 42, 180, 0, 66, 21, 4, 182, 1, 165, 153, 0, 15, 42]
abbrev dktX0_fire_1 : List UInt8 := dkwX0_fire_1 ++ dktX0_fire_2
def dkwX0_fire_0 : List UInt8 := [27, 4, 16, 20, 184, 0, 137, 154, 0, 6, 18, 164, 172, 3, 61, 3, 62, 29, 27, 162, 0, 45, 42]
abbrev dktX0_fire_0 : List UInt8 := dkwX0_fire_0 ++ dktX0_fire_1
theorem dksX0_fire_0 : cX0_fire.data.toList.drop 0 = dktX0_fire_0 := by decide +kernel
theorem dksX0_fire_1 : cX0_fire.data.toList.drop 23 = dktX0_fire_1 := dk_seg dksX0_fire_0 23 rfl rfl
theorem dksX0_fire_2 : cX0_fire.data.toList.drop 47 = dktX0_fire_2 := dk_seg dksX0_fire_1 24 rfl rfl
theorem dX0_fire_0 : decode cX0_fire 0 = .ok (.iload_n 1, 1) := dk_27 (dk_at dksX0_fire_0 0 rfl rfl)
theorem dX0_fire_1 : decode cX0_fire 1 = .ok (.iconst 1, 1) := dk_4 (dk_at dksX0_fire_0 1 rfl rfl)
theorem dX0_fire_2 : decode cX0_fire 2 = .ok (.bipush 20, 2) := dk_16 20 (dk_at dksX0_fire_0 2 rfl rfl)
theorem dX0_fire_4 : decode cX0_fire 4 = .ok (.invokestatic 137, 3) := dk_184 0 137 (dk_at dksX0_fire_0 4 rfl rfl)
theorem dX0_fire_7 : decode cX0_fire 7 = .ok (.ifCond .ne 6, 3) := dk_154 0 6 (dk_at dksX0_fire_0 7 rfl rfl)
theorem dX0_fire_10 : decode cX0_fire 10 = .ok (.ldc 164, 2) := dk_18 164 (dk_at dksX0_fire_0 10 rfl rfl)
theorem dX0_fire_12 : decode cX0_fire 12 = .ok (.ireturn, 1) := dk_172 (dk_at dksX0_fire_0 12 rfl rfl)
theorem dX0_fire_13 : decode cX0_fire 13 = .ok (.iconst 0, 1) := dk_3 (dk_at dksX0_fire_0 13 rfl rfl)
theorem dX0_fire_14 : decode cX0_fire 14 = .ok (.istore_n 2, 1) := dk_61 (dk_at dksX0_fire_0 14 rfl rfl)
theorem dX0_fire_15 : decode cX0_fire 15 = .ok (.iconst 0, 1) := dk_3 (dk_at dksX0_fire_0 15 rfl rfl)
theorem dX0_fire_16 : decode cX0_fire 16 = .ok (.istore_n 3, 1) := dk_62 (dk_at dksX0_fire_0 16 rfl rfl)
theorem dX0_fire_17 : decode cX0_fire 17 = .ok (.iload_n 3, 1) := dk_29 (dk_at dksX0_fire_0 17 rfl rfl)
theorem dX0_fire_18 : decode cX0_fire 18 = .ok (.iload_n 1, 1) := dk_27 (dk_at dksX0_fire_0 18 rfl rfl)
theorem dX0_fire_19 : decode cX0_fire 19 = .ok (.if_icmp .ge 45, 3) := dk_162 0 45 (dk_at dksX0_fire_0 19 rfl rfl)
theorem dX0_fire_22 : decode cX0_fire 22 = .ok (.aload_n 0, 1) := dk_42 (dk_at dksX0_fire_0 22 rfl rfl)
theorem dX0_fire_23 : decode cX0_fire 23 = .ok (.getfield 66, 3) := dk_180 0 66 (dk_at dksX0_fire_1 0 rfl rfl)
theorem dX0_fire_26 : decode cX0_fire 26 = .ok (.invokevirtual 382, 3) := dk_182 1 126 (dk_at dksX0_fire_1 3 rfl rfl)
theorem dX0_fire_29 : decode cX0_fire 29 = .ok (.bipush 8, 2) := dk_16 8 (dk_at dksX0_fire_1 6 rfl rfl)
theorem dX0_fire_31 : decode cX0_fire 31 = .ok (.irem, 1) := dk_112 (dk_at dksX0_fire_1 8 rfl rfl)
theorem dX0_fire_32 : decode cX0_fire 32 = .ok (.istore 4, 2) := dk_54 4 (dk_at dksX0_fire_1 9 rfl rfl)
theorem dX0_fire_34 : decode cX0_fire 34 = .ok (.aload_n 0, 1) := dk_42 (dk_at dksX0_fire_1 11 rfl rfl)
theorem dX0_fire_35 : decode cX0_fire 35 = .ok (.getfield 66, 3) := dk_180 0 66 (dk_at dksX0_fire_1 12 rfl rfl)
theorem dX0_fire_38 : decode cX0_fire 38 = .ok (.iload 4, 2) := dk_21 4 (dk_at dksX0_fire_1 15 rfl rfl)
theorem dX0_fire_40 : decode cX0_fire 40 = .ok (.invokevirtual 421, 3) := dk_182 1 165 (dk_at dksX0_fire_1 17 rfl rfl)
theorem dX0_fire_43 : decode cX0_fire 43 = .ok (.ifCond .eq 15, 3) := dk_153 0 15 (dk_at dksX0_fire_1 20 rfl rfl)
theorem dX0_fire_46 : decode cX0_fire 46 = .ok (.aload_n 0, 1) := dk_42 (dk_at dksX0_fire_1 23 rfl rfl)
theorem dX0_fire_47 : decode cX0_fire 47 = .ok (.getfield 66, 3) := dk_180 0 66 (dk_at dksX0_fire_2 0 rfl rfl)
theorem dX0_fire_50 : decode cX0_fire 50 = .ok (.iload 4, 2) := dk_21 4 (dk_at dksX0_fire_2 3 rfl rfl)
theorem dX0_fire_52 : decode cX0_fire 52 = .ok (.invokevirtual 416, 3) := dk_182 1 160 (dk_at dksX0_fire_2 5 rfl rfl)
theorem dX0_fire_55 : decode cX0_fire 55 = .ok (.iinc 2 1, 3) := dk_132 2 1 (dk_at dksX0_fire_2 8 rfl rfl)
theorem dX0_fire_58 : decode cX0_fire 58 = .ok (.iinc 3 1, 3) := dk_132 3 1 (dk_at dksX0_fire_2 11 rfl rfl)
theorem dX0_fire_61 : decode cX0_fire 61 = .ok (.goto (-44), 3) := dk_167 255 212 (dk_at dksX0_fire_2 14 rfl rfl)
theorem dX0_fire_64 : decode cX0_fire 64 = .ok (.iload_n 2, 1) := dk_28 (dk_at dksX0_fire_2 17 rfl rfl)
theorem dX0_fire_65 : decode cX0_fire 65 = .ok (.ireturn, 1) := dk_172 (dk_at dksX0_fire_2 18 rfl rfl)
abbrev cX0_seed : ByteArray := prog_1_method_66_code
def yX0_seed : MethodName := ⟨RX0, "seed", "(I)I"⟩
def dkwX0_seed_0 : List UInt8 := [42, 180, 0, 66, 180, 1, 179, 61, 42, 180, 0, 66, 27, 181, 1, 179, 28, 172]
abbrev dktX0_seed_0 : List UInt8 := dkwX0_seed_0 ++ []
theorem dksX0_seed_0 : cX0_seed.data.toList.drop 0 = dktX0_seed_0 := by decide +kernel
theorem dX0_seed_0 : decode cX0_seed 0 = .ok (.aload_n 0, 1) := dk_42 (dk_at dksX0_seed_0 0 rfl rfl)
theorem dX0_seed_1 : decode cX0_seed 1 = .ok (.getfield 66, 3) := dk_180 0 66 (dk_at dksX0_seed_0 1 rfl rfl)
theorem dX0_seed_4 : decode cX0_seed 4 = .ok (.getfield 435, 3) := dk_180 1 179 (dk_at dksX0_seed_0 4 rfl rfl)
theorem dX0_seed_7 : decode cX0_seed 7 = .ok (.istore_n 2, 1) := dk_61 (dk_at dksX0_seed_0 7 rfl rfl)
theorem dX0_seed_8 : decode cX0_seed 8 = .ok (.aload_n 0, 1) := dk_42 (dk_at dksX0_seed_0 8 rfl rfl)
theorem dX0_seed_9 : decode cX0_seed 9 = .ok (.getfield 66, 3) := dk_180 0 66 (dk_at dksX0_seed_0 9 rfl rfl)
theorem dX0_seed_12 : decode cX0_seed 12 = .ok (.iload_n 1, 1) := dk_27 (dk_at dksX0_seed_0 12 rfl rfl)
theorem dX0_seed_13 : decode cX0_seed 13 = .ok (.putfield 435, 3) := dk_181 1 179 (dk_at dksX0_seed_0 13 rfl rfl)
theorem dX0_seed_16 : decode cX0_seed 16 = .ok (.iload_n 2, 1) := dk_28 (dk_at dksX0_seed_0 16 rfl rfl)
theorem dX0_seed_17 : decode cX0_seed 17 = .ok (.ireturn, 1) := dk_172 (dk_at dksX0_seed_0 17 rfl rfl)
abbrev cX0_plan : ByteArray := prog_1_method_67_code
def yX0_plan : MethodName := ⟨RX0, "plan", "(I)I"⟩
def dkwX0_plan_2 : List UInt8 := [180, 1, 182, 4, 96, 181, 1, 182, 42, 180, 0, 46, 180, 1, 182, 172]
abbrev dktX0_plan_2 : List UInt8 := dkwX0_plan_2 ++ []
def dkwX0_plan_1 : List UInt8 := [18, 159, 172, 42, 180, 0, 46, 180, 1, 185, 42, 180, 0, 46, 180, 1, 182, 27, 79, 42, 180, 0, 46, 89]
abbrev dktX0_plan_1 : List UInt8 := dkwX0_plan_1 ++ dktX0_plan_2
def dkwX0_plan_0 : List UInt8 := [42, 27, 182, 1, 58, 154, 0, 6, 18, 164, 172, 42, 180, 0, 46, 180, 1, 182, 16, 24, 160, 0, 6]
abbrev dktX0_plan_0 : List UInt8 := dkwX0_plan_0 ++ dktX0_plan_1
theorem dksX0_plan_0 : cX0_plan.data.toList.drop 0 = dktX0_plan_0 := by decide +kernel
theorem dksX0_plan_1 : cX0_plan.data.toList.drop 23 = dktX0_plan_1 := dk_seg dksX0_plan_0 23 rfl rfl
theorem dksX0_plan_2 : cX0_plan.data.toList.drop 47 = dktX0_plan_2 := dk_seg dksX0_plan_1 24 rfl rfl
theorem dX0_plan_0 : decode cX0_plan 0 = .ok (.aload_n 0, 1) := dk_42 (dk_at dksX0_plan_0 0 rfl rfl)
theorem dX0_plan_1 : decode cX0_plan 1 = .ok (.iload_n 1, 1) := dk_27 (dk_at dksX0_plan_0 1 rfl rfl)
theorem dX0_plan_2 : decode cX0_plan 2 = .ok (.invokevirtual 314, 3) := dk_182 1 58 (dk_at dksX0_plan_0 2 rfl rfl)
theorem dX0_plan_5 : decode cX0_plan 5 = .ok (.ifCond .ne 6, 3) := dk_154 0 6 (dk_at dksX0_plan_0 5 rfl rfl)
theorem dX0_plan_8 : decode cX0_plan 8 = .ok (.ldc 164, 2) := dk_18 164 (dk_at dksX0_plan_0 8 rfl rfl)
theorem dX0_plan_10 : decode cX0_plan 10 = .ok (.ireturn, 1) := dk_172 (dk_at dksX0_plan_0 10 rfl rfl)
theorem dX0_plan_11 : decode cX0_plan 11 = .ok (.aload_n 0, 1) := dk_42 (dk_at dksX0_plan_0 11 rfl rfl)
theorem dX0_plan_12 : decode cX0_plan 12 = .ok (.getfield 46, 3) := dk_180 0 46 (dk_at dksX0_plan_0 12 rfl rfl)
theorem dX0_plan_15 : decode cX0_plan 15 = .ok (.getfield 438, 3) := dk_180 1 182 (dk_at dksX0_plan_0 15 rfl rfl)
theorem dX0_plan_18 : decode cX0_plan 18 = .ok (.bipush 24, 2) := dk_16 24 (dk_at dksX0_plan_0 18 rfl rfl)
theorem dX0_plan_20 : decode cX0_plan 20 = .ok (.if_icmp .ne 6, 3) := dk_160 0 6 (dk_at dksX0_plan_0 20 rfl rfl)
theorem dX0_plan_23 : decode cX0_plan 23 = .ok (.ldc 159, 2) := dk_18 159 (dk_at dksX0_plan_1 0 rfl rfl)
theorem dX0_plan_25 : decode cX0_plan 25 = .ok (.ireturn, 1) := dk_172 (dk_at dksX0_plan_1 2 rfl rfl)
theorem dX0_plan_26 : decode cX0_plan 26 = .ok (.aload_n 0, 1) := dk_42 (dk_at dksX0_plan_1 3 rfl rfl)
theorem dX0_plan_27 : decode cX0_plan 27 = .ok (.getfield 46, 3) := dk_180 0 46 (dk_at dksX0_plan_1 4 rfl rfl)
theorem dX0_plan_30 : decode cX0_plan 30 = .ok (.getfield 441, 3) := dk_180 1 185 (dk_at dksX0_plan_1 7 rfl rfl)
theorem dX0_plan_33 : decode cX0_plan 33 = .ok (.aload_n 0, 1) := dk_42 (dk_at dksX0_plan_1 10 rfl rfl)
theorem dX0_plan_34 : decode cX0_plan 34 = .ok (.getfield 46, 3) := dk_180 0 46 (dk_at dksX0_plan_1 11 rfl rfl)
theorem dX0_plan_37 : decode cX0_plan 37 = .ok (.getfield 438, 3) := dk_180 1 182 (dk_at dksX0_plan_1 14 rfl rfl)
theorem dX0_plan_40 : decode cX0_plan 40 = .ok (.iload_n 1, 1) := dk_27 (dk_at dksX0_plan_1 17 rfl rfl)
theorem dX0_plan_41 : decode cX0_plan 41 = .ok (.iastore, 1) := dk_79 (dk_at dksX0_plan_1 18 rfl rfl)
theorem dX0_plan_42 : decode cX0_plan 42 = .ok (.aload_n 0, 1) := dk_42 (dk_at dksX0_plan_1 19 rfl rfl)
theorem dX0_plan_43 : decode cX0_plan 43 = .ok (.getfield 46, 3) := dk_180 0 46 (dk_at dksX0_plan_1 20 rfl rfl)
theorem dX0_plan_46 : decode cX0_plan 46 = .ok (.dup, 1) := dk_89 (dk_at dksX0_plan_1 23 rfl rfl)
theorem dX0_plan_47 : decode cX0_plan 47 = .ok (.getfield 438, 3) := dk_180 1 182 (dk_at dksX0_plan_2 0 rfl rfl)
theorem dX0_plan_50 : decode cX0_plan 50 = .ok (.iconst 1, 1) := dk_4 (dk_at dksX0_plan_2 3 rfl rfl)
theorem dX0_plan_51 : decode cX0_plan 51 = .ok (.iadd, 1) := dk_96 (dk_at dksX0_plan_2 4 rfl rfl)
theorem dX0_plan_52 : decode cX0_plan 52 = .ok (.putfield 438, 3) := dk_181 1 182 (dk_at dksX0_plan_2 5 rfl rfl)
theorem dX0_plan_55 : decode cX0_plan 55 = .ok (.aload_n 0, 1) := dk_42 (dk_at dksX0_plan_2 8 rfl rfl)
theorem dX0_plan_56 : decode cX0_plan 56 = .ok (.getfield 46, 3) := dk_180 0 46 (dk_at dksX0_plan_2 9 rfl rfl)
theorem dX0_plan_59 : decode cX0_plan 59 = .ok (.getfield 438, 3) := dk_180 1 182 (dk_at dksX0_plan_2 12 rfl rfl)
theorem dX0_plan_62 : decode cX0_plan 62 = .ok (.ireturn, 1) := dk_172 (dk_at dksX0_plan_2 15 rfl rfl)
abbrev cX0_clear : ByteArray := prog_1_method_68_code
def yX0_clear : MethodName := ⟨RX0, "clear", "()I"⟩
def dkwX0_clear_0 : List UInt8 := [42, 180, 0, 46, 180, 1, 182, 60, 42, 180, 0, 46, 3, 181, 1, 182, 27, 172]
abbrev dktX0_clear_0 : List UInt8 := dkwX0_clear_0 ++ []
theorem dksX0_clear_0 : cX0_clear.data.toList.drop 0 = dktX0_clear_0 := by decide +kernel
theorem dX0_clear_0 : decode cX0_clear 0 = .ok (.aload_n 0, 1) := dk_42 (dk_at dksX0_clear_0 0 rfl rfl)
theorem dX0_clear_1 : decode cX0_clear 1 = .ok (.getfield 46, 3) := dk_180 0 46 (dk_at dksX0_clear_0 1 rfl rfl)
theorem dX0_clear_4 : decode cX0_clear 4 = .ok (.getfield 438, 3) := dk_180 1 182 (dk_at dksX0_clear_0 4 rfl rfl)
theorem dX0_clear_7 : decode cX0_clear 7 = .ok (.istore_n 1, 1) := dk_60 (dk_at dksX0_clear_0 7 rfl rfl)
theorem dX0_clear_8 : decode cX0_clear 8 = .ok (.aload_n 0, 1) := dk_42 (dk_at dksX0_clear_0 8 rfl rfl)
theorem dX0_clear_9 : decode cX0_clear 9 = .ok (.getfield 46, 3) := dk_180 0 46 (dk_at dksX0_clear_0 9 rfl rfl)
theorem dX0_clear_12 : decode cX0_clear 12 = .ok (.iconst 0, 1) := dk_3 (dk_at dksX0_clear_0 12 rfl rfl)
theorem dX0_clear_13 : decode cX0_clear 13 = .ok (.putfield 438, 3) := dk_181 1 182 (dk_at dksX0_clear_0 13 rfl rfl)
theorem dX0_clear_16 : decode cX0_clear 16 = .ok (.iload_n 1, 1) := dk_27 (dk_at dksX0_clear_0 16 rfl rfl)
theorem dX0_clear_17 : decode cX0_clear 17 = .ok (.ireturn, 1) := dk_172 (dk_at dksX0_clear_0 17 rfl rfl)
abbrev cX0_run : ByteArray := prog_1_method_71_code
def yX0_run : MethodName := ⟨RX0, "run", "(I)I"⟩
def dkwX0_run_1 : List UInt8 := [19, 1, 196, 172, 42, 182, 1, 89, 42, 42, 180, 0, 46, 180, 1, 185, 27, 182, 1, 192, 172]
abbrev dktX0_run_1 : List UInt8 := dkwX0_run_1 ++ []
def dkwX0_run_0 : List UInt8 := [27, 4, 16, 24, 184, 0, 137, 154, 0, 6, 18, 164, 172, 27, 42, 180, 0, 46, 180, 1, 182, 164, 0, 7]
abbrev dktX0_run_0 : List UInt8 := dkwX0_run_0 ++ dktX0_run_1
theorem dksX0_run_0 : cX0_run.data.toList.drop 0 = dktX0_run_0 := by decide +kernel
theorem dksX0_run_1 : cX0_run.data.toList.drop 24 = dktX0_run_1 := dk_seg dksX0_run_0 24 rfl rfl
theorem dX0_run_0 : decode cX0_run 0 = .ok (.iload_n 1, 1) := dk_27 (dk_at dksX0_run_0 0 rfl rfl)
theorem dX0_run_1 : decode cX0_run 1 = .ok (.iconst 1, 1) := dk_4 (dk_at dksX0_run_0 1 rfl rfl)
theorem dX0_run_2 : decode cX0_run 2 = .ok (.bipush 24, 2) := dk_16 24 (dk_at dksX0_run_0 2 rfl rfl)
theorem dX0_run_4 : decode cX0_run 4 = .ok (.invokestatic 137, 3) := dk_184 0 137 (dk_at dksX0_run_0 4 rfl rfl)
theorem dX0_run_7 : decode cX0_run 7 = .ok (.ifCond .ne 6, 3) := dk_154 0 6 (dk_at dksX0_run_0 7 rfl rfl)
theorem dX0_run_10 : decode cX0_run 10 = .ok (.ldc 164, 2) := dk_18 164 (dk_at dksX0_run_0 10 rfl rfl)
theorem dX0_run_12 : decode cX0_run 12 = .ok (.ireturn, 1) := dk_172 (dk_at dksX0_run_0 12 rfl rfl)
theorem dX0_run_13 : decode cX0_run 13 = .ok (.iload_n 1, 1) := dk_27 (dk_at dksX0_run_0 13 rfl rfl)
theorem dX0_run_14 : decode cX0_run 14 = .ok (.aload_n 0, 1) := dk_42 (dk_at dksX0_run_0 14 rfl rfl)
theorem dX0_run_15 : decode cX0_run 15 = .ok (.getfield 46, 3) := dk_180 0 46 (dk_at dksX0_run_0 15 rfl rfl)
theorem dX0_run_18 : decode cX0_run 18 = .ok (.getfield 438, 3) := dk_180 1 182 (dk_at dksX0_run_0 18 rfl rfl)
theorem dX0_run_21 : decode cX0_run 21 = .ok (.if_icmp .le 7, 3) := dk_164 0 7 (dk_at dksX0_run_0 21 rfl rfl)
theorem dX0_run_24 : decode cX0_run 24 = .ok (.ldc_w 452, 3) := dk_19 1 196 (dk_at dksX0_run_1 0 rfl rfl)
theorem dX0_run_27 : decode cX0_run 27 = .ok (.ireturn, 1) := dk_172 (dk_at dksX0_run_1 3 rfl rfl)
theorem dX0_run_28 : decode cX0_run 28 = .ok (.aload_n 0, 1) := dk_42 (dk_at dksX0_run_1 4 rfl rfl)
theorem dX0_run_29 : decode cX0_run 29 = .ok (.invokevirtual 345, 3) := dk_182 1 89 (dk_at dksX0_run_1 5 rfl rfl)
theorem dX0_run_32 : decode cX0_run 32 = .ok (.aload_n 0, 1) := dk_42 (dk_at dksX0_run_1 8 rfl rfl)
theorem dX0_run_33 : decode cX0_run 33 = .ok (.aload_n 0, 1) := dk_42 (dk_at dksX0_run_1 9 rfl rfl)
theorem dX0_run_34 : decode cX0_run 34 = .ok (.getfield 46, 3) := dk_180 0 46 (dk_at dksX0_run_1 10 rfl rfl)
theorem dX0_run_37 : decode cX0_run 37 = .ok (.getfield 441, 3) := dk_180 1 185 (dk_at dksX0_run_1 13 rfl rfl)
theorem dX0_run_40 : decode cX0_run 40 = .ok (.iload_n 1, 1) := dk_27 (dk_at dksX0_run_1 16 rfl rfl)
theorem dX0_run_41 : decode cX0_run 41 = .ok (.invokevirtual 448, 3) := dk_182 1 192 (dk_at dksX0_run_1 17 rfl rfl)
theorem dX0_run_44 : decode cX0_run 44 = .ok (.ireturn, 1) := dk_172 (dk_at dksX0_run_1 20 rfl rfl)
abbrev cX0_goesThrough : ByteArray := prog_1_method_69_code
def yX0_goesThrough : MethodName := ⟨RX0, "goesThrough", "([II)I"⟩
def dkwX0_goesThrough_1 : List UInt8 := [182, 1, 176, 54, 5, 132, 4, 1, 167, 255, 237, 42, 180, 0, 66, 180, 1, 162, 29, 100, 172]
abbrev dktX0_goesThrough_1 : List UInt8 := dkwX0_goesThrough_1 ++ []
def dkwX0_goesThrough_0 : List UInt8 := [42, 180, 0, 66, 180, 1, 162, 62, 3, 54, 4, 21, 4, 28, 162, 0, 19, 42, 43, 21, 4, 46]
abbrev dktX0_goesThrough_0 : List UInt8 := dkwX0_goesThrough_0 ++ dktX0_goesThrough_1
theorem dksX0_goesThrough_0 : cX0_goesThrough.data.toList.drop 0 = dktX0_goesThrough_0 := by decide +kernel
theorem dksX0_goesThrough_1 : cX0_goesThrough.data.toList.drop 22 = dktX0_goesThrough_1 := dk_seg dksX0_goesThrough_0 22 rfl rfl
theorem dX0_goesThrough_0 : decode cX0_goesThrough 0 = .ok (.aload_n 0, 1) := dk_42 (dk_at dksX0_goesThrough_0 0 rfl rfl)
theorem dX0_goesThrough_1 : decode cX0_goesThrough 1 = .ok (.getfield 66, 3) := dk_180 0 66 (dk_at dksX0_goesThrough_0 1 rfl rfl)
theorem dX0_goesThrough_4 : decode cX0_goesThrough 4 = .ok (.getfield 418, 3) := dk_180 1 162 (dk_at dksX0_goesThrough_0 4 rfl rfl)
theorem dX0_goesThrough_7 : decode cX0_goesThrough 7 = .ok (.istore_n 3, 1) := dk_62 (dk_at dksX0_goesThrough_0 7 rfl rfl)
theorem dX0_goesThrough_8 : decode cX0_goesThrough 8 = .ok (.iconst 0, 1) := dk_3 (dk_at dksX0_goesThrough_0 8 rfl rfl)
theorem dX0_goesThrough_9 : decode cX0_goesThrough 9 = .ok (.istore 4, 2) := dk_54 4 (dk_at dksX0_goesThrough_0 9 rfl rfl)
theorem dX0_goesThrough_11 : decode cX0_goesThrough 11 = .ok (.iload 4, 2) := dk_21 4 (dk_at dksX0_goesThrough_0 11 rfl rfl)
theorem dX0_goesThrough_13 : decode cX0_goesThrough 13 = .ok (.iload_n 2, 1) := dk_28 (dk_at dksX0_goesThrough_0 13 rfl rfl)
theorem dX0_goesThrough_14 : decode cX0_goesThrough 14 = .ok (.if_icmp .ge 19, 3) := dk_162 0 19 (dk_at dksX0_goesThrough_0 14 rfl rfl)
theorem dX0_goesThrough_17 : decode cX0_goesThrough 17 = .ok (.aload_n 0, 1) := dk_42 (dk_at dksX0_goesThrough_0 17 rfl rfl)
theorem dX0_goesThrough_18 : decode cX0_goesThrough 18 = .ok (.aload_n 1, 1) := dk_43 (dk_at dksX0_goesThrough_0 18 rfl rfl)
theorem dX0_goesThrough_19 : decode cX0_goesThrough 19 = .ok (.iload 4, 2) := dk_21 4 (dk_at dksX0_goesThrough_0 19 rfl rfl)
theorem dX0_goesThrough_21 : decode cX0_goesThrough 21 = .ok (.iaload, 1) := dk_46 (dk_at dksX0_goesThrough_0 21 rfl rfl)
theorem dX0_goesThrough_22 : decode cX0_goesThrough 22 = .ok (.invokevirtual 432, 3) := dk_182 1 176 (dk_at dksX0_goesThrough_1 0 rfl rfl)
theorem dX0_goesThrough_25 : decode cX0_goesThrough 25 = .ok (.istore 5, 2) := dk_54 5 (dk_at dksX0_goesThrough_1 3 rfl rfl)
theorem dX0_goesThrough_27 : decode cX0_goesThrough 27 = .ok (.iinc 4 1, 3) := dk_132 4 1 (dk_at dksX0_goesThrough_1 5 rfl rfl)
theorem dX0_goesThrough_30 : decode cX0_goesThrough 30 = .ok (.goto (-19), 3) := dk_167 255 237 (dk_at dksX0_goesThrough_1 8 rfl rfl)
theorem dX0_goesThrough_33 : decode cX0_goesThrough 33 = .ok (.aload_n 0, 1) := dk_42 (dk_at dksX0_goesThrough_1 11 rfl rfl)
theorem dX0_goesThrough_34 : decode cX0_goesThrough 34 = .ok (.getfield 66, 3) := dk_180 0 66 (dk_at dksX0_goesThrough_1 12 rfl rfl)
theorem dX0_goesThrough_37 : decode cX0_goesThrough 37 = .ok (.getfield 418, 3) := dk_180 1 162 (dk_at dksX0_goesThrough_1 15 rfl rfl)
theorem dX0_goesThrough_40 : decode cX0_goesThrough 40 = .ok (.iload_n 3, 1) := dk_29 (dk_at dksX0_goesThrough_1 18 rfl rfl)
theorem dX0_goesThrough_41 : decode cX0_goesThrough 41 = .ok (.isub, 1) := dk_100 (dk_at dksX0_goesThrough_1 19 rfl rfl)
theorem dX0_goesThrough_42 : decode cX0_goesThrough 42 = .ok (.ireturn, 1) := dk_172 (dk_at dksX0_goesThrough_1 20 rfl rfl)
abbrev cX0_would : ByteArray := prog_1_method_72_code
def yX0_would : MethodName := ⟨RX0, "would", "()I"⟩
def dkwX0_would_0 : List UInt8 := [42, 182, 1, 89, 42, 42, 180, 0, 46, 180, 1, 185, 42, 180, 0, 46, 180, 1, 182, 182, 1, 197, 172]
abbrev dktX0_would_0 : List UInt8 := dkwX0_would_0 ++ []
theorem dksX0_would_0 : cX0_would.data.toList.drop 0 = dktX0_would_0 := by decide +kernel
theorem dX0_would_0 : decode cX0_would 0 = .ok (.aload_n 0, 1) := dk_42 (dk_at dksX0_would_0 0 rfl rfl)
theorem dX0_would_1 : decode cX0_would 1 = .ok (.invokevirtual 345, 3) := dk_182 1 89 (dk_at dksX0_would_0 1 rfl rfl)
theorem dX0_would_4 : decode cX0_would 4 = .ok (.aload_n 0, 1) := dk_42 (dk_at dksX0_would_0 4 rfl rfl)
theorem dX0_would_5 : decode cX0_would 5 = .ok (.aload_n 0, 1) := dk_42 (dk_at dksX0_would_0 5 rfl rfl)
theorem dX0_would_6 : decode cX0_would 6 = .ok (.getfield 46, 3) := dk_180 0 46 (dk_at dksX0_would_0 6 rfl rfl)
theorem dX0_would_9 : decode cX0_would 9 = .ok (.getfield 441, 3) := dk_180 1 185 (dk_at dksX0_would_0 9 rfl rfl)
theorem dX0_would_12 : decode cX0_would 12 = .ok (.aload_n 0, 1) := dk_42 (dk_at dksX0_would_0 12 rfl rfl)
theorem dX0_would_13 : decode cX0_would 13 = .ok (.getfield 46, 3) := dk_180 0 46 (dk_at dksX0_would_0 13 rfl rfl)
theorem dX0_would_16 : decode cX0_would 16 = .ok (.getfield 438, 3) := dk_180 1 182 (dk_at dksX0_would_0 16 rfl rfl)
theorem dX0_would_19 : decode cX0_would 19 = .ok (.invokevirtual 453, 3) := dk_182 1 197 (dk_at dksX0_would_0 19 rfl rfl)
theorem dX0_would_22 : decode cX0_would 22 = .ok (.ireturn, 1) := dk_172 (dk_at dksX0_would_0 22 rfl rfl)
abbrev cX0_thought : ByteArray := prog_1_method_70_code
def yX0_thought : MethodName := ⟨RX0, "thought", "([II)I"⟩
def dkwX0_thought_1 : List UInt8 := [28, 182, 1, 192, 62, 42, 42, 180, 0, 46, 180, 0, 63, 181, 0, 66, 29, 172]
abbrev dktX0_thought_1 : List UInt8 := dkwX0_thought_1 ++ []
def dkwX0_thought_0 : List UInt8 := [42, 180, 0, 59, 42, 180, 0, 46, 180, 0, 63, 182, 1, 188, 42, 42, 180, 0, 59, 181, 0, 66, 42, 43]
abbrev dktX0_thought_0 : List UInt8 := dkwX0_thought_0 ++ dktX0_thought_1
theorem dksX0_thought_0 : cX0_thought.data.toList.drop 0 = dktX0_thought_0 := by decide +kernel
theorem dksX0_thought_1 : cX0_thought.data.toList.drop 24 = dktX0_thought_1 := dk_seg dksX0_thought_0 24 rfl rfl
theorem dX0_thought_0 : decode cX0_thought 0 = .ok (.aload_n 0, 1) := dk_42 (dk_at dksX0_thought_0 0 rfl rfl)
theorem dX0_thought_1 : decode cX0_thought 1 = .ok (.getfield 59, 3) := dk_180 0 59 (dk_at dksX0_thought_0 1 rfl rfl)
theorem dX0_thought_4 : decode cX0_thought 4 = .ok (.aload_n 0, 1) := dk_42 (dk_at dksX0_thought_0 4 rfl rfl)
theorem dX0_thought_5 : decode cX0_thought 5 = .ok (.getfield 46, 3) := dk_180 0 46 (dk_at dksX0_thought_0 5 rfl rfl)
theorem dX0_thought_8 : decode cX0_thought 8 = .ok (.getfield 63, 3) := dk_180 0 63 (dk_at dksX0_thought_0 8 rfl rfl)
theorem dX0_thought_11 : decode cX0_thought 11 = .ok (.invokevirtual 444, 3) := dk_182 1 188 (dk_at dksX0_thought_0 11 rfl rfl)
theorem dX0_thought_14 : decode cX0_thought 14 = .ok (.aload_n 0, 1) := dk_42 (dk_at dksX0_thought_0 14 rfl rfl)
theorem dX0_thought_15 : decode cX0_thought 15 = .ok (.aload_n 0, 1) := dk_42 (dk_at dksX0_thought_0 15 rfl rfl)
theorem dX0_thought_16 : decode cX0_thought 16 = .ok (.getfield 59, 3) := dk_180 0 59 (dk_at dksX0_thought_0 16 rfl rfl)
theorem dX0_thought_19 : decode cX0_thought 19 = .ok (.putfield 66, 3) := dk_181 0 66 (dk_at dksX0_thought_0 19 rfl rfl)
theorem dX0_thought_22 : decode cX0_thought 22 = .ok (.aload_n 0, 1) := dk_42 (dk_at dksX0_thought_0 22 rfl rfl)
theorem dX0_thought_23 : decode cX0_thought 23 = .ok (.aload_n 1, 1) := dk_43 (dk_at dksX0_thought_0 23 rfl rfl)
theorem dX0_thought_24 : decode cX0_thought 24 = .ok (.iload_n 2, 1) := dk_28 (dk_at dksX0_thought_1 0 rfl rfl)
theorem dX0_thought_25 : decode cX0_thought 25 = .ok (.invokevirtual 448, 3) := dk_182 1 192 (dk_at dksX0_thought_1 1 rfl rfl)
theorem dX0_thought_28 : decode cX0_thought 28 = .ok (.istore_n 3, 1) := dk_62 (dk_at dksX0_thought_1 4 rfl rfl)
theorem dX0_thought_29 : decode cX0_thought 29 = .ok (.aload_n 0, 1) := dk_42 (dk_at dksX0_thought_1 5 rfl rfl)
theorem dX0_thought_30 : decode cX0_thought 30 = .ok (.aload_n 0, 1) := dk_42 (dk_at dksX0_thought_1 6 rfl rfl)
theorem dX0_thought_31 : decode cX0_thought 31 = .ok (.getfield 46, 3) := dk_180 0 46 (dk_at dksX0_thought_1 7 rfl rfl)
theorem dX0_thought_34 : decode cX0_thought 34 = .ok (.getfield 63, 3) := dk_180 0 63 (dk_at dksX0_thought_1 10 rfl rfl)
theorem dX0_thought_37 : decode cX0_thought 37 = .ok (.putfield 66, 3) := dk_181 0 66 (dk_at dksX0_thought_1 13 rfl rfl)
theorem dX0_thought_40 : decode cX0_thought 40 = .ok (.iload_n 3, 1) := dk_29 (dk_at dksX0_thought_1 16 rfl rfl)
theorem dX0_thought_41 : decode cX0_thought 41 = .ok (.ireturn, 1) := dk_172 (dk_at dksX0_thought_1 17 rfl rfl)
abbrev cX0_copyRow : ByteArray := prog_1_method_5_code
def yX0_copyRow : MethodName := ⟨RX0, "copyRow", "([I[I)V"⟩
def dkwX0_copyRow_0 : List UInt8 := [42, 3, 43, 3, 43, 190, 184, 0, 34, 177]
abbrev dktX0_copyRow_0 : List UInt8 := dkwX0_copyRow_0 ++ []
theorem dksX0_copyRow_0 : cX0_copyRow.data.toList.drop 0 = dktX0_copyRow_0 := by decide +kernel
theorem dX0_copyRow_0 : decode cX0_copyRow 0 = .ok (.aload_n 0, 1) := dk_42 (dk_at dksX0_copyRow_0 0 rfl rfl)
theorem dX0_copyRow_1 : decode cX0_copyRow 1 = .ok (.iconst 0, 1) := dk_3 (dk_at dksX0_copyRow_0 1 rfl rfl)
theorem dX0_copyRow_2 : decode cX0_copyRow 2 = .ok (.aload_n 1, 1) := dk_43 (dk_at dksX0_copyRow_0 2 rfl rfl)
theorem dX0_copyRow_3 : decode cX0_copyRow 3 = .ok (.iconst 0, 1) := dk_3 (dk_at dksX0_copyRow_0 3 rfl rfl)
theorem dX0_copyRow_4 : decode cX0_copyRow 4 = .ok (.aload_n 1, 1) := dk_43 (dk_at dksX0_copyRow_0 4 rfl rfl)
theorem dX0_copyRow_5 : decode cX0_copyRow 5 = .ok (.arraylength, 1) := dk_190 (dk_at dksX0_copyRow_0 5 rfl rfl)
theorem dX0_copyRow_6 : decode cX0_copyRow 6 = .ok (.invokestatic 34, 3) := dk_184 0 34 (dk_at dksX0_copyRow_0 6 rfl rfl)
theorem dX0_copyRow_9 : decode cX0_copyRow 9 = .ok (.return_, 1) := dk_177 (dk_at dksX0_copyRow_0 9 rfl rfl)
abbrev cX0_least : ByteArray := prog_1_method_79_code
def yX0_least : MethodName := ⟨RX0, "least", "(I)I"⟩
def dkwX0_least_3 : List UInt8 := [182, 1, 216, 172]
abbrev dktX0_least_3 : List UInt8 := dkwX0_least_3 ++ []
def dkwX0_least_2 : List UInt8 := [180, 0, 46, 180, 1, 182, 154, 0, 8, 18, 3, 167, 0, 16, 42, 42, 180, 0, 46, 180, 1, 185, 3, 46]
abbrev dktX0_least_2 : List UInt8 := dkwX0_least_2 ++ dktX0_least_3
def dkwX0_least_1 : List UInt8 := [180, 0, 46, 180, 1, 185, 42, 180, 0, 46, 180, 1, 182, 182, 1, 213, 61, 27, 154, 0, 5, 28, 172, 42]
abbrev dktX0_least_1 : List UInt8 := dkwX0_least_1 ++ dktX0_least_2
def dkwX0_least_0 : List UInt8 := [27, 3, 4, 184, 0, 137, 154, 0, 6, 18, 164, 172, 42, 182, 1, 89, 42, 182, 1, 210, 42, 42]
abbrev dktX0_least_0 : List UInt8 := dkwX0_least_0 ++ dktX0_least_1
theorem dksX0_least_0 : cX0_least.data.toList.drop 0 = dktX0_least_0 := by decide +kernel
theorem dksX0_least_1 : cX0_least.data.toList.drop 22 = dktX0_least_1 := dk_seg dksX0_least_0 22 rfl rfl
theorem dksX0_least_2 : cX0_least.data.toList.drop 46 = dktX0_least_2 := dk_seg dksX0_least_1 24 rfl rfl
theorem dksX0_least_3 : cX0_least.data.toList.drop 70 = dktX0_least_3 := dk_seg dksX0_least_2 24 rfl rfl
theorem dX0_least_0 : decode cX0_least 0 = .ok (.iload_n 1, 1) := dk_27 (dk_at dksX0_least_0 0 rfl rfl)
theorem dX0_least_1 : decode cX0_least 1 = .ok (.iconst 0, 1) := dk_3 (dk_at dksX0_least_0 1 rfl rfl)
theorem dX0_least_2 : decode cX0_least 2 = .ok (.iconst 1, 1) := dk_4 (dk_at dksX0_least_0 2 rfl rfl)
theorem dX0_least_3 : decode cX0_least 3 = .ok (.invokestatic 137, 3) := dk_184 0 137 (dk_at dksX0_least_0 3 rfl rfl)
theorem dX0_least_6 : decode cX0_least 6 = .ok (.ifCond .ne 6, 3) := dk_154 0 6 (dk_at dksX0_least_0 6 rfl rfl)
theorem dX0_least_9 : decode cX0_least 9 = .ok (.ldc 164, 2) := dk_18 164 (dk_at dksX0_least_0 9 rfl rfl)
theorem dX0_least_11 : decode cX0_least 11 = .ok (.ireturn, 1) := dk_172 (dk_at dksX0_least_0 11 rfl rfl)
theorem dX0_least_12 : decode cX0_least 12 = .ok (.aload_n 0, 1) := dk_42 (dk_at dksX0_least_0 12 rfl rfl)
theorem dX0_least_13 : decode cX0_least 13 = .ok (.invokevirtual 345, 3) := dk_182 1 89 (dk_at dksX0_least_0 13 rfl rfl)
theorem dX0_least_16 : decode cX0_least 16 = .ok (.aload_n 0, 1) := dk_42 (dk_at dksX0_least_0 16 rfl rfl)
theorem dX0_least_17 : decode cX0_least 17 = .ok (.invokevirtual 466, 3) := dk_182 1 210 (dk_at dksX0_least_0 17 rfl rfl)
theorem dX0_least_20 : decode cX0_least 20 = .ok (.aload_n 0, 1) := dk_42 (dk_at dksX0_least_0 20 rfl rfl)
theorem dX0_least_21 : decode cX0_least 21 = .ok (.aload_n 0, 1) := dk_42 (dk_at dksX0_least_0 21 rfl rfl)
theorem dX0_least_22 : decode cX0_least 22 = .ok (.getfield 46, 3) := dk_180 0 46 (dk_at dksX0_least_1 0 rfl rfl)
theorem dX0_least_25 : decode cX0_least 25 = .ok (.getfield 441, 3) := dk_180 1 185 (dk_at dksX0_least_1 3 rfl rfl)
theorem dX0_least_28 : decode cX0_least 28 = .ok (.aload_n 0, 1) := dk_42 (dk_at dksX0_least_1 6 rfl rfl)
theorem dX0_least_29 : decode cX0_least 29 = .ok (.getfield 46, 3) := dk_180 0 46 (dk_at dksX0_least_1 7 rfl rfl)
theorem dX0_least_32 : decode cX0_least 32 = .ok (.getfield 438, 3) := dk_180 1 182 (dk_at dksX0_least_1 10 rfl rfl)
theorem dX0_least_35 : decode cX0_least 35 = .ok (.invokevirtual 469, 3) := dk_182 1 213 (dk_at dksX0_least_1 13 rfl rfl)
theorem dX0_least_38 : decode cX0_least 38 = .ok (.istore_n 2, 1) := dk_61 (dk_at dksX0_least_1 16 rfl rfl)
theorem dX0_least_39 : decode cX0_least 39 = .ok (.iload_n 1, 1) := dk_27 (dk_at dksX0_least_1 17 rfl rfl)
theorem dX0_least_40 : decode cX0_least 40 = .ok (.ifCond .ne 5, 3) := dk_154 0 5 (dk_at dksX0_least_1 18 rfl rfl)
theorem dX0_least_43 : decode cX0_least 43 = .ok (.iload_n 2, 1) := dk_28 (dk_at dksX0_least_1 21 rfl rfl)
theorem dX0_least_44 : decode cX0_least 44 = .ok (.ireturn, 1) := dk_172 (dk_at dksX0_least_1 22 rfl rfl)
theorem dX0_least_45 : decode cX0_least 45 = .ok (.aload_n 0, 1) := dk_42 (dk_at dksX0_least_1 23 rfl rfl)
theorem dX0_least_46 : decode cX0_least 46 = .ok (.getfield 46, 3) := dk_180 0 46 (dk_at dksX0_least_2 0 rfl rfl)
theorem dX0_least_49 : decode cX0_least 49 = .ok (.getfield 438, 3) := dk_180 1 182 (dk_at dksX0_least_2 3 rfl rfl)
theorem dX0_least_52 : decode cX0_least 52 = .ok (.ifCond .ne 8, 3) := dk_154 0 8 (dk_at dksX0_least_2 6 rfl rfl)
theorem dX0_least_55 : decode cX0_least 55 = .ok (.ldc 3, 2) := dk_18 3 (dk_at dksX0_least_2 9 rfl rfl)
theorem dX0_least_57 : decode cX0_least 57 = .ok (.goto 16, 3) := dk_167 0 16 (dk_at dksX0_least_2 11 rfl rfl)
theorem dX0_least_60 : decode cX0_least 60 = .ok (.aload_n 0, 1) := dk_42 (dk_at dksX0_least_2 14 rfl rfl)
theorem dX0_least_61 : decode cX0_least 61 = .ok (.aload_n 0, 1) := dk_42 (dk_at dksX0_least_2 15 rfl rfl)
theorem dX0_least_62 : decode cX0_least 62 = .ok (.getfield 46, 3) := dk_180 0 46 (dk_at dksX0_least_2 16 rfl rfl)
theorem dX0_least_65 : decode cX0_least 65 = .ok (.getfield 441, 3) := dk_180 1 185 (dk_at dksX0_least_2 19 rfl rfl)
theorem dX0_least_68 : decode cX0_least 68 = .ok (.iconst 0, 1) := dk_3 (dk_at dksX0_least_2 22 rfl rfl)
theorem dX0_least_69 : decode cX0_least 69 = .ok (.iaload, 1) := dk_46 (dk_at dksX0_least_2 23 rfl rfl)
theorem dX0_least_70 : decode cX0_least 70 = .ok (.invokevirtual 472, 3) := dk_182 1 216 (dk_at dksX0_least_3 0 rfl rfl)
theorem dX0_least_73 : decode cX0_least 73 = .ok (.ireturn, 1) := dk_172 (dk_at dksX0_least_3 3 rfl rfl)
abbrev cX0_findFits : ByteArray := prog_1_method_74_code
def yX0_findFits : MethodName := ⟨RX0, "findFits", "()V"⟩
def dkwX0_findFits_3 : List UInt8 := [167, 0, 4, 3, 84, 132, 1, 1, 167, 255, 180, 177]
abbrev dktX0_findFits_3 : List UInt8 := dkwX0_findFits_3 ++ []
def dkwX0_findFits_2 : List UInt8 := [61, 132, 3, 1, 167, 255, 220, 42, 180, 0, 96, 27, 28, 42, 180, 0, 46, 180, 1, 168, 163, 0, 7, 4]
abbrev dktX0_findFits_2 : List UInt8 := dkwX0_findFits_2 ++ dktX0_findFits_3
def dkwX0_findFits_1 : List UInt8 := [162, 0, 31, 28, 27, 29, 122, 4, 126, 4, 160, 0, 12, 42, 180, 0, 87, 29, 46, 167, 0, 4, 3, 96]
abbrev dktX0_findFits_1 : List UInt8 := dkwX0_findFits_1 ++ dktX0_findFits_2
def dkwX0_findFits_0 : List UInt8 := [3, 60, 27, 42, 182, 1, 200, 162, 0, 74, 3, 61, 3, 62, 29, 42, 180, 0, 46, 180, 0, 133]
abbrev dktX0_findFits_0 : List UInt8 := dkwX0_findFits_0 ++ dktX0_findFits_1
theorem dksX0_findFits_0 : cX0_findFits.data.toList.drop 0 = dktX0_findFits_0 := by decide +kernel
theorem dksX0_findFits_1 : cX0_findFits.data.toList.drop 22 = dktX0_findFits_1 := dk_seg dksX0_findFits_0 22 rfl rfl
theorem dksX0_findFits_2 : cX0_findFits.data.toList.drop 46 = dktX0_findFits_2 := dk_seg dksX0_findFits_1 24 rfl rfl
theorem dksX0_findFits_3 : cX0_findFits.data.toList.drop 70 = dktX0_findFits_3 := dk_seg dksX0_findFits_2 24 rfl rfl
theorem dX0_findFits_0 : decode cX0_findFits 0 = .ok (.iconst 0, 1) := dk_3 (dk_at dksX0_findFits_0 0 rfl rfl)
theorem dX0_findFits_1 : decode cX0_findFits 1 = .ok (.istore_n 1, 1) := dk_60 (dk_at dksX0_findFits_0 1 rfl rfl)
theorem dX0_findFits_2 : decode cX0_findFits 2 = .ok (.iload_n 1, 1) := dk_27 (dk_at dksX0_findFits_0 2 rfl rfl)
theorem dX0_findFits_3 : decode cX0_findFits 3 = .ok (.aload_n 0, 1) := dk_42 (dk_at dksX0_findFits_0 3 rfl rfl)
theorem dX0_findFits_4 : decode cX0_findFits 4 = .ok (.invokevirtual 456, 3) := dk_182 1 200 (dk_at dksX0_findFits_0 4 rfl rfl)
theorem dX0_findFits_7 : decode cX0_findFits 7 = .ok (.if_icmp .ge 74, 3) := dk_162 0 74 (dk_at dksX0_findFits_0 7 rfl rfl)
theorem dX0_findFits_10 : decode cX0_findFits 10 = .ok (.iconst 0, 1) := dk_3 (dk_at dksX0_findFits_0 10 rfl rfl)
theorem dX0_findFits_11 : decode cX0_findFits 11 = .ok (.istore_n 2, 1) := dk_61 (dk_at dksX0_findFits_0 11 rfl rfl)
theorem dX0_findFits_12 : decode cX0_findFits 12 = .ok (.iconst 0, 1) := dk_3 (dk_at dksX0_findFits_0 12 rfl rfl)
theorem dX0_findFits_13 : decode cX0_findFits 13 = .ok (.istore_n 3, 1) := dk_62 (dk_at dksX0_findFits_0 13 rfl rfl)
theorem dX0_findFits_14 : decode cX0_findFits 14 = .ok (.iload_n 3, 1) := dk_29 (dk_at dksX0_findFits_0 14 rfl rfl)
theorem dX0_findFits_15 : decode cX0_findFits 15 = .ok (.aload_n 0, 1) := dk_42 (dk_at dksX0_findFits_0 15 rfl rfl)
theorem dX0_findFits_16 : decode cX0_findFits 16 = .ok (.getfield 46, 3) := dk_180 0 46 (dk_at dksX0_findFits_0 16 rfl rfl)
theorem dX0_findFits_19 : decode cX0_findFits 19 = .ok (.getfield 133, 3) := dk_180 0 133 (dk_at dksX0_findFits_0 19 rfl rfl)
theorem dX0_findFits_22 : decode cX0_findFits 22 = .ok (.if_icmp .ge 31, 3) := dk_162 0 31 (dk_at dksX0_findFits_1 0 rfl rfl)
theorem dX0_findFits_25 : decode cX0_findFits 25 = .ok (.iload_n 2, 1) := dk_28 (dk_at dksX0_findFits_1 3 rfl rfl)
theorem dX0_findFits_26 : decode cX0_findFits 26 = .ok (.iload_n 1, 1) := dk_27 (dk_at dksX0_findFits_1 4 rfl rfl)
theorem dX0_findFits_27 : decode cX0_findFits 27 = .ok (.iload_n 3, 1) := dk_29 (dk_at dksX0_findFits_1 5 rfl rfl)
theorem dX0_findFits_28 : decode cX0_findFits 28 = .ok (.ishr, 1) := dk_122 (dk_at dksX0_findFits_1 6 rfl rfl)
theorem dX0_findFits_29 : decode cX0_findFits 29 = .ok (.iconst 1, 1) := dk_4 (dk_at dksX0_findFits_1 7 rfl rfl)
theorem dX0_findFits_30 : decode cX0_findFits 30 = .ok (.iand, 1) := dk_126 (dk_at dksX0_findFits_1 8 rfl rfl)
theorem dX0_findFits_31 : decode cX0_findFits 31 = .ok (.iconst 1, 1) := dk_4 (dk_at dksX0_findFits_1 9 rfl rfl)
theorem dX0_findFits_32 : decode cX0_findFits 32 = .ok (.if_icmp .ne 12, 3) := dk_160 0 12 (dk_at dksX0_findFits_1 10 rfl rfl)
theorem dX0_findFits_35 : decode cX0_findFits 35 = .ok (.aload_n 0, 1) := dk_42 (dk_at dksX0_findFits_1 13 rfl rfl)
theorem dX0_findFits_36 : decode cX0_findFits 36 = .ok (.getfield 87, 3) := dk_180 0 87 (dk_at dksX0_findFits_1 14 rfl rfl)
theorem dX0_findFits_39 : decode cX0_findFits 39 = .ok (.iload_n 3, 1) := dk_29 (dk_at dksX0_findFits_1 17 rfl rfl)
theorem dX0_findFits_40 : decode cX0_findFits 40 = .ok (.iaload, 1) := dk_46 (dk_at dksX0_findFits_1 18 rfl rfl)
theorem dX0_findFits_41 : decode cX0_findFits 41 = .ok (.goto 4, 3) := dk_167 0 4 (dk_at dksX0_findFits_1 19 rfl rfl)
theorem dX0_findFits_44 : decode cX0_findFits 44 = .ok (.iconst 0, 1) := dk_3 (dk_at dksX0_findFits_1 22 rfl rfl)
theorem dX0_findFits_45 : decode cX0_findFits 45 = .ok (.iadd, 1) := dk_96 (dk_at dksX0_findFits_1 23 rfl rfl)
theorem dX0_findFits_46 : decode cX0_findFits 46 = .ok (.istore_n 2, 1) := dk_61 (dk_at dksX0_findFits_2 0 rfl rfl)
theorem dX0_findFits_47 : decode cX0_findFits 47 = .ok (.iinc 3 1, 3) := dk_132 3 1 (dk_at dksX0_findFits_2 1 rfl rfl)
theorem dX0_findFits_50 : decode cX0_findFits 50 = .ok (.goto (-36), 3) := dk_167 255 220 (dk_at dksX0_findFits_2 4 rfl rfl)
theorem dX0_findFits_53 : decode cX0_findFits 53 = .ok (.aload_n 0, 1) := dk_42 (dk_at dksX0_findFits_2 7 rfl rfl)
theorem dX0_findFits_54 : decode cX0_findFits 54 = .ok (.getfield 96, 3) := dk_180 0 96 (dk_at dksX0_findFits_2 8 rfl rfl)
theorem dX0_findFits_57 : decode cX0_findFits 57 = .ok (.iload_n 1, 1) := dk_27 (dk_at dksX0_findFits_2 11 rfl rfl)
theorem dX0_findFits_58 : decode cX0_findFits 58 = .ok (.iload_n 2, 1) := dk_28 (dk_at dksX0_findFits_2 12 rfl rfl)
theorem dX0_findFits_59 : decode cX0_findFits 59 = .ok (.aload_n 0, 1) := dk_42 (dk_at dksX0_findFits_2 13 rfl rfl)
theorem dX0_findFits_60 : decode cX0_findFits 60 = .ok (.getfield 46, 3) := dk_180 0 46 (dk_at dksX0_findFits_2 14 rfl rfl)
theorem dX0_findFits_63 : decode cX0_findFits 63 = .ok (.getfield 424, 3) := dk_180 1 168 (dk_at dksX0_findFits_2 17 rfl rfl)
theorem dX0_findFits_66 : decode cX0_findFits 66 = .ok (.if_icmp .gt 7, 3) := dk_163 0 7 (dk_at dksX0_findFits_2 20 rfl rfl)
theorem dX0_findFits_69 : decode cX0_findFits 69 = .ok (.iconst 1, 1) := dk_4 (dk_at dksX0_findFits_2 23 rfl rfl)
theorem dX0_findFits_70 : decode cX0_findFits 70 = .ok (.goto 4, 3) := dk_167 0 4 (dk_at dksX0_findFits_3 0 rfl rfl)
theorem dX0_findFits_73 : decode cX0_findFits 73 = .ok (.iconst 0, 1) := dk_3 (dk_at dksX0_findFits_3 3 rfl rfl)
theorem dX0_findFits_74 : decode cX0_findFits 74 = .ok (.bastore, 1) := dk_84 (dk_at dksX0_findFits_3 4 rfl rfl)
theorem dX0_findFits_75 : decode cX0_findFits 75 = .ok (.iinc 1 1, 3) := dk_132 1 1 (dk_at dksX0_findFits_3 5 rfl rfl)
theorem dX0_findFits_78 : decode cX0_findFits 78 = .ok (.goto (-76), 3) := dk_167 255 180 (dk_at dksX0_findFits_3 8 rfl rfl)
theorem dX0_findFits_81 : decode cX0_findFits 81 = .ok (.return_, 1) := dk_177 (dk_at dksX0_findFits_3 11 rfl rfl)
abbrev cX0_sets : ByteArray := prog_1_method_73_code
def yX0_sets : MethodName := ⟨RX0, "sets", "()I"⟩
def dkwX0_sets_0 : List UInt8 := [4, 42, 180, 0, 46, 180, 0, 133, 120, 172]
abbrev dktX0_sets_0 : List UInt8 := dkwX0_sets_0 ++ []
theorem dksX0_sets_0 : cX0_sets.data.toList.drop 0 = dktX0_sets_0 := by decide +kernel
theorem dX0_sets_0 : decode cX0_sets 0 = .ok (.iconst 1, 1) := dk_4 (dk_at dksX0_sets_0 0 rfl rfl)
theorem dX0_sets_1 : decode cX0_sets 1 = .ok (.aload_n 0, 1) := dk_42 (dk_at dksX0_sets_0 1 rfl rfl)
theorem dX0_sets_2 : decode cX0_sets 2 = .ok (.getfield 46, 3) := dk_180 0 46 (dk_at dksX0_sets_0 2 rfl rfl)
theorem dX0_sets_5 : decode cX0_sets 5 = .ok (.getfield 133, 3) := dk_180 0 133 (dk_at dksX0_sets_0 5 rfl rfl)
theorem dX0_sets_8 : decode cX0_sets 8 = .ok (.ishl, 1) := dk_120 (dk_at dksX0_sets_0 8 rfl rfl)
theorem dX0_sets_9 : decode cX0_sets 9 = .ok (.ireturn, 1) := dk_172 (dk_at dksX0_sets_0 9 rfl rfl)
abbrev cX0_leastOf : ByteArray := prog_1_method_77_code
def yX0_leastOf : MethodName := ⟨RX0, "leastOf", "([II)I"⟩
def dkwX0_leastOf_5 : List UInt8 := [42, 180, 0, 103, 42, 180, 0, 46, 180, 0, 63, 180, 1, 101, 4, 43, 3, 46, 120, 128, 46, 96, 172]
abbrev dktX0_leastOf_5 : List UInt8 := dkwX0_leastOf_5 ++ []
def dkwX0_leastOf_4 : List UInt8 := [167, 255, 197, 42, 182, 1, 204, 42, 43, 3, 46, 42, 180, 0, 46, 180, 0, 63, 180, 1, 101, 182, 1, 207]
abbrev dktX0_leastOf_4 : List UInt8 := dkwX0_leastOf_4 ++ dktX0_leastOf_5
def dkwX0_leastOf_3 : List UInt8 := [180, 0, 103, 21, 4, 4, 43, 29, 46, 120, 128, 46, 96, 79, 132, 4, 1, 167, 255, 214, 132, 3, 255]
abbrev dktX0_leastOf_3 : List UInt8 := dkwX0_leastOf_3 ++ dktX0_leastOf_4
def dkwX0_leastOf_2 : List UInt8 := [182, 1, 200, 162, 0, 39, 42, 180, 0, 100, 21, 4, 42, 43, 29, 46, 21, 4, 182, 1, 207, 42]
abbrev dktX0_leastOf_2 : List UInt8 := dkwX0_leastOf_2 ++ dktX0_leastOf_3
def dkwX0_leastOf_1 : List UInt8 := [132, 3, 1, 167, 255, 238, 28, 4, 100, 62, 29, 158, 0, 61, 42, 182, 1, 204, 3, 54, 4, 21, 4, 42]
abbrev dktX0_leastOf_1 : List UInt8 := dkwX0_leastOf_1 ++ dktX0_leastOf_2
def dkwX0_leastOf_0 : List UInt8 := [28, 154, 0, 5, 3, 172, 3, 62, 29, 42, 182, 1, 200, 162, 0, 16, 42, 180, 0, 100, 29, 3, 79]
abbrev dktX0_leastOf_0 : List UInt8 := dkwX0_leastOf_0 ++ dktX0_leastOf_1
theorem dksX0_leastOf_0 : cX0_leastOf.data.toList.drop 0 = dktX0_leastOf_0 := by decide +kernel
theorem dksX0_leastOf_1 : cX0_leastOf.data.toList.drop 23 = dktX0_leastOf_1 := dk_seg dksX0_leastOf_0 23 rfl rfl
theorem dksX0_leastOf_2 : cX0_leastOf.data.toList.drop 47 = dktX0_leastOf_2 := dk_seg dksX0_leastOf_1 24 rfl rfl
theorem dksX0_leastOf_3 : cX0_leastOf.data.toList.drop 69 = dktX0_leastOf_3 := dk_seg dksX0_leastOf_2 22 rfl rfl
theorem dksX0_leastOf_4 : cX0_leastOf.data.toList.drop 92 = dktX0_leastOf_4 := dk_seg dksX0_leastOf_3 23 rfl rfl
theorem dksX0_leastOf_5 : cX0_leastOf.data.toList.drop 116 = dktX0_leastOf_5 := dk_seg dksX0_leastOf_4 24 rfl rfl
theorem dX0_leastOf_0 : decode cX0_leastOf 0 = .ok (.iload_n 2, 1) := dk_28 (dk_at dksX0_leastOf_0 0 rfl rfl)
theorem dX0_leastOf_1 : decode cX0_leastOf 1 = .ok (.ifCond .ne 5, 3) := dk_154 0 5 (dk_at dksX0_leastOf_0 1 rfl rfl)
theorem dX0_leastOf_4 : decode cX0_leastOf 4 = .ok (.iconst 0, 1) := dk_3 (dk_at dksX0_leastOf_0 4 rfl rfl)
theorem dX0_leastOf_5 : decode cX0_leastOf 5 = .ok (.ireturn, 1) := dk_172 (dk_at dksX0_leastOf_0 5 rfl rfl)
theorem dX0_leastOf_6 : decode cX0_leastOf 6 = .ok (.iconst 0, 1) := dk_3 (dk_at dksX0_leastOf_0 6 rfl rfl)
theorem dX0_leastOf_7 : decode cX0_leastOf 7 = .ok (.istore_n 3, 1) := dk_62 (dk_at dksX0_leastOf_0 7 rfl rfl)
theorem dX0_leastOf_8 : decode cX0_leastOf 8 = .ok (.iload_n 3, 1) := dk_29 (dk_at dksX0_leastOf_0 8 rfl rfl)
theorem dX0_leastOf_9 : decode cX0_leastOf 9 = .ok (.aload_n 0, 1) := dk_42 (dk_at dksX0_leastOf_0 9 rfl rfl)
theorem dX0_leastOf_10 : decode cX0_leastOf 10 = .ok (.invokevirtual 456, 3) := dk_182 1 200 (dk_at dksX0_leastOf_0 10 rfl rfl)
theorem dX0_leastOf_13 : decode cX0_leastOf 13 = .ok (.if_icmp .ge 16, 3) := dk_162 0 16 (dk_at dksX0_leastOf_0 13 rfl rfl)
theorem dX0_leastOf_16 : decode cX0_leastOf 16 = .ok (.aload_n 0, 1) := dk_42 (dk_at dksX0_leastOf_0 16 rfl rfl)
theorem dX0_leastOf_17 : decode cX0_leastOf 17 = .ok (.getfield 100, 3) := dk_180 0 100 (dk_at dksX0_leastOf_0 17 rfl rfl)
theorem dX0_leastOf_20 : decode cX0_leastOf 20 = .ok (.iload_n 3, 1) := dk_29 (dk_at dksX0_leastOf_0 20 rfl rfl)
theorem dX0_leastOf_21 : decode cX0_leastOf 21 = .ok (.iconst 0, 1) := dk_3 (dk_at dksX0_leastOf_0 21 rfl rfl)
theorem dX0_leastOf_22 : decode cX0_leastOf 22 = .ok (.iastore, 1) := dk_79 (dk_at dksX0_leastOf_0 22 rfl rfl)
theorem dX0_leastOf_23 : decode cX0_leastOf 23 = .ok (.iinc 3 1, 3) := dk_132 3 1 (dk_at dksX0_leastOf_1 0 rfl rfl)
theorem dX0_leastOf_26 : decode cX0_leastOf 26 = .ok (.goto (-18), 3) := dk_167 255 238 (dk_at dksX0_leastOf_1 3 rfl rfl)
theorem dX0_leastOf_29 : decode cX0_leastOf 29 = .ok (.iload_n 2, 1) := dk_28 (dk_at dksX0_leastOf_1 6 rfl rfl)
theorem dX0_leastOf_30 : decode cX0_leastOf 30 = .ok (.iconst 1, 1) := dk_4 (dk_at dksX0_leastOf_1 7 rfl rfl)
theorem dX0_leastOf_31 : decode cX0_leastOf 31 = .ok (.isub, 1) := dk_100 (dk_at dksX0_leastOf_1 8 rfl rfl)
theorem dX0_leastOf_32 : decode cX0_leastOf 32 = .ok (.istore_n 3, 1) := dk_62 (dk_at dksX0_leastOf_1 9 rfl rfl)
theorem dX0_leastOf_33 : decode cX0_leastOf 33 = .ok (.iload_n 3, 1) := dk_29 (dk_at dksX0_leastOf_1 10 rfl rfl)
theorem dX0_leastOf_34 : decode cX0_leastOf 34 = .ok (.ifCond .le 61, 3) := dk_158 0 61 (dk_at dksX0_leastOf_1 11 rfl rfl)
theorem dX0_leastOf_37 : decode cX0_leastOf 37 = .ok (.aload_n 0, 1) := dk_42 (dk_at dksX0_leastOf_1 14 rfl rfl)
theorem dX0_leastOf_38 : decode cX0_leastOf 38 = .ok (.invokevirtual 460, 3) := dk_182 1 204 (dk_at dksX0_leastOf_1 15 rfl rfl)
theorem dX0_leastOf_41 : decode cX0_leastOf 41 = .ok (.iconst 0, 1) := dk_3 (dk_at dksX0_leastOf_1 18 rfl rfl)
theorem dX0_leastOf_42 : decode cX0_leastOf 42 = .ok (.istore 4, 2) := dk_54 4 (dk_at dksX0_leastOf_1 19 rfl rfl)
theorem dX0_leastOf_44 : decode cX0_leastOf 44 = .ok (.iload 4, 2) := dk_21 4 (dk_at dksX0_leastOf_1 21 rfl rfl)
theorem dX0_leastOf_46 : decode cX0_leastOf 46 = .ok (.aload_n 0, 1) := dk_42 (dk_at dksX0_leastOf_1 23 rfl rfl)
theorem dX0_leastOf_47 : decode cX0_leastOf 47 = .ok (.invokevirtual 456, 3) := dk_182 1 200 (dk_at dksX0_leastOf_2 0 rfl rfl)
theorem dX0_leastOf_50 : decode cX0_leastOf 50 = .ok (.if_icmp .ge 39, 3) := dk_162 0 39 (dk_at dksX0_leastOf_2 3 rfl rfl)
theorem dX0_leastOf_53 : decode cX0_leastOf 53 = .ok (.aload_n 0, 1) := dk_42 (dk_at dksX0_leastOf_2 6 rfl rfl)
theorem dX0_leastOf_54 : decode cX0_leastOf 54 = .ok (.getfield 100, 3) := dk_180 0 100 (dk_at dksX0_leastOf_2 7 rfl rfl)
theorem dX0_leastOf_57 : decode cX0_leastOf 57 = .ok (.iload 4, 2) := dk_21 4 (dk_at dksX0_leastOf_2 10 rfl rfl)
theorem dX0_leastOf_59 : decode cX0_leastOf 59 = .ok (.aload_n 0, 1) := dk_42 (dk_at dksX0_leastOf_2 12 rfl rfl)
theorem dX0_leastOf_60 : decode cX0_leastOf 60 = .ok (.aload_n 1, 1) := dk_43 (dk_at dksX0_leastOf_2 13 rfl rfl)
theorem dX0_leastOf_61 : decode cX0_leastOf 61 = .ok (.iload_n 3, 1) := dk_29 (dk_at dksX0_leastOf_2 14 rfl rfl)
theorem dX0_leastOf_62 : decode cX0_leastOf 62 = .ok (.iaload, 1) := dk_46 (dk_at dksX0_leastOf_2 15 rfl rfl)
theorem dX0_leastOf_63 : decode cX0_leastOf 63 = .ok (.iload 4, 2) := dk_21 4 (dk_at dksX0_leastOf_2 16 rfl rfl)
theorem dX0_leastOf_65 : decode cX0_leastOf 65 = .ok (.invokevirtual 463, 3) := dk_182 1 207 (dk_at dksX0_leastOf_2 18 rfl rfl)
theorem dX0_leastOf_68 : decode cX0_leastOf 68 = .ok (.aload_n 0, 1) := dk_42 (dk_at dksX0_leastOf_2 21 rfl rfl)
theorem dX0_leastOf_69 : decode cX0_leastOf 69 = .ok (.getfield 103, 3) := dk_180 0 103 (dk_at dksX0_leastOf_3 0 rfl rfl)
theorem dX0_leastOf_72 : decode cX0_leastOf 72 = .ok (.iload 4, 2) := dk_21 4 (dk_at dksX0_leastOf_3 3 rfl rfl)
theorem dX0_leastOf_74 : decode cX0_leastOf 74 = .ok (.iconst 1, 1) := dk_4 (dk_at dksX0_leastOf_3 5 rfl rfl)
theorem dX0_leastOf_75 : decode cX0_leastOf 75 = .ok (.aload_n 1, 1) := dk_43 (dk_at dksX0_leastOf_3 6 rfl rfl)
theorem dX0_leastOf_76 : decode cX0_leastOf 76 = .ok (.iload_n 3, 1) := dk_29 (dk_at dksX0_leastOf_3 7 rfl rfl)
theorem dX0_leastOf_77 : decode cX0_leastOf 77 = .ok (.iaload, 1) := dk_46 (dk_at dksX0_leastOf_3 8 rfl rfl)
theorem dX0_leastOf_78 : decode cX0_leastOf 78 = .ok (.ishl, 1) := dk_120 (dk_at dksX0_leastOf_3 9 rfl rfl)
theorem dX0_leastOf_79 : decode cX0_leastOf 79 = .ok (.ior, 1) := dk_128 (dk_at dksX0_leastOf_3 10 rfl rfl)
theorem dX0_leastOf_80 : decode cX0_leastOf 80 = .ok (.iaload, 1) := dk_46 (dk_at dksX0_leastOf_3 11 rfl rfl)
theorem dX0_leastOf_81 : decode cX0_leastOf 81 = .ok (.iadd, 1) := dk_96 (dk_at dksX0_leastOf_3 12 rfl rfl)
theorem dX0_leastOf_82 : decode cX0_leastOf 82 = .ok (.iastore, 1) := dk_79 (dk_at dksX0_leastOf_3 13 rfl rfl)
theorem dX0_leastOf_83 : decode cX0_leastOf 83 = .ok (.iinc 4 1, 3) := dk_132 4 1 (dk_at dksX0_leastOf_3 14 rfl rfl)
theorem dX0_leastOf_86 : decode cX0_leastOf 86 = .ok (.goto (-42), 3) := dk_167 255 214 (dk_at dksX0_leastOf_3 17 rfl rfl)
theorem dX0_leastOf_89 : decode cX0_leastOf 89 = .ok (.iinc 3 (-1), 3) := dk_132 3 255 (dk_at dksX0_leastOf_3 20 rfl rfl)
theorem dX0_leastOf_92 : decode cX0_leastOf 92 = .ok (.goto (-59), 3) := dk_167 255 197 (dk_at dksX0_leastOf_4 0 rfl rfl)
theorem dX0_leastOf_95 : decode cX0_leastOf 95 = .ok (.aload_n 0, 1) := dk_42 (dk_at dksX0_leastOf_4 3 rfl rfl)
theorem dX0_leastOf_96 : decode cX0_leastOf 96 = .ok (.invokevirtual 460, 3) := dk_182 1 204 (dk_at dksX0_leastOf_4 4 rfl rfl)
theorem dX0_leastOf_99 : decode cX0_leastOf 99 = .ok (.aload_n 0, 1) := dk_42 (dk_at dksX0_leastOf_4 7 rfl rfl)
theorem dX0_leastOf_100 : decode cX0_leastOf 100 = .ok (.aload_n 1, 1) := dk_43 (dk_at dksX0_leastOf_4 8 rfl rfl)
theorem dX0_leastOf_101 : decode cX0_leastOf 101 = .ok (.iconst 0, 1) := dk_3 (dk_at dksX0_leastOf_4 9 rfl rfl)
theorem dX0_leastOf_102 : decode cX0_leastOf 102 = .ok (.iaload, 1) := dk_46 (dk_at dksX0_leastOf_4 10 rfl rfl)
theorem dX0_leastOf_103 : decode cX0_leastOf 103 = .ok (.aload_n 0, 1) := dk_42 (dk_at dksX0_leastOf_4 11 rfl rfl)
theorem dX0_leastOf_104 : decode cX0_leastOf 104 = .ok (.getfield 46, 3) := dk_180 0 46 (dk_at dksX0_leastOf_4 12 rfl rfl)
theorem dX0_leastOf_107 : decode cX0_leastOf 107 = .ok (.getfield 63, 3) := dk_180 0 63 (dk_at dksX0_leastOf_4 15 rfl rfl)
theorem dX0_leastOf_110 : decode cX0_leastOf 110 = .ok (.getfield 357, 3) := dk_180 1 101 (dk_at dksX0_leastOf_4 18 rfl rfl)
theorem dX0_leastOf_113 : decode cX0_leastOf 113 = .ok (.invokevirtual 463, 3) := dk_182 1 207 (dk_at dksX0_leastOf_4 21 rfl rfl)
theorem dX0_leastOf_116 : decode cX0_leastOf 116 = .ok (.aload_n 0, 1) := dk_42 (dk_at dksX0_leastOf_5 0 rfl rfl)
theorem dX0_leastOf_117 : decode cX0_leastOf 117 = .ok (.getfield 103, 3) := dk_180 0 103 (dk_at dksX0_leastOf_5 1 rfl rfl)
theorem dX0_leastOf_120 : decode cX0_leastOf 120 = .ok (.aload_n 0, 1) := dk_42 (dk_at dksX0_leastOf_5 4 rfl rfl)
theorem dX0_leastOf_121 : decode cX0_leastOf 121 = .ok (.getfield 46, 3) := dk_180 0 46 (dk_at dksX0_leastOf_5 5 rfl rfl)
theorem dX0_leastOf_124 : decode cX0_leastOf 124 = .ok (.getfield 63, 3) := dk_180 0 63 (dk_at dksX0_leastOf_5 8 rfl rfl)
theorem dX0_leastOf_127 : decode cX0_leastOf 127 = .ok (.getfield 357, 3) := dk_180 1 101 (dk_at dksX0_leastOf_5 11 rfl rfl)
theorem dX0_leastOf_130 : decode cX0_leastOf 130 = .ok (.iconst 1, 1) := dk_4 (dk_at dksX0_leastOf_5 14 rfl rfl)
theorem dX0_leastOf_131 : decode cX0_leastOf 131 = .ok (.aload_n 1, 1) := dk_43 (dk_at dksX0_leastOf_5 15 rfl rfl)
theorem dX0_leastOf_132 : decode cX0_leastOf 132 = .ok (.iconst 0, 1) := dk_3 (dk_at dksX0_leastOf_5 16 rfl rfl)
theorem dX0_leastOf_133 : decode cX0_leastOf 133 = .ok (.iaload, 1) := dk_46 (dk_at dksX0_leastOf_5 17 rfl rfl)
theorem dX0_leastOf_134 : decode cX0_leastOf 134 = .ok (.ishl, 1) := dk_120 (dk_at dksX0_leastOf_5 18 rfl rfl)
theorem dX0_leastOf_135 : decode cX0_leastOf 135 = .ok (.ior, 1) := dk_128 (dk_at dksX0_leastOf_5 19 rfl rfl)
theorem dX0_leastOf_136 : decode cX0_leastOf 136 = .ok (.iaload, 1) := dk_46 (dk_at dksX0_leastOf_5 20 rfl rfl)
theorem dX0_leastOf_137 : decode cX0_leastOf 137 = .ok (.iadd, 1) := dk_96 (dk_at dksX0_leastOf_5 21 rfl rfl)
theorem dX0_leastOf_138 : decode cX0_leastOf 138 = .ok (.ireturn, 1) := dk_172 (dk_at dksX0_leastOf_5 22 rfl rfl)
abbrev cX0_findInside : ByteArray := prog_1_method_75_code
def yX0_findInside : MethodName := ⟨RX0, "findInside", "()V"⟩
def dkwX0_findInside_4 : List UInt8 := [130, 126, 46, 184, 0, 4, 79, 132, 2, 1, 167, 255, 209, 132, 1, 1, 167, 255, 190, 177]
abbrev dktX0_findInside_4 : List UInt8 := dkwX0_findInside_4 ++ []
def dkwX0_findInside_3 : List UInt8 := [4, 160, 0, 30, 42, 180, 0, 103, 28, 42, 180, 0, 103, 28, 46, 42, 180, 0, 103, 28, 4, 27, 120, 2]
abbrev dktX0_findInside_3 : List UInt8 := dkwX0_findInside_3 ++ dktX0_findInside_4
def dkwX0_findInside_2 : List UInt8 := [180, 0, 46, 180, 0, 133, 162, 0, 61, 3, 61, 28, 42, 182, 1, 200, 162, 0, 45, 28, 27, 122, 4, 126]
abbrev dktX0_findInside_2 : List UInt8 := dkwX0_findInside_2 ++ dktX0_findInside_3
def dkwX0_findInside_1 : List UInt8 := [42, 180, 0, 100, 27, 46, 167, 0, 6, 19, 1, 203, 79, 132, 1, 1, 167, 255, 218, 3, 60, 27, 42]
abbrev dktX0_findInside_1 : List UInt8 := dkwX0_findInside_1 ++ dktX0_findInside_2
def dkwX0_findInside_0 : List UInt8 := [3, 60, 27, 42, 182, 1, 200, 162, 0, 36, 42, 180, 0, 103, 27, 42, 180, 0, 96, 27, 51, 153, 0, 12]
abbrev dktX0_findInside_0 : List UInt8 := dkwX0_findInside_0 ++ dktX0_findInside_1
theorem dksX0_findInside_0 : cX0_findInside.data.toList.drop 0 = dktX0_findInside_0 := by decide +kernel
theorem dksX0_findInside_1 : cX0_findInside.data.toList.drop 24 = dktX0_findInside_1 := dk_seg dksX0_findInside_0 24 rfl rfl
theorem dksX0_findInside_2 : cX0_findInside.data.toList.drop 47 = dktX0_findInside_2 := dk_seg dksX0_findInside_1 23 rfl rfl
theorem dksX0_findInside_3 : cX0_findInside.data.toList.drop 71 = dktX0_findInside_3 := dk_seg dksX0_findInside_2 24 rfl rfl
theorem dksX0_findInside_4 : cX0_findInside.data.toList.drop 95 = dktX0_findInside_4 := dk_seg dksX0_findInside_3 24 rfl rfl
theorem dX0_findInside_0 : decode cX0_findInside 0 = .ok (.iconst 0, 1) := dk_3 (dk_at dksX0_findInside_0 0 rfl rfl)
theorem dX0_findInside_1 : decode cX0_findInside 1 = .ok (.istore_n 1, 1) := dk_60 (dk_at dksX0_findInside_0 1 rfl rfl)
theorem dX0_findInside_2 : decode cX0_findInside 2 = .ok (.iload_n 1, 1) := dk_27 (dk_at dksX0_findInside_0 2 rfl rfl)
theorem dX0_findInside_3 : decode cX0_findInside 3 = .ok (.aload_n 0, 1) := dk_42 (dk_at dksX0_findInside_0 3 rfl rfl)
theorem dX0_findInside_4 : decode cX0_findInside 4 = .ok (.invokevirtual 456, 3) := dk_182 1 200 (dk_at dksX0_findInside_0 4 rfl rfl)
theorem dX0_findInside_7 : decode cX0_findInside 7 = .ok (.if_icmp .ge 36, 3) := dk_162 0 36 (dk_at dksX0_findInside_0 7 rfl rfl)
theorem dX0_findInside_10 : decode cX0_findInside 10 = .ok (.aload_n 0, 1) := dk_42 (dk_at dksX0_findInside_0 10 rfl rfl)
theorem dX0_findInside_11 : decode cX0_findInside 11 = .ok (.getfield 103, 3) := dk_180 0 103 (dk_at dksX0_findInside_0 11 rfl rfl)
theorem dX0_findInside_14 : decode cX0_findInside 14 = .ok (.iload_n 1, 1) := dk_27 (dk_at dksX0_findInside_0 14 rfl rfl)
theorem dX0_findInside_15 : decode cX0_findInside 15 = .ok (.aload_n 0, 1) := dk_42 (dk_at dksX0_findInside_0 15 rfl rfl)
theorem dX0_findInside_16 : decode cX0_findInside 16 = .ok (.getfield 96, 3) := dk_180 0 96 (dk_at dksX0_findInside_0 16 rfl rfl)
theorem dX0_findInside_19 : decode cX0_findInside 19 = .ok (.iload_n 1, 1) := dk_27 (dk_at dksX0_findInside_0 19 rfl rfl)
theorem dX0_findInside_20 : decode cX0_findInside 20 = .ok (.baload, 1) := dk_51 (dk_at dksX0_findInside_0 20 rfl rfl)
theorem dX0_findInside_21 : decode cX0_findInside 21 = .ok (.ifCond .eq 12, 3) := dk_153 0 12 (dk_at dksX0_findInside_0 21 rfl rfl)
theorem dX0_findInside_24 : decode cX0_findInside 24 = .ok (.aload_n 0, 1) := dk_42 (dk_at dksX0_findInside_1 0 rfl rfl)
theorem dX0_findInside_25 : decode cX0_findInside 25 = .ok (.getfield 100, 3) := dk_180 0 100 (dk_at dksX0_findInside_1 1 rfl rfl)
theorem dX0_findInside_28 : decode cX0_findInside 28 = .ok (.iload_n 1, 1) := dk_27 (dk_at dksX0_findInside_1 4 rfl rfl)
theorem dX0_findInside_29 : decode cX0_findInside 29 = .ok (.iaload, 1) := dk_46 (dk_at dksX0_findInside_1 5 rfl rfl)
theorem dX0_findInside_30 : decode cX0_findInside 30 = .ok (.goto 6, 3) := dk_167 0 6 (dk_at dksX0_findInside_1 6 rfl rfl)
theorem dX0_findInside_33 : decode cX0_findInside 33 = .ok (.ldc_w 459, 3) := dk_19 1 203 (dk_at dksX0_findInside_1 9 rfl rfl)
theorem dX0_findInside_36 : decode cX0_findInside 36 = .ok (.iastore, 1) := dk_79 (dk_at dksX0_findInside_1 12 rfl rfl)
theorem dX0_findInside_37 : decode cX0_findInside 37 = .ok (.iinc 1 1, 3) := dk_132 1 1 (dk_at dksX0_findInside_1 13 rfl rfl)
theorem dX0_findInside_40 : decode cX0_findInside 40 = .ok (.goto (-38), 3) := dk_167 255 218 (dk_at dksX0_findInside_1 16 rfl rfl)
theorem dX0_findInside_43 : decode cX0_findInside 43 = .ok (.iconst 0, 1) := dk_3 (dk_at dksX0_findInside_1 19 rfl rfl)
theorem dX0_findInside_44 : decode cX0_findInside 44 = .ok (.istore_n 1, 1) := dk_60 (dk_at dksX0_findInside_1 20 rfl rfl)
theorem dX0_findInside_45 : decode cX0_findInside 45 = .ok (.iload_n 1, 1) := dk_27 (dk_at dksX0_findInside_1 21 rfl rfl)
theorem dX0_findInside_46 : decode cX0_findInside 46 = .ok (.aload_n 0, 1) := dk_42 (dk_at dksX0_findInside_1 22 rfl rfl)
theorem dX0_findInside_47 : decode cX0_findInside 47 = .ok (.getfield 46, 3) := dk_180 0 46 (dk_at dksX0_findInside_2 0 rfl rfl)
theorem dX0_findInside_50 : decode cX0_findInside 50 = .ok (.getfield 133, 3) := dk_180 0 133 (dk_at dksX0_findInside_2 3 rfl rfl)
theorem dX0_findInside_53 : decode cX0_findInside 53 = .ok (.if_icmp .ge 61, 3) := dk_162 0 61 (dk_at dksX0_findInside_2 6 rfl rfl)
theorem dX0_findInside_56 : decode cX0_findInside 56 = .ok (.iconst 0, 1) := dk_3 (dk_at dksX0_findInside_2 9 rfl rfl)
theorem dX0_findInside_57 : decode cX0_findInside 57 = .ok (.istore_n 2, 1) := dk_61 (dk_at dksX0_findInside_2 10 rfl rfl)
theorem dX0_findInside_58 : decode cX0_findInside 58 = .ok (.iload_n 2, 1) := dk_28 (dk_at dksX0_findInside_2 11 rfl rfl)
theorem dX0_findInside_59 : decode cX0_findInside 59 = .ok (.aload_n 0, 1) := dk_42 (dk_at dksX0_findInside_2 12 rfl rfl)
theorem dX0_findInside_60 : decode cX0_findInside 60 = .ok (.invokevirtual 456, 3) := dk_182 1 200 (dk_at dksX0_findInside_2 13 rfl rfl)
theorem dX0_findInside_63 : decode cX0_findInside 63 = .ok (.if_icmp .ge 45, 3) := dk_162 0 45 (dk_at dksX0_findInside_2 16 rfl rfl)
theorem dX0_findInside_66 : decode cX0_findInside 66 = .ok (.iload_n 2, 1) := dk_28 (dk_at dksX0_findInside_2 19 rfl rfl)
theorem dX0_findInside_67 : decode cX0_findInside 67 = .ok (.iload_n 1, 1) := dk_27 (dk_at dksX0_findInside_2 20 rfl rfl)
theorem dX0_findInside_68 : decode cX0_findInside 68 = .ok (.ishr, 1) := dk_122 (dk_at dksX0_findInside_2 21 rfl rfl)
theorem dX0_findInside_69 : decode cX0_findInside 69 = .ok (.iconst 1, 1) := dk_4 (dk_at dksX0_findInside_2 22 rfl rfl)
theorem dX0_findInside_70 : decode cX0_findInside 70 = .ok (.iand, 1) := dk_126 (dk_at dksX0_findInside_2 23 rfl rfl)
theorem dX0_findInside_71 : decode cX0_findInside 71 = .ok (.iconst 1, 1) := dk_4 (dk_at dksX0_findInside_3 0 rfl rfl)
theorem dX0_findInside_72 : decode cX0_findInside 72 = .ok (.if_icmp .ne 30, 3) := dk_160 0 30 (dk_at dksX0_findInside_3 1 rfl rfl)
theorem dX0_findInside_75 : decode cX0_findInside 75 = .ok (.aload_n 0, 1) := dk_42 (dk_at dksX0_findInside_3 4 rfl rfl)
theorem dX0_findInside_76 : decode cX0_findInside 76 = .ok (.getfield 103, 3) := dk_180 0 103 (dk_at dksX0_findInside_3 5 rfl rfl)
theorem dX0_findInside_79 : decode cX0_findInside 79 = .ok (.iload_n 2, 1) := dk_28 (dk_at dksX0_findInside_3 8 rfl rfl)
theorem dX0_findInside_80 : decode cX0_findInside 80 = .ok (.aload_n 0, 1) := dk_42 (dk_at dksX0_findInside_3 9 rfl rfl)
theorem dX0_findInside_81 : decode cX0_findInside 81 = .ok (.getfield 103, 3) := dk_180 0 103 (dk_at dksX0_findInside_3 10 rfl rfl)
theorem dX0_findInside_84 : decode cX0_findInside 84 = .ok (.iload_n 2, 1) := dk_28 (dk_at dksX0_findInside_3 13 rfl rfl)
theorem dX0_findInside_85 : decode cX0_findInside 85 = .ok (.iaload, 1) := dk_46 (dk_at dksX0_findInside_3 14 rfl rfl)
theorem dX0_findInside_86 : decode cX0_findInside 86 = .ok (.aload_n 0, 1) := dk_42 (dk_at dksX0_findInside_3 15 rfl rfl)
theorem dX0_findInside_87 : decode cX0_findInside 87 = .ok (.getfield 103, 3) := dk_180 0 103 (dk_at dksX0_findInside_3 16 rfl rfl)
theorem dX0_findInside_90 : decode cX0_findInside 90 = .ok (.iload_n 2, 1) := dk_28 (dk_at dksX0_findInside_3 19 rfl rfl)
theorem dX0_findInside_91 : decode cX0_findInside 91 = .ok (.iconst 1, 1) := dk_4 (dk_at dksX0_findInside_3 20 rfl rfl)
theorem dX0_findInside_92 : decode cX0_findInside 92 = .ok (.iload_n 1, 1) := dk_27 (dk_at dksX0_findInside_3 21 rfl rfl)
theorem dX0_findInside_93 : decode cX0_findInside 93 = .ok (.ishl, 1) := dk_120 (dk_at dksX0_findInside_3 22 rfl rfl)
theorem dX0_findInside_94 : decode cX0_findInside 94 = .ok (.iconst (-1), 1) := dk_2 (dk_at dksX0_findInside_3 23 rfl rfl)
theorem dX0_findInside_95 : decode cX0_findInside 95 = .ok (.ixor, 1) := dk_130 (dk_at dksX0_findInside_4 0 rfl rfl)
theorem dX0_findInside_96 : decode cX0_findInside 96 = .ok (.iand, 1) := dk_126 (dk_at dksX0_findInside_4 1 rfl rfl)
theorem dX0_findInside_97 : decode cX0_findInside 97 = .ok (.iaload, 1) := dk_46 (dk_at dksX0_findInside_4 2 rfl rfl)
theorem dX0_findInside_98 : decode cX0_findInside 98 = .ok (.invokestatic 4, 3) := dk_184 0 4 (dk_at dksX0_findInside_4 3 rfl rfl)
theorem dX0_findInside_101 : decode cX0_findInside 101 = .ok (.iastore, 1) := dk_79 (dk_at dksX0_findInside_4 6 rfl rfl)
theorem dX0_findInside_102 : decode cX0_findInside 102 = .ok (.iinc 2 1, 3) := dk_132 2 1 (dk_at dksX0_findInside_4 7 rfl rfl)
theorem dX0_findInside_105 : decode cX0_findInside 105 = .ok (.goto (-47), 3) := dk_167 255 209 (dk_at dksX0_findInside_4 10 rfl rfl)
theorem dX0_findInside_108 : decode cX0_findInside 108 = .ok (.iinc 1 1, 3) := dk_132 1 1 (dk_at dksX0_findInside_4 13 rfl rfl)
theorem dX0_findInside_111 : decode cX0_findInside 111 = .ok (.goto (-66), 3) := dk_167 255 190 (dk_at dksX0_findInside_4 16 rfl rfl)
theorem dX0_findInside_114 : decode cX0_findInside 114 = .ok (.return_, 1) := dk_177 (dk_at dksX0_findInside_4 19 rfl rfl)
abbrev cX0_missedOf : ByteArray := prog_1_method_76_code
def yX0_missedOf : MethodName := ⟨RX0, "missedOf", "(II)I"⟩
def dkwX0_missedOf_0 : List UInt8 := [42, 27, 28, 182, 1, 104, 153, 0, 7, 3, 167, 0, 9, 42, 180, 0, 90, 27, 46, 172]
abbrev dktX0_missedOf_0 : List UInt8 := dkwX0_missedOf_0 ++ []
theorem dksX0_missedOf_0 : cX0_missedOf.data.toList.drop 0 = dktX0_missedOf_0 := by decide +kernel
theorem dX0_missedOf_0 : decode cX0_missedOf 0 = .ok (.aload_n 0, 1) := dk_42 (dk_at dksX0_missedOf_0 0 rfl rfl)
theorem dX0_missedOf_1 : decode cX0_missedOf 1 = .ok (.iload_n 1, 1) := dk_27 (dk_at dksX0_missedOf_0 1 rfl rfl)
theorem dX0_missedOf_2 : decode cX0_missedOf 2 = .ok (.iload_n 2, 1) := dk_28 (dk_at dksX0_missedOf_0 2 rfl rfl)
theorem dX0_missedOf_3 : decode cX0_missedOf 3 = .ok (.invokevirtual 360, 3) := dk_182 1 104 (dk_at dksX0_missedOf_0 3 rfl rfl)
theorem dX0_missedOf_6 : decode cX0_missedOf 6 = .ok (.ifCond .eq 7, 3) := dk_153 0 7 (dk_at dksX0_missedOf_0 6 rfl rfl)
theorem dX0_missedOf_9 : decode cX0_missedOf 9 = .ok (.iconst 0, 1) := dk_3 (dk_at dksX0_missedOf_0 9 rfl rfl)
theorem dX0_missedOf_10 : decode cX0_missedOf 10 = .ok (.goto 9, 3) := dk_167 0 9 (dk_at dksX0_missedOf_0 10 rfl rfl)
theorem dX0_missedOf_13 : decode cX0_missedOf 13 = .ok (.aload_n 0, 1) := dk_42 (dk_at dksX0_missedOf_0 13 rfl rfl)
theorem dX0_missedOf_14 : decode cX0_missedOf 14 = .ok (.getfield 90, 3) := dk_180 0 90 (dk_at dksX0_missedOf_0 14 rfl rfl)
theorem dX0_missedOf_17 : decode cX0_missedOf 17 = .ok (.iload_n 1, 1) := dk_27 (dk_at dksX0_missedOf_0 17 rfl rfl)
theorem dX0_missedOf_18 : decode cX0_missedOf 18 = .ok (.iaload, 1) := dk_46 (dk_at dksX0_missedOf_0 18 rfl rfl)
theorem dX0_missedOf_19 : decode cX0_missedOf 19 = .ok (.ireturn, 1) := dk_172 (dk_at dksX0_missedOf_0 19 rfl rfl)
abbrev cX0_keptBehind : ByteArray := prog_1_method_78_code
def yX0_keptBehind : MethodName := ⟨RX0, "keptBehind", "(I)I"⟩
def dkwX0_keptBehind_2 : List UInt8 := [29, 46, 42, 180, 0, 103, 28, 46, 160, 0, 5, 29, 172, 132, 3, 1, 167, 255, 211, 3, 172]
abbrev dktX0_keptBehind_2 : List UInt8 := dkwX0_keptBehind_2 ++ []
def dkwX0_keptBehind_1 : List UInt8 := [162, 0, 43, 29, 28, 2, 130, 126, 154, 0, 29, 42, 180, 0, 96, 29, 51, 153, 0, 20, 42, 180, 0, 100]
abbrev dktX0_keptBehind_1 : List UInt8 := dkwX0_keptBehind_1 ++ dktX0_keptBehind_2
def dkwX0_keptBehind_0 : List UInt8 := [42, 180, 0, 46, 180, 0, 63, 180, 1, 101, 4, 27, 120, 128, 61, 3, 62, 29, 42, 182, 1, 200]
abbrev dktX0_keptBehind_0 : List UInt8 := dkwX0_keptBehind_0 ++ dktX0_keptBehind_1
theorem dksX0_keptBehind_0 : cX0_keptBehind.data.toList.drop 0 = dktX0_keptBehind_0 := by decide +kernel
theorem dksX0_keptBehind_1 : cX0_keptBehind.data.toList.drop 22 = dktX0_keptBehind_1 := dk_seg dksX0_keptBehind_0 22 rfl rfl
theorem dksX0_keptBehind_2 : cX0_keptBehind.data.toList.drop 46 = dktX0_keptBehind_2 := dk_seg dksX0_keptBehind_1 24 rfl rfl
theorem dX0_keptBehind_0 : decode cX0_keptBehind 0 = .ok (.aload_n 0, 1) := dk_42 (dk_at dksX0_keptBehind_0 0 rfl rfl)
theorem dX0_keptBehind_1 : decode cX0_keptBehind 1 = .ok (.getfield 46, 3) := dk_180 0 46 (dk_at dksX0_keptBehind_0 1 rfl rfl)
theorem dX0_keptBehind_4 : decode cX0_keptBehind 4 = .ok (.getfield 63, 3) := dk_180 0 63 (dk_at dksX0_keptBehind_0 4 rfl rfl)
theorem dX0_keptBehind_7 : decode cX0_keptBehind 7 = .ok (.getfield 357, 3) := dk_180 1 101 (dk_at dksX0_keptBehind_0 7 rfl rfl)
theorem dX0_keptBehind_10 : decode cX0_keptBehind 10 = .ok (.iconst 1, 1) := dk_4 (dk_at dksX0_keptBehind_0 10 rfl rfl)
theorem dX0_keptBehind_11 : decode cX0_keptBehind 11 = .ok (.iload_n 1, 1) := dk_27 (dk_at dksX0_keptBehind_0 11 rfl rfl)
theorem dX0_keptBehind_12 : decode cX0_keptBehind 12 = .ok (.ishl, 1) := dk_120 (dk_at dksX0_keptBehind_0 12 rfl rfl)
theorem dX0_keptBehind_13 : decode cX0_keptBehind 13 = .ok (.ior, 1) := dk_128 (dk_at dksX0_keptBehind_0 13 rfl rfl)
theorem dX0_keptBehind_14 : decode cX0_keptBehind 14 = .ok (.istore_n 2, 1) := dk_61 (dk_at dksX0_keptBehind_0 14 rfl rfl)
theorem dX0_keptBehind_15 : decode cX0_keptBehind 15 = .ok (.iconst 0, 1) := dk_3 (dk_at dksX0_keptBehind_0 15 rfl rfl)
theorem dX0_keptBehind_16 : decode cX0_keptBehind 16 = .ok (.istore_n 3, 1) := dk_62 (dk_at dksX0_keptBehind_0 16 rfl rfl)
theorem dX0_keptBehind_17 : decode cX0_keptBehind 17 = .ok (.iload_n 3, 1) := dk_29 (dk_at dksX0_keptBehind_0 17 rfl rfl)
theorem dX0_keptBehind_18 : decode cX0_keptBehind 18 = .ok (.aload_n 0, 1) := dk_42 (dk_at dksX0_keptBehind_0 18 rfl rfl)
theorem dX0_keptBehind_19 : decode cX0_keptBehind 19 = .ok (.invokevirtual 456, 3) := dk_182 1 200 (dk_at dksX0_keptBehind_0 19 rfl rfl)
theorem dX0_keptBehind_22 : decode cX0_keptBehind 22 = .ok (.if_icmp .ge 43, 3) := dk_162 0 43 (dk_at dksX0_keptBehind_1 0 rfl rfl)
theorem dX0_keptBehind_25 : decode cX0_keptBehind 25 = .ok (.iload_n 3, 1) := dk_29 (dk_at dksX0_keptBehind_1 3 rfl rfl)
theorem dX0_keptBehind_26 : decode cX0_keptBehind 26 = .ok (.iload_n 2, 1) := dk_28 (dk_at dksX0_keptBehind_1 4 rfl rfl)
theorem dX0_keptBehind_27 : decode cX0_keptBehind 27 = .ok (.iconst (-1), 1) := dk_2 (dk_at dksX0_keptBehind_1 5 rfl rfl)
theorem dX0_keptBehind_28 : decode cX0_keptBehind 28 = .ok (.ixor, 1) := dk_130 (dk_at dksX0_keptBehind_1 6 rfl rfl)
theorem dX0_keptBehind_29 : decode cX0_keptBehind 29 = .ok (.iand, 1) := dk_126 (dk_at dksX0_keptBehind_1 7 rfl rfl)
theorem dX0_keptBehind_30 : decode cX0_keptBehind 30 = .ok (.ifCond .ne 29, 3) := dk_154 0 29 (dk_at dksX0_keptBehind_1 8 rfl rfl)
theorem dX0_keptBehind_33 : decode cX0_keptBehind 33 = .ok (.aload_n 0, 1) := dk_42 (dk_at dksX0_keptBehind_1 11 rfl rfl)
theorem dX0_keptBehind_34 : decode cX0_keptBehind 34 = .ok (.getfield 96, 3) := dk_180 0 96 (dk_at dksX0_keptBehind_1 12 rfl rfl)
theorem dX0_keptBehind_37 : decode cX0_keptBehind 37 = .ok (.iload_n 3, 1) := dk_29 (dk_at dksX0_keptBehind_1 15 rfl rfl)
theorem dX0_keptBehind_38 : decode cX0_keptBehind 38 = .ok (.baload, 1) := dk_51 (dk_at dksX0_keptBehind_1 16 rfl rfl)
theorem dX0_keptBehind_39 : decode cX0_keptBehind 39 = .ok (.ifCond .eq 20, 3) := dk_153 0 20 (dk_at dksX0_keptBehind_1 17 rfl rfl)
theorem dX0_keptBehind_42 : decode cX0_keptBehind 42 = .ok (.aload_n 0, 1) := dk_42 (dk_at dksX0_keptBehind_1 20 rfl rfl)
theorem dX0_keptBehind_43 : decode cX0_keptBehind 43 = .ok (.getfield 100, 3) := dk_180 0 100 (dk_at dksX0_keptBehind_1 21 rfl rfl)
theorem dX0_keptBehind_46 : decode cX0_keptBehind 46 = .ok (.iload_n 3, 1) := dk_29 (dk_at dksX0_keptBehind_2 0 rfl rfl)
theorem dX0_keptBehind_47 : decode cX0_keptBehind 47 = .ok (.iaload, 1) := dk_46 (dk_at dksX0_keptBehind_2 1 rfl rfl)
theorem dX0_keptBehind_48 : decode cX0_keptBehind 48 = .ok (.aload_n 0, 1) := dk_42 (dk_at dksX0_keptBehind_2 2 rfl rfl)
theorem dX0_keptBehind_49 : decode cX0_keptBehind 49 = .ok (.getfield 103, 3) := dk_180 0 103 (dk_at dksX0_keptBehind_2 3 rfl rfl)
theorem dX0_keptBehind_52 : decode cX0_keptBehind 52 = .ok (.iload_n 2, 1) := dk_28 (dk_at dksX0_keptBehind_2 6 rfl rfl)
theorem dX0_keptBehind_53 : decode cX0_keptBehind 53 = .ok (.iaload, 1) := dk_46 (dk_at dksX0_keptBehind_2 7 rfl rfl)
theorem dX0_keptBehind_54 : decode cX0_keptBehind 54 = .ok (.if_icmp .ne 5, 3) := dk_160 0 5 (dk_at dksX0_keptBehind_2 8 rfl rfl)
theorem dX0_keptBehind_57 : decode cX0_keptBehind 57 = .ok (.iload_n 3, 1) := dk_29 (dk_at dksX0_keptBehind_2 11 rfl rfl)
theorem dX0_keptBehind_58 : decode cX0_keptBehind 58 = .ok (.ireturn, 1) := dk_172 (dk_at dksX0_keptBehind_2 12 rfl rfl)
theorem dX0_keptBehind_59 : decode cX0_keptBehind 59 = .ok (.iinc 3 1, 3) := dk_132 3 1 (dk_at dksX0_keptBehind_2 13 rfl rfl)
theorem dX0_keptBehind_62 : decode cX0_keptBehind 62 = .ok (.goto (-45), 3) := dk_167 255 211 (dk_at dksX0_keptBehind_2 16 rfl rfl)
theorem dX0_keptBehind_65 : decode cX0_keptBehind 65 = .ok (.iconst 0, 1) := dk_3 (dk_at dksX0_keptBehind_2 19 rfl rfl)
theorem dX0_keptBehind_66 : decode cX0_keptBehind 66 = .ok (.ireturn, 1) := dk_172 (dk_at dksX0_keptBehind_2 20 rfl rfl)
abbrev cX0_hold : ByteArray := prog_1_method_81_code
def yX0_hold : MethodName := ⟨RX0, "hold", "(I)I"⟩
def dkwX0_hold_1 : List UInt8 := [182, 1, 210, 42, 180, 0, 96, 27, 51, 153, 0, 11, 42, 27, 182, 1, 219, 167, 0, 6, 19, 1, 196, 172]
abbrev dktX0_hold_1 : List UInt8 := dkwX0_hold_1 ++ []
def dkwX0_hold_0 : List UInt8 := [27, 3, 42, 182, 1, 200, 4, 100, 184, 0, 137, 154, 0, 6, 18, 164, 172, 42, 182, 1, 89, 42]
abbrev dktX0_hold_0 : List UInt8 := dkwX0_hold_0 ++ dktX0_hold_1
theorem dksX0_hold_0 : cX0_hold.data.toList.drop 0 = dktX0_hold_0 := by decide +kernel
theorem dksX0_hold_1 : cX0_hold.data.toList.drop 22 = dktX0_hold_1 := dk_seg dksX0_hold_0 22 rfl rfl
theorem dX0_hold_0 : decode cX0_hold 0 = .ok (.iload_n 1, 1) := dk_27 (dk_at dksX0_hold_0 0 rfl rfl)
theorem dX0_hold_1 : decode cX0_hold 1 = .ok (.iconst 0, 1) := dk_3 (dk_at dksX0_hold_0 1 rfl rfl)
theorem dX0_hold_2 : decode cX0_hold 2 = .ok (.aload_n 0, 1) := dk_42 (dk_at dksX0_hold_0 2 rfl rfl)
theorem dX0_hold_3 : decode cX0_hold 3 = .ok (.invokevirtual 456, 3) := dk_182 1 200 (dk_at dksX0_hold_0 3 rfl rfl)
theorem dX0_hold_6 : decode cX0_hold 6 = .ok (.iconst 1, 1) := dk_4 (dk_at dksX0_hold_0 6 rfl rfl)
theorem dX0_hold_7 : decode cX0_hold 7 = .ok (.isub, 1) := dk_100 (dk_at dksX0_hold_0 7 rfl rfl)
theorem dX0_hold_8 : decode cX0_hold 8 = .ok (.invokestatic 137, 3) := dk_184 0 137 (dk_at dksX0_hold_0 8 rfl rfl)
theorem dX0_hold_11 : decode cX0_hold 11 = .ok (.ifCond .ne 6, 3) := dk_154 0 6 (dk_at dksX0_hold_0 11 rfl rfl)
theorem dX0_hold_14 : decode cX0_hold 14 = .ok (.ldc 164, 2) := dk_18 164 (dk_at dksX0_hold_0 14 rfl rfl)
theorem dX0_hold_16 : decode cX0_hold 16 = .ok (.ireturn, 1) := dk_172 (dk_at dksX0_hold_0 16 rfl rfl)
theorem dX0_hold_17 : decode cX0_hold 17 = .ok (.aload_n 0, 1) := dk_42 (dk_at dksX0_hold_0 17 rfl rfl)
theorem dX0_hold_18 : decode cX0_hold 18 = .ok (.invokevirtual 345, 3) := dk_182 1 89 (dk_at dksX0_hold_0 18 rfl rfl)
theorem dX0_hold_21 : decode cX0_hold 21 = .ok (.aload_n 0, 1) := dk_42 (dk_at dksX0_hold_0 21 rfl rfl)
theorem dX0_hold_22 : decode cX0_hold 22 = .ok (.invokevirtual 466, 3) := dk_182 1 210 (dk_at dksX0_hold_1 0 rfl rfl)
theorem dX0_hold_25 : decode cX0_hold 25 = .ok (.aload_n 0, 1) := dk_42 (dk_at dksX0_hold_1 3 rfl rfl)
theorem dX0_hold_26 : decode cX0_hold 26 = .ok (.getfield 96, 3) := dk_180 0 96 (dk_at dksX0_hold_1 4 rfl rfl)
theorem dX0_hold_29 : decode cX0_hold 29 = .ok (.iload_n 1, 1) := dk_27 (dk_at dksX0_hold_1 7 rfl rfl)
theorem dX0_hold_30 : decode cX0_hold 30 = .ok (.baload, 1) := dk_51 (dk_at dksX0_hold_1 8 rfl rfl)
theorem dX0_hold_31 : decode cX0_hold 31 = .ok (.ifCond .eq 11, 3) := dk_153 0 11 (dk_at dksX0_hold_1 9 rfl rfl)
theorem dX0_hold_34 : decode cX0_hold 34 = .ok (.aload_n 0, 1) := dk_42 (dk_at dksX0_hold_1 12 rfl rfl)
theorem dX0_hold_35 : decode cX0_hold 35 = .ok (.iload_n 1, 1) := dk_27 (dk_at dksX0_hold_1 13 rfl rfl)
theorem dX0_hold_36 : decode cX0_hold 36 = .ok (.invokevirtual 475, 3) := dk_182 1 219 (dk_at dksX0_hold_1 14 rfl rfl)
theorem dX0_hold_39 : decode cX0_hold 39 = .ok (.goto 6, 3) := dk_167 0 6 (dk_at dksX0_hold_1 17 rfl rfl)
theorem dX0_hold_42 : decode cX0_hold 42 = .ok (.ldc_w 452, 3) := dk_19 1 196 (dk_at dksX0_hold_1 20 rfl rfl)
theorem dX0_hold_45 : decode cX0_hold 45 = .ok (.ireturn, 1) := dk_172 (dk_at dksX0_hold_1 23 rfl rfl)
abbrev cX0_heldOf : ByteArray := prog_1_method_80_code
def yX0_heldOf : MethodName := ⟨RX0, "heldOf", "(I)I"⟩
def dkwX0_heldOf_2 : List UInt8 := [167, 0, 4, 3, 96, 61, 132, 3, 1, 167, 255, 207, 28, 172]
abbrev dktX0_heldOf_2 : List UInt8 := dkwX0_heldOf_2 ++ []
def dkwX0_heldOf_1 : List UInt8 := [153, 0, 25, 42, 180, 0, 46, 180, 1, 32, 29, 50, 180, 1, 95, 42, 180, 0, 90, 29, 46, 104]
abbrev dktX0_heldOf_1 : List UInt8 := dkwX0_heldOf_1 ++ dktX0_heldOf_2
def dkwX0_heldOf_0 : List UInt8 := [3, 61, 3, 62, 29, 42, 180, 0, 46, 180, 0, 133, 162, 0, 44, 28, 42, 29, 27, 182, 1, 104]
abbrev dktX0_heldOf_0 : List UInt8 := dkwX0_heldOf_0 ++ dktX0_heldOf_1
theorem dksX0_heldOf_0 : cX0_heldOf.data.toList.drop 0 = dktX0_heldOf_0 := by decide +kernel
theorem dksX0_heldOf_1 : cX0_heldOf.data.toList.drop 22 = dktX0_heldOf_1 := dk_seg dksX0_heldOf_0 22 rfl rfl
theorem dksX0_heldOf_2 : cX0_heldOf.data.toList.drop 44 = dktX0_heldOf_2 := dk_seg dksX0_heldOf_1 22 rfl rfl
theorem dX0_heldOf_0 : decode cX0_heldOf 0 = .ok (.iconst 0, 1) := dk_3 (dk_at dksX0_heldOf_0 0 rfl rfl)
theorem dX0_heldOf_1 : decode cX0_heldOf 1 = .ok (.istore_n 2, 1) := dk_61 (dk_at dksX0_heldOf_0 1 rfl rfl)
theorem dX0_heldOf_2 : decode cX0_heldOf 2 = .ok (.iconst 0, 1) := dk_3 (dk_at dksX0_heldOf_0 2 rfl rfl)
theorem dX0_heldOf_3 : decode cX0_heldOf 3 = .ok (.istore_n 3, 1) := dk_62 (dk_at dksX0_heldOf_0 3 rfl rfl)
theorem dX0_heldOf_4 : decode cX0_heldOf 4 = .ok (.iload_n 3, 1) := dk_29 (dk_at dksX0_heldOf_0 4 rfl rfl)
theorem dX0_heldOf_5 : decode cX0_heldOf 5 = .ok (.aload_n 0, 1) := dk_42 (dk_at dksX0_heldOf_0 5 rfl rfl)
theorem dX0_heldOf_6 : decode cX0_heldOf 6 = .ok (.getfield 46, 3) := dk_180 0 46 (dk_at dksX0_heldOf_0 6 rfl rfl)
theorem dX0_heldOf_9 : decode cX0_heldOf 9 = .ok (.getfield 133, 3) := dk_180 0 133 (dk_at dksX0_heldOf_0 9 rfl rfl)
theorem dX0_heldOf_12 : decode cX0_heldOf 12 = .ok (.if_icmp .ge 44, 3) := dk_162 0 44 (dk_at dksX0_heldOf_0 12 rfl rfl)
theorem dX0_heldOf_15 : decode cX0_heldOf 15 = .ok (.iload_n 2, 1) := dk_28 (dk_at dksX0_heldOf_0 15 rfl rfl)
theorem dX0_heldOf_16 : decode cX0_heldOf 16 = .ok (.aload_n 0, 1) := dk_42 (dk_at dksX0_heldOf_0 16 rfl rfl)
theorem dX0_heldOf_17 : decode cX0_heldOf 17 = .ok (.iload_n 3, 1) := dk_29 (dk_at dksX0_heldOf_0 17 rfl rfl)
theorem dX0_heldOf_18 : decode cX0_heldOf 18 = .ok (.iload_n 1, 1) := dk_27 (dk_at dksX0_heldOf_0 18 rfl rfl)
theorem dX0_heldOf_19 : decode cX0_heldOf 19 = .ok (.invokevirtual 360, 3) := dk_182 1 104 (dk_at dksX0_heldOf_0 19 rfl rfl)
theorem dX0_heldOf_22 : decode cX0_heldOf 22 = .ok (.ifCond .eq 25, 3) := dk_153 0 25 (dk_at dksX0_heldOf_1 0 rfl rfl)
theorem dX0_heldOf_25 : decode cX0_heldOf 25 = .ok (.aload_n 0, 1) := dk_42 (dk_at dksX0_heldOf_1 3 rfl rfl)
theorem dX0_heldOf_26 : decode cX0_heldOf 26 = .ok (.getfield 46, 3) := dk_180 0 46 (dk_at dksX0_heldOf_1 4 rfl rfl)
theorem dX0_heldOf_29 : decode cX0_heldOf 29 = .ok (.getfield 288, 3) := dk_180 1 32 (dk_at dksX0_heldOf_1 7 rfl rfl)
theorem dX0_heldOf_32 : decode cX0_heldOf 32 = .ok (.iload_n 3, 1) := dk_29 (dk_at dksX0_heldOf_1 10 rfl rfl)
theorem dX0_heldOf_33 : decode cX0_heldOf 33 = .ok (.aaload, 1) := dk_50 (dk_at dksX0_heldOf_1 11 rfl rfl)
theorem dX0_heldOf_34 : decode cX0_heldOf 34 = .ok (.getfield 351, 3) := dk_180 1 95 (dk_at dksX0_heldOf_1 12 rfl rfl)
theorem dX0_heldOf_37 : decode cX0_heldOf 37 = .ok (.aload_n 0, 1) := dk_42 (dk_at dksX0_heldOf_1 15 rfl rfl)
theorem dX0_heldOf_38 : decode cX0_heldOf 38 = .ok (.getfield 90, 3) := dk_180 0 90 (dk_at dksX0_heldOf_1 16 rfl rfl)
theorem dX0_heldOf_41 : decode cX0_heldOf 41 = .ok (.iload_n 3, 1) := dk_29 (dk_at dksX0_heldOf_1 19 rfl rfl)
theorem dX0_heldOf_42 : decode cX0_heldOf 42 = .ok (.iaload, 1) := dk_46 (dk_at dksX0_heldOf_1 20 rfl rfl)
theorem dX0_heldOf_43 : decode cX0_heldOf 43 = .ok (.imul, 1) := dk_104 (dk_at dksX0_heldOf_1 21 rfl rfl)
theorem dX0_heldOf_44 : decode cX0_heldOf 44 = .ok (.goto 4, 3) := dk_167 0 4 (dk_at dksX0_heldOf_2 0 rfl rfl)
theorem dX0_heldOf_47 : decode cX0_heldOf 47 = .ok (.iconst 0, 1) := dk_3 (dk_at dksX0_heldOf_2 3 rfl rfl)
theorem dX0_heldOf_48 : decode cX0_heldOf 48 = .ok (.iadd, 1) := dk_96 (dk_at dksX0_heldOf_2 4 rfl rfl)
theorem dX0_heldOf_49 : decode cX0_heldOf 49 = .ok (.istore_n 2, 1) := dk_61 (dk_at dksX0_heldOf_2 5 rfl rfl)
theorem dX0_heldOf_50 : decode cX0_heldOf 50 = .ok (.iinc 3 1, 3) := dk_132 3 1 (dk_at dksX0_heldOf_2 6 rfl rfl)
theorem dX0_heldOf_53 : decode cX0_heldOf 53 = .ok (.goto (-49), 3) := dk_167 255 207 (dk_at dksX0_heldOf_2 9 rfl rfl)
theorem dX0_heldOf_56 : decode cX0_heldOf 56 = .ok (.iload_n 2, 1) := dk_28 (dk_at dksX0_heldOf_2 12 rfl rfl)
theorem dX0_heldOf_57 : decode cX0_heldOf 57 = .ok (.ireturn, 1) := dk_172 (dk_at dksX0_heldOf_2 13 rfl rfl)
abbrev cX0_best : ByteArray := prog_1_method_83_code
def yX0_best : MethodName := ⟨RX0, "best", "(I)I"⟩
def dkwX0_best_1 : List UInt8 := [182, 1, 222, 61, 27, 154, 0, 11, 42, 28, 182, 1, 219, 167, 0, 4, 28, 172]
abbrev dktX0_best_1 : List UInt8 := dkwX0_best_1 ++ []
def dkwX0_best_0 : List UInt8 := [27, 3, 4, 184, 0, 137, 154, 0, 6, 18, 164, 172, 42, 182, 1, 89, 42, 182, 1, 210, 42, 3]
abbrev dktX0_best_0 : List UInt8 := dkwX0_best_0 ++ dktX0_best_1
theorem dksX0_best_0 : cX0_best.data.toList.drop 0 = dktX0_best_0 := by decide +kernel
theorem dksX0_best_1 : cX0_best.data.toList.drop 22 = dktX0_best_1 := dk_seg dksX0_best_0 22 rfl rfl
theorem dX0_best_0 : decode cX0_best 0 = .ok (.iload_n 1, 1) := dk_27 (dk_at dksX0_best_0 0 rfl rfl)
theorem dX0_best_1 : decode cX0_best 1 = .ok (.iconst 0, 1) := dk_3 (dk_at dksX0_best_0 1 rfl rfl)
theorem dX0_best_2 : decode cX0_best 2 = .ok (.iconst 1, 1) := dk_4 (dk_at dksX0_best_0 2 rfl rfl)
theorem dX0_best_3 : decode cX0_best 3 = .ok (.invokestatic 137, 3) := dk_184 0 137 (dk_at dksX0_best_0 3 rfl rfl)
theorem dX0_best_6 : decode cX0_best 6 = .ok (.ifCond .ne 6, 3) := dk_154 0 6 (dk_at dksX0_best_0 6 rfl rfl)
theorem dX0_best_9 : decode cX0_best 9 = .ok (.ldc 164, 2) := dk_18 164 (dk_at dksX0_best_0 9 rfl rfl)
theorem dX0_best_11 : decode cX0_best 11 = .ok (.ireturn, 1) := dk_172 (dk_at dksX0_best_0 11 rfl rfl)
theorem dX0_best_12 : decode cX0_best 12 = .ok (.aload_n 0, 1) := dk_42 (dk_at dksX0_best_0 12 rfl rfl)
theorem dX0_best_13 : decode cX0_best 13 = .ok (.invokevirtual 345, 3) := dk_182 1 89 (dk_at dksX0_best_0 13 rfl rfl)
theorem dX0_best_16 : decode cX0_best 16 = .ok (.aload_n 0, 1) := dk_42 (dk_at dksX0_best_0 16 rfl rfl)
theorem dX0_best_17 : decode cX0_best 17 = .ok (.invokevirtual 466, 3) := dk_182 1 210 (dk_at dksX0_best_0 17 rfl rfl)
theorem dX0_best_20 : decode cX0_best 20 = .ok (.aload_n 0, 1) := dk_42 (dk_at dksX0_best_0 20 rfl rfl)
theorem dX0_best_21 : decode cX0_best 21 = .ok (.iconst 0, 1) := dk_3 (dk_at dksX0_best_0 21 rfl rfl)
theorem dX0_best_22 : decode cX0_best 22 = .ok (.invokevirtual 478, 3) := dk_182 1 222 (dk_at dksX0_best_1 0 rfl rfl)
theorem dX0_best_25 : decode cX0_best 25 = .ok (.istore_n 2, 1) := dk_61 (dk_at dksX0_best_1 3 rfl rfl)
theorem dX0_best_26 : decode cX0_best 26 = .ok (.iload_n 1, 1) := dk_27 (dk_at dksX0_best_1 4 rfl rfl)
theorem dX0_best_27 : decode cX0_best 27 = .ok (.ifCond .ne 11, 3) := dk_154 0 11 (dk_at dksX0_best_1 5 rfl rfl)
theorem dX0_best_30 : decode cX0_best 30 = .ok (.aload_n 0, 1) := dk_42 (dk_at dksX0_best_1 8 rfl rfl)
theorem dX0_best_31 : decode cX0_best 31 = .ok (.iload_n 2, 1) := dk_28 (dk_at dksX0_best_1 9 rfl rfl)
theorem dX0_best_32 : decode cX0_best 32 = .ok (.invokevirtual 475, 3) := dk_182 1 219 (dk_at dksX0_best_1 10 rfl rfl)
theorem dX0_best_35 : decode cX0_best 35 = .ok (.goto 4, 3) := dk_167 0 4 (dk_at dksX0_best_1 13 rfl rfl)
theorem dX0_best_38 : decode cX0_best 38 = .ok (.iload_n 2, 1) := dk_28 (dk_at dksX0_best_1 16 rfl rfl)
theorem dX0_best_39 : decode cX0_best 39 = .ok (.ireturn, 1) := dk_172 (dk_at dksX0_best_1 17 rfl rfl)
abbrev cX0_bestWithout : ByteArray := prog_1_method_82_code
def yX0_bestWithout : MethodName := ⟨RX0, "bestWithout", "(I)I"⟩
def dkwX0_bestWithout_2 : List UInt8 := [28, 172]
abbrev dktX0_bestWithout_2 : List UInt8 := dkwX0_bestWithout_2 ++ []
def dkwX0_bestWithout_1 : List UInt8 := [153, 0, 18, 42, 29, 182, 1, 219, 42, 28, 182, 1, 219, 164, 0, 5, 29, 61, 132, 3, 1, 167, 255, 215]
abbrev dktX0_bestWithout_1 : List UInt8 := dkwX0_bestWithout_1 ++ dktX0_bestWithout_2
def dkwX0_bestWithout_0 : List UInt8 := [3, 61, 4, 62, 29, 42, 182, 1, 200, 162, 0, 39, 29, 27, 126, 154, 0, 27, 42, 180, 0, 96, 29, 51]
abbrev dktX0_bestWithout_0 : List UInt8 := dkwX0_bestWithout_0 ++ dktX0_bestWithout_1
theorem dksX0_bestWithout_0 : cX0_bestWithout.data.toList.drop 0 = dktX0_bestWithout_0 := by decide +kernel
theorem dksX0_bestWithout_1 : cX0_bestWithout.data.toList.drop 24 = dktX0_bestWithout_1 := dk_seg dksX0_bestWithout_0 24 rfl rfl
theorem dksX0_bestWithout_2 : cX0_bestWithout.data.toList.drop 48 = dktX0_bestWithout_2 := dk_seg dksX0_bestWithout_1 24 rfl rfl
theorem dX0_bestWithout_0 : decode cX0_bestWithout 0 = .ok (.iconst 0, 1) := dk_3 (dk_at dksX0_bestWithout_0 0 rfl rfl)
theorem dX0_bestWithout_1 : decode cX0_bestWithout 1 = .ok (.istore_n 2, 1) := dk_61 (dk_at dksX0_bestWithout_0 1 rfl rfl)
theorem dX0_bestWithout_2 : decode cX0_bestWithout 2 = .ok (.iconst 1, 1) := dk_4 (dk_at dksX0_bestWithout_0 2 rfl rfl)
theorem dX0_bestWithout_3 : decode cX0_bestWithout 3 = .ok (.istore_n 3, 1) := dk_62 (dk_at dksX0_bestWithout_0 3 rfl rfl)
theorem dX0_bestWithout_4 : decode cX0_bestWithout 4 = .ok (.iload_n 3, 1) := dk_29 (dk_at dksX0_bestWithout_0 4 rfl rfl)
theorem dX0_bestWithout_5 : decode cX0_bestWithout 5 = .ok (.aload_n 0, 1) := dk_42 (dk_at dksX0_bestWithout_0 5 rfl rfl)
theorem dX0_bestWithout_6 : decode cX0_bestWithout 6 = .ok (.invokevirtual 456, 3) := dk_182 1 200 (dk_at dksX0_bestWithout_0 6 rfl rfl)
theorem dX0_bestWithout_9 : decode cX0_bestWithout 9 = .ok (.if_icmp .ge 39, 3) := dk_162 0 39 (dk_at dksX0_bestWithout_0 9 rfl rfl)
theorem dX0_bestWithout_12 : decode cX0_bestWithout 12 = .ok (.iload_n 3, 1) := dk_29 (dk_at dksX0_bestWithout_0 12 rfl rfl)
theorem dX0_bestWithout_13 : decode cX0_bestWithout 13 = .ok (.iload_n 1, 1) := dk_27 (dk_at dksX0_bestWithout_0 13 rfl rfl)
theorem dX0_bestWithout_14 : decode cX0_bestWithout 14 = .ok (.iand, 1) := dk_126 (dk_at dksX0_bestWithout_0 14 rfl rfl)
theorem dX0_bestWithout_15 : decode cX0_bestWithout 15 = .ok (.ifCond .ne 27, 3) := dk_154 0 27 (dk_at dksX0_bestWithout_0 15 rfl rfl)
theorem dX0_bestWithout_18 : decode cX0_bestWithout 18 = .ok (.aload_n 0, 1) := dk_42 (dk_at dksX0_bestWithout_0 18 rfl rfl)
theorem dX0_bestWithout_19 : decode cX0_bestWithout 19 = .ok (.getfield 96, 3) := dk_180 0 96 (dk_at dksX0_bestWithout_0 19 rfl rfl)
theorem dX0_bestWithout_22 : decode cX0_bestWithout 22 = .ok (.iload_n 3, 1) := dk_29 (dk_at dksX0_bestWithout_0 22 rfl rfl)
theorem dX0_bestWithout_23 : decode cX0_bestWithout 23 = .ok (.baload, 1) := dk_51 (dk_at dksX0_bestWithout_0 23 rfl rfl)
theorem dX0_bestWithout_24 : decode cX0_bestWithout 24 = .ok (.ifCond .eq 18, 3) := dk_153 0 18 (dk_at dksX0_bestWithout_1 0 rfl rfl)
theorem dX0_bestWithout_27 : decode cX0_bestWithout 27 = .ok (.aload_n 0, 1) := dk_42 (dk_at dksX0_bestWithout_1 3 rfl rfl)
theorem dX0_bestWithout_28 : decode cX0_bestWithout 28 = .ok (.iload_n 3, 1) := dk_29 (dk_at dksX0_bestWithout_1 4 rfl rfl)
theorem dX0_bestWithout_29 : decode cX0_bestWithout 29 = .ok (.invokevirtual 475, 3) := dk_182 1 219 (dk_at dksX0_bestWithout_1 5 rfl rfl)
theorem dX0_bestWithout_32 : decode cX0_bestWithout 32 = .ok (.aload_n 0, 1) := dk_42 (dk_at dksX0_bestWithout_1 8 rfl rfl)
theorem dX0_bestWithout_33 : decode cX0_bestWithout 33 = .ok (.iload_n 2, 1) := dk_28 (dk_at dksX0_bestWithout_1 9 rfl rfl)
theorem dX0_bestWithout_34 : decode cX0_bestWithout 34 = .ok (.invokevirtual 475, 3) := dk_182 1 219 (dk_at dksX0_bestWithout_1 10 rfl rfl)
theorem dX0_bestWithout_37 : decode cX0_bestWithout 37 = .ok (.if_icmp .le 5, 3) := dk_164 0 5 (dk_at dksX0_bestWithout_1 13 rfl rfl)
theorem dX0_bestWithout_40 : decode cX0_bestWithout 40 = .ok (.iload_n 3, 1) := dk_29 (dk_at dksX0_bestWithout_1 16 rfl rfl)
theorem dX0_bestWithout_41 : decode cX0_bestWithout 41 = .ok (.istore_n 2, 1) := dk_61 (dk_at dksX0_bestWithout_1 17 rfl rfl)
theorem dX0_bestWithout_42 : decode cX0_bestWithout 42 = .ok (.iinc 3 1, 3) := dk_132 3 1 (dk_at dksX0_bestWithout_1 18 rfl rfl)
theorem dX0_bestWithout_45 : decode cX0_bestWithout 45 = .ok (.goto (-41), 3) := dk_167 255 215 (dk_at dksX0_bestWithout_1 21 rfl rfl)
theorem dX0_bestWithout_48 : decode cX0_bestWithout 48 = .ok (.iload_n 2, 1) := dk_28 (dk_at dksX0_bestWithout_2 0 rfl rfl)
theorem dX0_bestWithout_49 : decode cX0_bestWithout 49 = .ok (.ireturn, 1) := dk_172 (dk_at dksX0_bestWithout_2 1 rfl rfl)
abbrev cX0_price : ByteArray := prog_1_method_84_code
def yX0_price : MethodName := ⟨RX0, "price", "(I)I"⟩
def dkwX0_price_1 : List UInt8 := [182, 1, 222, 182, 1, 219, 42, 42, 4, 27, 120, 182, 1, 222, 182, 1, 219, 100, 172]
abbrev dktX0_price_1 : List UInt8 := dkwX0_price_1 ++ []
def dkwX0_price_0 : List UInt8 := [42, 27, 182, 1, 58, 154, 0, 6, 18, 164, 172, 42, 182, 1, 89, 42, 182, 1, 210, 42, 42, 3]
abbrev dktX0_price_0 : List UInt8 := dkwX0_price_0 ++ dktX0_price_1
theorem dksX0_price_0 : cX0_price.data.toList.drop 0 = dktX0_price_0 := by decide +kernel
theorem dksX0_price_1 : cX0_price.data.toList.drop 22 = dktX0_price_1 := dk_seg dksX0_price_0 22 rfl rfl
theorem dX0_price_0 : decode cX0_price 0 = .ok (.aload_n 0, 1) := dk_42 (dk_at dksX0_price_0 0 rfl rfl)
theorem dX0_price_1 : decode cX0_price 1 = .ok (.iload_n 1, 1) := dk_27 (dk_at dksX0_price_0 1 rfl rfl)
theorem dX0_price_2 : decode cX0_price 2 = .ok (.invokevirtual 314, 3) := dk_182 1 58 (dk_at dksX0_price_0 2 rfl rfl)
theorem dX0_price_5 : decode cX0_price 5 = .ok (.ifCond .ne 6, 3) := dk_154 0 6 (dk_at dksX0_price_0 5 rfl rfl)
theorem dX0_price_8 : decode cX0_price 8 = .ok (.ldc 164, 2) := dk_18 164 (dk_at dksX0_price_0 8 rfl rfl)
theorem dX0_price_10 : decode cX0_price 10 = .ok (.ireturn, 1) := dk_172 (dk_at dksX0_price_0 10 rfl rfl)
theorem dX0_price_11 : decode cX0_price 11 = .ok (.aload_n 0, 1) := dk_42 (dk_at dksX0_price_0 11 rfl rfl)
theorem dX0_price_12 : decode cX0_price 12 = .ok (.invokevirtual 345, 3) := dk_182 1 89 (dk_at dksX0_price_0 12 rfl rfl)
theorem dX0_price_15 : decode cX0_price 15 = .ok (.aload_n 0, 1) := dk_42 (dk_at dksX0_price_0 15 rfl rfl)
theorem dX0_price_16 : decode cX0_price 16 = .ok (.invokevirtual 466, 3) := dk_182 1 210 (dk_at dksX0_price_0 16 rfl rfl)
theorem dX0_price_19 : decode cX0_price 19 = .ok (.aload_n 0, 1) := dk_42 (dk_at dksX0_price_0 19 rfl rfl)
theorem dX0_price_20 : decode cX0_price 20 = .ok (.aload_n 0, 1) := dk_42 (dk_at dksX0_price_0 20 rfl rfl)
theorem dX0_price_21 : decode cX0_price 21 = .ok (.iconst 0, 1) := dk_3 (dk_at dksX0_price_0 21 rfl rfl)
theorem dX0_price_22 : decode cX0_price 22 = .ok (.invokevirtual 478, 3) := dk_182 1 222 (dk_at dksX0_price_1 0 rfl rfl)
theorem dX0_price_25 : decode cX0_price 25 = .ok (.invokevirtual 475, 3) := dk_182 1 219 (dk_at dksX0_price_1 3 rfl rfl)
theorem dX0_price_28 : decode cX0_price 28 = .ok (.aload_n 0, 1) := dk_42 (dk_at dksX0_price_1 6 rfl rfl)
theorem dX0_price_29 : decode cX0_price 29 = .ok (.aload_n 0, 1) := dk_42 (dk_at dksX0_price_1 7 rfl rfl)
theorem dX0_price_30 : decode cX0_price 30 = .ok (.iconst 1, 1) := dk_4 (dk_at dksX0_price_1 8 rfl rfl)
theorem dX0_price_31 : decode cX0_price 31 = .ok (.iload_n 1, 1) := dk_27 (dk_at dksX0_price_1 9 rfl rfl)
theorem dX0_price_32 : decode cX0_price 32 = .ok (.ishl, 1) := dk_120 (dk_at dksX0_price_1 10 rfl rfl)
theorem dX0_price_33 : decode cX0_price 33 = .ok (.invokevirtual 478, 3) := dk_182 1 222 (dk_at dksX0_price_1 11 rfl rfl)
theorem dX0_price_36 : decode cX0_price 36 = .ok (.invokevirtual 475, 3) := dk_182 1 219 (dk_at dksX0_price_1 14 rfl rfl)
theorem dX0_price_39 : decode cX0_price 39 = .ok (.isub, 1) := dk_100 (dk_at dksX0_price_1 17 rfl rfl)
theorem dX0_price_40 : decode cX0_price 40 = .ok (.ireturn, 1) := dk_172 (dk_at dksX0_price_1 18 rfl rfl)
abbrev cX0_means : ByteArray := prog_1_method_86_code
def yX0_means : MethodName := ⟨RX0, "means", "(I)J"⟩
def dkwX0_means_1 : List UInt8 := [173]
abbrev dktX0_means_1 : List UInt8 := dkwX0_means_1 ++ []
def dkwX0_means_0 : List UInt8 := [27, 4, 6, 184, 0, 137, 154, 0, 7, 20, 1, 229, 173, 42, 182, 1, 89, 42, 3, 27, 10, 182, 1, 225]
abbrev dktX0_means_0 : List UInt8 := dkwX0_means_0 ++ dktX0_means_1
theorem dksX0_means_0 : cX0_means.data.toList.drop 0 = dktX0_means_0 := by decide +kernel
theorem dksX0_means_1 : cX0_means.data.toList.drop 24 = dktX0_means_1 := dk_seg dksX0_means_0 24 rfl rfl
theorem dX0_means_0 : decode cX0_means 0 = .ok (.iload_n 1, 1) := dk_27 (dk_at dksX0_means_0 0 rfl rfl)
theorem dX0_means_1 : decode cX0_means 1 = .ok (.iconst 1, 1) := dk_4 (dk_at dksX0_means_0 1 rfl rfl)
theorem dX0_means_2 : decode cX0_means 2 = .ok (.iconst 3, 1) := dk_6 (dk_at dksX0_means_0 2 rfl rfl)
theorem dX0_means_3 : decode cX0_means 3 = .ok (.invokestatic 137, 3) := dk_184 0 137 (dk_at dksX0_means_0 3 rfl rfl)
theorem dX0_means_6 : decode cX0_means 6 = .ok (.ifCond .ne 7, 3) := dk_154 0 7 (dk_at dksX0_means_0 6 rfl rfl)
theorem dX0_means_9 : decode cX0_means 9 = .ok (.ldc2_w 485, 3) := dk_20 1 229 (dk_at dksX0_means_0 9 rfl rfl)
theorem dX0_means_12 : decode cX0_means 12 = .ok (.lreturn, 1) := dk_173 (dk_at dksX0_means_0 12 rfl rfl)
theorem dX0_means_13 : decode cX0_means 13 = .ok (.aload_n 0, 1) := dk_42 (dk_at dksX0_means_0 13 rfl rfl)
theorem dX0_means_14 : decode cX0_means 14 = .ok (.invokevirtual 345, 3) := dk_182 1 89 (dk_at dksX0_means_0 14 rfl rfl)
theorem dX0_means_17 : decode cX0_means 17 = .ok (.aload_n 0, 1) := dk_42 (dk_at dksX0_means_0 17 rfl rfl)
theorem dX0_means_18 : decode cX0_means 18 = .ok (.iconst 0, 1) := dk_3 (dk_at dksX0_means_0 18 rfl rfl)
theorem dX0_means_19 : decode cX0_means 19 = .ok (.iload_n 1, 1) := dk_27 (dk_at dksX0_means_0 19 rfl rfl)
theorem dX0_means_20 : decode cX0_means 20 = .ok (.lconst 1, 1) := dk_10 (dk_at dksX0_means_0 20 rfl rfl)
theorem dX0_means_21 : decode cX0_means 21 = .ok (.invokevirtual 481, 3) := dk_182 1 225 (dk_at dksX0_means_0 21 rfl rfl)
theorem dX0_means_24 : decode cX0_means 24 = .ok (.lreturn, 1) := dk_173 (dk_at dksX0_means_1 0 rfl rfl)
abbrev cX0_meansFrom : ByteArray := prog_1_method_85_code
def yX0_meansFrom : MethodName := ⟨RX0, "meansFrom", "(IIJ)J"⟩
def dkwX0_meansFrom_3 : List UInt8 := [21, 7, 50, 180, 1, 95, 133, 105, 182, 1, 225, 97, 55, 5, 132, 7, 1, 167, 255, 204, 22, 5, 173]
abbrev dktX0_meansFrom_3 : List UInt8 := dkwX0_meansFrom_3 ++ []
def dkwX0_meansFrom_2 : List UInt8 := [42, 180, 0, 106, 27, 21, 7, 79, 22, 5, 42, 27, 4, 96, 28, 33, 42, 180, 0, 46, 180, 1, 32]
abbrev dktX0_meansFrom_2 : List UInt8 := dkwX0_meansFrom_2 ++ dktX0_meansFrom_3
def dkwX0_meansFrom_1 : List UInt8 := [182, 1, 197, 133, 105, 173, 9, 55, 5, 3, 54, 7, 21, 7, 42, 180, 0, 46, 180, 0, 133, 162, 0, 46]
abbrev dktX0_meansFrom_1 : List UInt8 := dkwX0_meansFrom_1 ++ dktX0_meansFrom_2
def dkwX0_meansFrom_0 : List UInt8 := [27, 28, 160, 0, 26, 33, 9, 148, 154, 0, 7, 9, 167, 0, 15, 33, 42, 42, 180, 0, 106, 28]
abbrev dktX0_meansFrom_0 : List UInt8 := dkwX0_meansFrom_0 ++ dktX0_meansFrom_1
theorem dksX0_meansFrom_0 : cX0_meansFrom.data.toList.drop 0 = dktX0_meansFrom_0 := by decide +kernel
theorem dksX0_meansFrom_1 : cX0_meansFrom.data.toList.drop 22 = dktX0_meansFrom_1 := dk_seg dksX0_meansFrom_0 22 rfl rfl
theorem dksX0_meansFrom_2 : cX0_meansFrom.data.toList.drop 46 = dktX0_meansFrom_2 := dk_seg dksX0_meansFrom_1 24 rfl rfl
theorem dksX0_meansFrom_3 : cX0_meansFrom.data.toList.drop 69 = dktX0_meansFrom_3 := dk_seg dksX0_meansFrom_2 23 rfl rfl
theorem dX0_meansFrom_0 : decode cX0_meansFrom 0 = .ok (.iload_n 1, 1) := dk_27 (dk_at dksX0_meansFrom_0 0 rfl rfl)
theorem dX0_meansFrom_1 : decode cX0_meansFrom 1 = .ok (.iload_n 2, 1) := dk_28 (dk_at dksX0_meansFrom_0 1 rfl rfl)
theorem dX0_meansFrom_2 : decode cX0_meansFrom 2 = .ok (.if_icmp .ne 26, 3) := dk_160 0 26 (dk_at dksX0_meansFrom_0 2 rfl rfl)
theorem dX0_meansFrom_5 : decode cX0_meansFrom 5 = .ok (.lload_n 3, 1) := dk_33 (dk_at dksX0_meansFrom_0 5 rfl rfl)
theorem dX0_meansFrom_6 : decode cX0_meansFrom 6 = .ok (.lconst 0, 1) := dk_9 (dk_at dksX0_meansFrom_0 6 rfl rfl)
theorem dX0_meansFrom_7 : decode cX0_meansFrom 7 = .ok (.lcmp, 1) := dk_148 (dk_at dksX0_meansFrom_0 7 rfl rfl)
theorem dX0_meansFrom_8 : decode cX0_meansFrom 8 = .ok (.ifCond .ne 7, 3) := dk_154 0 7 (dk_at dksX0_meansFrom_0 8 rfl rfl)
theorem dX0_meansFrom_11 : decode cX0_meansFrom 11 = .ok (.lconst 0, 1) := dk_9 (dk_at dksX0_meansFrom_0 11 rfl rfl)
theorem dX0_meansFrom_12 : decode cX0_meansFrom 12 = .ok (.goto 15, 3) := dk_167 0 15 (dk_at dksX0_meansFrom_0 12 rfl rfl)
theorem dX0_meansFrom_15 : decode cX0_meansFrom 15 = .ok (.lload_n 3, 1) := dk_33 (dk_at dksX0_meansFrom_0 15 rfl rfl)
theorem dX0_meansFrom_16 : decode cX0_meansFrom 16 = .ok (.aload_n 0, 1) := dk_42 (dk_at dksX0_meansFrom_0 16 rfl rfl)
theorem dX0_meansFrom_17 : decode cX0_meansFrom 17 = .ok (.aload_n 0, 1) := dk_42 (dk_at dksX0_meansFrom_0 17 rfl rfl)
theorem dX0_meansFrom_18 : decode cX0_meansFrom 18 = .ok (.getfield 106, 3) := dk_180 0 106 (dk_at dksX0_meansFrom_0 18 rfl rfl)
theorem dX0_meansFrom_21 : decode cX0_meansFrom 21 = .ok (.iload_n 2, 1) := dk_28 (dk_at dksX0_meansFrom_0 21 rfl rfl)
theorem dX0_meansFrom_22 : decode cX0_meansFrom 22 = .ok (.invokevirtual 453, 3) := dk_182 1 197 (dk_at dksX0_meansFrom_1 0 rfl rfl)
theorem dX0_meansFrom_25 : decode cX0_meansFrom 25 = .ok (.i2l, 1) := dk_133 (dk_at dksX0_meansFrom_1 3 rfl rfl)
theorem dX0_meansFrom_26 : decode cX0_meansFrom 26 = .ok (.lmul, 1) := dk_105 (dk_at dksX0_meansFrom_1 4 rfl rfl)
theorem dX0_meansFrom_27 : decode cX0_meansFrom 27 = .ok (.lreturn, 1) := dk_173 (dk_at dksX0_meansFrom_1 5 rfl rfl)
theorem dX0_meansFrom_28 : decode cX0_meansFrom 28 = .ok (.lconst 0, 1) := dk_9 (dk_at dksX0_meansFrom_1 6 rfl rfl)
theorem dX0_meansFrom_29 : decode cX0_meansFrom 29 = .ok (.lstore 5, 2) := dk_55 5 (dk_at dksX0_meansFrom_1 7 rfl rfl)
theorem dX0_meansFrom_31 : decode cX0_meansFrom 31 = .ok (.iconst 0, 1) := dk_3 (dk_at dksX0_meansFrom_1 9 rfl rfl)
theorem dX0_meansFrom_32 : decode cX0_meansFrom 32 = .ok (.istore 7, 2) := dk_54 7 (dk_at dksX0_meansFrom_1 10 rfl rfl)
theorem dX0_meansFrom_34 : decode cX0_meansFrom 34 = .ok (.iload 7, 2) := dk_21 7 (dk_at dksX0_meansFrom_1 12 rfl rfl)
theorem dX0_meansFrom_36 : decode cX0_meansFrom 36 = .ok (.aload_n 0, 1) := dk_42 (dk_at dksX0_meansFrom_1 14 rfl rfl)
theorem dX0_meansFrom_37 : decode cX0_meansFrom 37 = .ok (.getfield 46, 3) := dk_180 0 46 (dk_at dksX0_meansFrom_1 15 rfl rfl)
theorem dX0_meansFrom_40 : decode cX0_meansFrom 40 = .ok (.getfield 133, 3) := dk_180 0 133 (dk_at dksX0_meansFrom_1 18 rfl rfl)
theorem dX0_meansFrom_43 : decode cX0_meansFrom 43 = .ok (.if_icmp .ge 46, 3) := dk_162 0 46 (dk_at dksX0_meansFrom_1 21 rfl rfl)
theorem dX0_meansFrom_46 : decode cX0_meansFrom 46 = .ok (.aload_n 0, 1) := dk_42 (dk_at dksX0_meansFrom_2 0 rfl rfl)
theorem dX0_meansFrom_47 : decode cX0_meansFrom 47 = .ok (.getfield 106, 3) := dk_180 0 106 (dk_at dksX0_meansFrom_2 1 rfl rfl)
theorem dX0_meansFrom_50 : decode cX0_meansFrom 50 = .ok (.iload_n 1, 1) := dk_27 (dk_at dksX0_meansFrom_2 4 rfl rfl)
theorem dX0_meansFrom_51 : decode cX0_meansFrom 51 = .ok (.iload 7, 2) := dk_21 7 (dk_at dksX0_meansFrom_2 5 rfl rfl)
theorem dX0_meansFrom_53 : decode cX0_meansFrom 53 = .ok (.iastore, 1) := dk_79 (dk_at dksX0_meansFrom_2 7 rfl rfl)
theorem dX0_meansFrom_54 : decode cX0_meansFrom 54 = .ok (.lload 5, 2) := dk_22 5 (dk_at dksX0_meansFrom_2 8 rfl rfl)
theorem dX0_meansFrom_56 : decode cX0_meansFrom 56 = .ok (.aload_n 0, 1) := dk_42 (dk_at dksX0_meansFrom_2 10 rfl rfl)
theorem dX0_meansFrom_57 : decode cX0_meansFrom 57 = .ok (.iload_n 1, 1) := dk_27 (dk_at dksX0_meansFrom_2 11 rfl rfl)
theorem dX0_meansFrom_58 : decode cX0_meansFrom 58 = .ok (.iconst 1, 1) := dk_4 (dk_at dksX0_meansFrom_2 12 rfl rfl)
theorem dX0_meansFrom_59 : decode cX0_meansFrom 59 = .ok (.iadd, 1) := dk_96 (dk_at dksX0_meansFrom_2 13 rfl rfl)
theorem dX0_meansFrom_60 : decode cX0_meansFrom 60 = .ok (.iload_n 2, 1) := dk_28 (dk_at dksX0_meansFrom_2 14 rfl rfl)
theorem dX0_meansFrom_61 : decode cX0_meansFrom 61 = .ok (.lload_n 3, 1) := dk_33 (dk_at dksX0_meansFrom_2 15 rfl rfl)
theorem dX0_meansFrom_62 : decode cX0_meansFrom 62 = .ok (.aload_n 0, 1) := dk_42 (dk_at dksX0_meansFrom_2 16 rfl rfl)
theorem dX0_meansFrom_63 : decode cX0_meansFrom 63 = .ok (.getfield 46, 3) := dk_180 0 46 (dk_at dksX0_meansFrom_2 17 rfl rfl)
theorem dX0_meansFrom_66 : decode cX0_meansFrom 66 = .ok (.getfield 288, 3) := dk_180 1 32 (dk_at dksX0_meansFrom_2 20 rfl rfl)
theorem dX0_meansFrom_69 : decode cX0_meansFrom 69 = .ok (.iload 7, 2) := dk_21 7 (dk_at dksX0_meansFrom_3 0 rfl rfl)
theorem dX0_meansFrom_71 : decode cX0_meansFrom 71 = .ok (.aaload, 1) := dk_50 (dk_at dksX0_meansFrom_3 2 rfl rfl)
theorem dX0_meansFrom_72 : decode cX0_meansFrom 72 = .ok (.getfield 351, 3) := dk_180 1 95 (dk_at dksX0_meansFrom_3 3 rfl rfl)
theorem dX0_meansFrom_75 : decode cX0_meansFrom 75 = .ok (.i2l, 1) := dk_133 (dk_at dksX0_meansFrom_3 6 rfl rfl)
theorem dX0_meansFrom_76 : decode cX0_meansFrom 76 = .ok (.lmul, 1) := dk_105 (dk_at dksX0_meansFrom_3 7 rfl rfl)
theorem dX0_meansFrom_77 : decode cX0_meansFrom 77 = .ok (.invokevirtual 481, 3) := dk_182 1 225 (dk_at dksX0_meansFrom_3 8 rfl rfl)
theorem dX0_meansFrom_80 : decode cX0_meansFrom 80 = .ok (.ladd, 1) := dk_97 (dk_at dksX0_meansFrom_3 11 rfl rfl)
theorem dX0_meansFrom_81 : decode cX0_meansFrom 81 = .ok (.lstore 5, 2) := dk_55 5 (dk_at dksX0_meansFrom_3 12 rfl rfl)
theorem dX0_meansFrom_83 : decode cX0_meansFrom 83 = .ok (.iinc 7 1, 3) := dk_132 7 1 (dk_at dksX0_meansFrom_3 14 rfl rfl)
theorem dX0_meansFrom_86 : decode cX0_meansFrom 86 = .ok (.goto (-52), 3) := dk_167 255 204 (dk_at dksX0_meansFrom_3 17 rfl rfl)
theorem dX0_meansFrom_89 : decode cX0_meansFrom 89 = .ok (.lload 5, 2) := dk_22 5 (dk_at dksX0_meansFrom_3 20 rfl rfl)
theorem dX0_meansFrom_91 : decode cX0_meansFrom 91 = .ok (.lreturn, 1) := dk_173 (dk_at dksX0_meansFrom_3 22 rfl rfl)
abbrev cX0_gap : ByteArray := prog_1_method_87_code
def yX0_gap : MethodName := ⟨RX0, "gap", "(II)I"⟩
def dkwX0_gap_9 : List UInt8 := [21, 5, 172]
abbrev dktX0_gap_9 : List UInt8 := dkwX0_gap_9 ++ []
def dkwX0_gap_8 : List UInt8 := [180, 0, 106, 4, 46, 96, 54, 5, 132, 6, 1, 167, 255, 140, 28, 154, 0, 8, 21, 4, 167, 0, 5]
abbrev dktX0_gap_8 : List UInt8 := dkwX0_gap_8 ++ dktX0_gap_9
def dkwX0_gap_7 : List UInt8 := [21, 7, 54, 4, 27, 4, 160, 0, 8, 21, 6, 167, 0, 19, 16, 10, 42, 180, 0, 106, 3, 46, 104, 42]
abbrev dktX0_gap_7 : List UInt8 := dkwX0_gap_7 ++ dktX0_gap_8
def dkwX0_gap_6 : List UInt8 := [42, 42, 180, 0, 106, 27, 182, 1, 213, 100, 54, 7, 21, 6, 153, 0, 10, 21, 7, 21, 4, 164, 0, 35]
abbrev dktX0_gap_6 : List UInt8 := dkwX0_gap_6 ++ dktX0_gap_7
def dkwX0_gap_5 : List UInt8 := [180, 0, 106, 4, 21, 6, 42, 180, 0, 46, 180, 0, 133, 112, 79, 42, 42, 180, 0, 106, 27, 182, 1, 197]
abbrev dktX0_gap_5 : List UInt8 := dkwX0_gap_5 ++ dktX0_gap_6
def dkwX0_gap_4 : List UInt8 := [3, 27, 4, 160, 0, 8, 21, 6, 167, 0, 13, 21, 6, 42, 180, 0, 46, 180, 0, 133, 108, 79, 42]
abbrev dktX0_gap_4 : List UInt8 := dkwX0_gap_4 ++ dktX0_gap_5
def dkwX0_gap_3 : List UInt8 := [180, 0, 133, 104, 62, 3, 54, 4, 3, 54, 5, 3, 54, 6, 21, 6, 29, 162, 0, 116, 42, 180, 0, 106]
abbrev dktX0_gap_3 : List UInt8 := dkwX0_gap_3 ++ dktX0_gap_4
def dkwX0_gap_2 : List UInt8 := [160, 0, 13, 42, 180, 0, 46, 180, 0, 133, 167, 0, 18, 42, 180, 0, 46, 180, 0, 133, 42, 180, 0, 46]
abbrev dktX0_gap_2 : List UInt8 := dkwX0_gap_2 ++ dktX0_gap_3
def dkwX0_gap_1 : List UInt8 := [180, 0, 46, 180, 0, 133, 154, 0, 6, 18, 3, 172, 42, 182, 1, 89, 42, 182, 1, 210, 27, 4]
abbrev dktX0_gap_1 : List UInt8 := dkwX0_gap_1 ++ dktX0_gap_2
def dkwX0_gap_0 : List UInt8 := [27, 4, 5, 184, 0, 137, 153, 0, 12, 28, 3, 4, 184, 0, 137, 154, 0, 6, 18, 164, 172, 42]
abbrev dktX0_gap_0 : List UInt8 := dkwX0_gap_0 ++ dktX0_gap_1
theorem dksX0_gap_0 : cX0_gap.data.toList.drop 0 = dktX0_gap_0 := by decide +kernel
theorem dksX0_gap_1 : cX0_gap.data.toList.drop 22 = dktX0_gap_1 := dk_seg dksX0_gap_0 22 rfl rfl
theorem dksX0_gap_2 : cX0_gap.data.toList.drop 44 = dktX0_gap_2 := dk_seg dksX0_gap_1 22 rfl rfl
theorem dksX0_gap_3 : cX0_gap.data.toList.drop 68 = dktX0_gap_3 := dk_seg dksX0_gap_2 24 rfl rfl
theorem dksX0_gap_4 : cX0_gap.data.toList.drop 92 = dktX0_gap_4 := dk_seg dksX0_gap_3 24 rfl rfl
theorem dksX0_gap_5 : cX0_gap.data.toList.drop 115 = dktX0_gap_5 := dk_seg dksX0_gap_4 23 rfl rfl
theorem dksX0_gap_6 : cX0_gap.data.toList.drop 139 = dktX0_gap_6 := dk_seg dksX0_gap_5 24 rfl rfl
theorem dksX0_gap_7 : cX0_gap.data.toList.drop 163 = dktX0_gap_7 := dk_seg dksX0_gap_6 24 rfl rfl
theorem dksX0_gap_8 : cX0_gap.data.toList.drop 187 = dktX0_gap_8 := dk_seg dksX0_gap_7 24 rfl rfl
theorem dksX0_gap_9 : cX0_gap.data.toList.drop 210 = dktX0_gap_9 := dk_seg dksX0_gap_8 23 rfl rfl
theorem dX0_gap_0 : decode cX0_gap 0 = .ok (.iload_n 1, 1) := dk_27 (dk_at dksX0_gap_0 0 rfl rfl)
theorem dX0_gap_1 : decode cX0_gap 1 = .ok (.iconst 1, 1) := dk_4 (dk_at dksX0_gap_0 1 rfl rfl)
theorem dX0_gap_2 : decode cX0_gap 2 = .ok (.iconst 2, 1) := dk_5 (dk_at dksX0_gap_0 2 rfl rfl)
theorem dX0_gap_3 : decode cX0_gap 3 = .ok (.invokestatic 137, 3) := dk_184 0 137 (dk_at dksX0_gap_0 3 rfl rfl)
theorem dX0_gap_6 : decode cX0_gap 6 = .ok (.ifCond .eq 12, 3) := dk_153 0 12 (dk_at dksX0_gap_0 6 rfl rfl)
theorem dX0_gap_9 : decode cX0_gap 9 = .ok (.iload_n 2, 1) := dk_28 (dk_at dksX0_gap_0 9 rfl rfl)
theorem dX0_gap_10 : decode cX0_gap 10 = .ok (.iconst 0, 1) := dk_3 (dk_at dksX0_gap_0 10 rfl rfl)
theorem dX0_gap_11 : decode cX0_gap 11 = .ok (.iconst 1, 1) := dk_4 (dk_at dksX0_gap_0 11 rfl rfl)
theorem dX0_gap_12 : decode cX0_gap 12 = .ok (.invokestatic 137, 3) := dk_184 0 137 (dk_at dksX0_gap_0 12 rfl rfl)
theorem dX0_gap_15 : decode cX0_gap 15 = .ok (.ifCond .ne 6, 3) := dk_154 0 6 (dk_at dksX0_gap_0 15 rfl rfl)
theorem dX0_gap_18 : decode cX0_gap 18 = .ok (.ldc 164, 2) := dk_18 164 (dk_at dksX0_gap_0 18 rfl rfl)
theorem dX0_gap_20 : decode cX0_gap 20 = .ok (.ireturn, 1) := dk_172 (dk_at dksX0_gap_0 20 rfl rfl)
theorem dX0_gap_21 : decode cX0_gap 21 = .ok (.aload_n 0, 1) := dk_42 (dk_at dksX0_gap_0 21 rfl rfl)
theorem dX0_gap_22 : decode cX0_gap 22 = .ok (.getfield 46, 3) := dk_180 0 46 (dk_at dksX0_gap_1 0 rfl rfl)
theorem dX0_gap_25 : decode cX0_gap 25 = .ok (.getfield 133, 3) := dk_180 0 133 (dk_at dksX0_gap_1 3 rfl rfl)
theorem dX0_gap_28 : decode cX0_gap 28 = .ok (.ifCond .ne 6, 3) := dk_154 0 6 (dk_at dksX0_gap_1 6 rfl rfl)
theorem dX0_gap_31 : decode cX0_gap 31 = .ok (.ldc 3, 2) := dk_18 3 (dk_at dksX0_gap_1 9 rfl rfl)
theorem dX0_gap_33 : decode cX0_gap 33 = .ok (.ireturn, 1) := dk_172 (dk_at dksX0_gap_1 11 rfl rfl)
theorem dX0_gap_34 : decode cX0_gap 34 = .ok (.aload_n 0, 1) := dk_42 (dk_at dksX0_gap_1 12 rfl rfl)
theorem dX0_gap_35 : decode cX0_gap 35 = .ok (.invokevirtual 345, 3) := dk_182 1 89 (dk_at dksX0_gap_1 13 rfl rfl)
theorem dX0_gap_38 : decode cX0_gap 38 = .ok (.aload_n 0, 1) := dk_42 (dk_at dksX0_gap_1 16 rfl rfl)
theorem dX0_gap_39 : decode cX0_gap 39 = .ok (.invokevirtual 466, 3) := dk_182 1 210 (dk_at dksX0_gap_1 17 rfl rfl)
theorem dX0_gap_42 : decode cX0_gap 42 = .ok (.iload_n 1, 1) := dk_27 (dk_at dksX0_gap_1 20 rfl rfl)
theorem dX0_gap_43 : decode cX0_gap 43 = .ok (.iconst 1, 1) := dk_4 (dk_at dksX0_gap_1 21 rfl rfl)
theorem dX0_gap_44 : decode cX0_gap 44 = .ok (.if_icmp .ne 13, 3) := dk_160 0 13 (dk_at dksX0_gap_2 0 rfl rfl)
theorem dX0_gap_47 : decode cX0_gap 47 = .ok (.aload_n 0, 1) := dk_42 (dk_at dksX0_gap_2 3 rfl rfl)
theorem dX0_gap_48 : decode cX0_gap 48 = .ok (.getfield 46, 3) := dk_180 0 46 (dk_at dksX0_gap_2 4 rfl rfl)
theorem dX0_gap_51 : decode cX0_gap 51 = .ok (.getfield 133, 3) := dk_180 0 133 (dk_at dksX0_gap_2 7 rfl rfl)
theorem dX0_gap_54 : decode cX0_gap 54 = .ok (.goto 18, 3) := dk_167 0 18 (dk_at dksX0_gap_2 10 rfl rfl)
theorem dX0_gap_57 : decode cX0_gap 57 = .ok (.aload_n 0, 1) := dk_42 (dk_at dksX0_gap_2 13 rfl rfl)
theorem dX0_gap_58 : decode cX0_gap 58 = .ok (.getfield 46, 3) := dk_180 0 46 (dk_at dksX0_gap_2 14 rfl rfl)
theorem dX0_gap_61 : decode cX0_gap 61 = .ok (.getfield 133, 3) := dk_180 0 133 (dk_at dksX0_gap_2 17 rfl rfl)
theorem dX0_gap_64 : decode cX0_gap 64 = .ok (.aload_n 0, 1) := dk_42 (dk_at dksX0_gap_2 20 rfl rfl)
theorem dX0_gap_65 : decode cX0_gap 65 = .ok (.getfield 46, 3) := dk_180 0 46 (dk_at dksX0_gap_2 21 rfl rfl)
theorem dX0_gap_68 : decode cX0_gap 68 = .ok (.getfield 133, 3) := dk_180 0 133 (dk_at dksX0_gap_3 0 rfl rfl)
theorem dX0_gap_71 : decode cX0_gap 71 = .ok (.imul, 1) := dk_104 (dk_at dksX0_gap_3 3 rfl rfl)
theorem dX0_gap_72 : decode cX0_gap 72 = .ok (.istore_n 3, 1) := dk_62 (dk_at dksX0_gap_3 4 rfl rfl)
theorem dX0_gap_73 : decode cX0_gap 73 = .ok (.iconst 0, 1) := dk_3 (dk_at dksX0_gap_3 5 rfl rfl)
theorem dX0_gap_74 : decode cX0_gap 74 = .ok (.istore 4, 2) := dk_54 4 (dk_at dksX0_gap_3 6 rfl rfl)
theorem dX0_gap_76 : decode cX0_gap 76 = .ok (.iconst 0, 1) := dk_3 (dk_at dksX0_gap_3 8 rfl rfl)
theorem dX0_gap_77 : decode cX0_gap 77 = .ok (.istore 5, 2) := dk_54 5 (dk_at dksX0_gap_3 9 rfl rfl)
theorem dX0_gap_79 : decode cX0_gap 79 = .ok (.iconst 0, 1) := dk_3 (dk_at dksX0_gap_3 11 rfl rfl)
theorem dX0_gap_80 : decode cX0_gap 80 = .ok (.istore 6, 2) := dk_54 6 (dk_at dksX0_gap_3 12 rfl rfl)
theorem dX0_gap_82 : decode cX0_gap 82 = .ok (.iload 6, 2) := dk_21 6 (dk_at dksX0_gap_3 14 rfl rfl)
theorem dX0_gap_84 : decode cX0_gap 84 = .ok (.iload_n 3, 1) := dk_29 (dk_at dksX0_gap_3 16 rfl rfl)
theorem dX0_gap_85 : decode cX0_gap 85 = .ok (.if_icmp .ge 116, 3) := dk_162 0 116 (dk_at dksX0_gap_3 17 rfl rfl)
theorem dX0_gap_88 : decode cX0_gap 88 = .ok (.aload_n 0, 1) := dk_42 (dk_at dksX0_gap_3 20 rfl rfl)
theorem dX0_gap_89 : decode cX0_gap 89 = .ok (.getfield 106, 3) := dk_180 0 106 (dk_at dksX0_gap_3 21 rfl rfl)
theorem dX0_gap_92 : decode cX0_gap 92 = .ok (.iconst 0, 1) := dk_3 (dk_at dksX0_gap_4 0 rfl rfl)
theorem dX0_gap_93 : decode cX0_gap 93 = .ok (.iload_n 1, 1) := dk_27 (dk_at dksX0_gap_4 1 rfl rfl)
theorem dX0_gap_94 : decode cX0_gap 94 = .ok (.iconst 1, 1) := dk_4 (dk_at dksX0_gap_4 2 rfl rfl)
theorem dX0_gap_95 : decode cX0_gap 95 = .ok (.if_icmp .ne 8, 3) := dk_160 0 8 (dk_at dksX0_gap_4 3 rfl rfl)
theorem dX0_gap_98 : decode cX0_gap 98 = .ok (.iload 6, 2) := dk_21 6 (dk_at dksX0_gap_4 6 rfl rfl)
theorem dX0_gap_100 : decode cX0_gap 100 = .ok (.goto 13, 3) := dk_167 0 13 (dk_at dksX0_gap_4 8 rfl rfl)
theorem dX0_gap_103 : decode cX0_gap 103 = .ok (.iload 6, 2) := dk_21 6 (dk_at dksX0_gap_4 11 rfl rfl)
theorem dX0_gap_105 : decode cX0_gap 105 = .ok (.aload_n 0, 1) := dk_42 (dk_at dksX0_gap_4 13 rfl rfl)
theorem dX0_gap_106 : decode cX0_gap 106 = .ok (.getfield 46, 3) := dk_180 0 46 (dk_at dksX0_gap_4 14 rfl rfl)
theorem dX0_gap_109 : decode cX0_gap 109 = .ok (.getfield 133, 3) := dk_180 0 133 (dk_at dksX0_gap_4 17 rfl rfl)
theorem dX0_gap_112 : decode cX0_gap 112 = .ok (.idiv, 1) := dk_108 (dk_at dksX0_gap_4 20 rfl rfl)
theorem dX0_gap_113 : decode cX0_gap 113 = .ok (.iastore, 1) := dk_79 (dk_at dksX0_gap_4 21 rfl rfl)
theorem dX0_gap_114 : decode cX0_gap 114 = .ok (.aload_n 0, 1) := dk_42 (dk_at dksX0_gap_4 22 rfl rfl)
theorem dX0_gap_115 : decode cX0_gap 115 = .ok (.getfield 106, 3) := dk_180 0 106 (dk_at dksX0_gap_5 0 rfl rfl)
theorem dX0_gap_118 : decode cX0_gap 118 = .ok (.iconst 1, 1) := dk_4 (dk_at dksX0_gap_5 3 rfl rfl)
theorem dX0_gap_119 : decode cX0_gap 119 = .ok (.iload 6, 2) := dk_21 6 (dk_at dksX0_gap_5 4 rfl rfl)
theorem dX0_gap_121 : decode cX0_gap 121 = .ok (.aload_n 0, 1) := dk_42 (dk_at dksX0_gap_5 6 rfl rfl)
theorem dX0_gap_122 : decode cX0_gap 122 = .ok (.getfield 46, 3) := dk_180 0 46 (dk_at dksX0_gap_5 7 rfl rfl)
theorem dX0_gap_125 : decode cX0_gap 125 = .ok (.getfield 133, 3) := dk_180 0 133 (dk_at dksX0_gap_5 10 rfl rfl)
theorem dX0_gap_128 : decode cX0_gap 128 = .ok (.irem, 1) := dk_112 (dk_at dksX0_gap_5 13 rfl rfl)
theorem dX0_gap_129 : decode cX0_gap 129 = .ok (.iastore, 1) := dk_79 (dk_at dksX0_gap_5 14 rfl rfl)
theorem dX0_gap_130 : decode cX0_gap 130 = .ok (.aload_n 0, 1) := dk_42 (dk_at dksX0_gap_5 15 rfl rfl)
theorem dX0_gap_131 : decode cX0_gap 131 = .ok (.aload_n 0, 1) := dk_42 (dk_at dksX0_gap_5 16 rfl rfl)
theorem dX0_gap_132 : decode cX0_gap 132 = .ok (.getfield 106, 3) := dk_180 0 106 (dk_at dksX0_gap_5 17 rfl rfl)
theorem dX0_gap_135 : decode cX0_gap 135 = .ok (.iload_n 1, 1) := dk_27 (dk_at dksX0_gap_5 20 rfl rfl)
theorem dX0_gap_136 : decode cX0_gap 136 = .ok (.invokevirtual 453, 3) := dk_182 1 197 (dk_at dksX0_gap_5 21 rfl rfl)
theorem dX0_gap_139 : decode cX0_gap 139 = .ok (.aload_n 0, 1) := dk_42 (dk_at dksX0_gap_6 0 rfl rfl)
theorem dX0_gap_140 : decode cX0_gap 140 = .ok (.aload_n 0, 1) := dk_42 (dk_at dksX0_gap_6 1 rfl rfl)
theorem dX0_gap_141 : decode cX0_gap 141 = .ok (.getfield 106, 3) := dk_180 0 106 (dk_at dksX0_gap_6 2 rfl rfl)
theorem dX0_gap_144 : decode cX0_gap 144 = .ok (.iload_n 1, 1) := dk_27 (dk_at dksX0_gap_6 5 rfl rfl)
theorem dX0_gap_145 : decode cX0_gap 145 = .ok (.invokevirtual 469, 3) := dk_182 1 213 (dk_at dksX0_gap_6 6 rfl rfl)
theorem dX0_gap_148 : decode cX0_gap 148 = .ok (.isub, 1) := dk_100 (dk_at dksX0_gap_6 9 rfl rfl)
theorem dX0_gap_149 : decode cX0_gap 149 = .ok (.istore 7, 2) := dk_54 7 (dk_at dksX0_gap_6 10 rfl rfl)
theorem dX0_gap_151 : decode cX0_gap 151 = .ok (.iload 6, 2) := dk_21 6 (dk_at dksX0_gap_6 12 rfl rfl)
theorem dX0_gap_153 : decode cX0_gap 153 = .ok (.ifCond .eq 10, 3) := dk_153 0 10 (dk_at dksX0_gap_6 14 rfl rfl)
theorem dX0_gap_156 : decode cX0_gap 156 = .ok (.iload 7, 2) := dk_21 7 (dk_at dksX0_gap_6 17 rfl rfl)
theorem dX0_gap_158 : decode cX0_gap 158 = .ok (.iload 4, 2) := dk_21 4 (dk_at dksX0_gap_6 19 rfl rfl)
theorem dX0_gap_160 : decode cX0_gap 160 = .ok (.if_icmp .le 35, 3) := dk_164 0 35 (dk_at dksX0_gap_6 21 rfl rfl)
theorem dX0_gap_163 : decode cX0_gap 163 = .ok (.iload 7, 2) := dk_21 7 (dk_at dksX0_gap_7 0 rfl rfl)
theorem dX0_gap_165 : decode cX0_gap 165 = .ok (.istore 4, 2) := dk_54 4 (dk_at dksX0_gap_7 2 rfl rfl)
theorem dX0_gap_167 : decode cX0_gap 167 = .ok (.iload_n 1, 1) := dk_27 (dk_at dksX0_gap_7 4 rfl rfl)
theorem dX0_gap_168 : decode cX0_gap 168 = .ok (.iconst 1, 1) := dk_4 (dk_at dksX0_gap_7 5 rfl rfl)
theorem dX0_gap_169 : decode cX0_gap 169 = .ok (.if_icmp .ne 8, 3) := dk_160 0 8 (dk_at dksX0_gap_7 6 rfl rfl)
theorem dX0_gap_172 : decode cX0_gap 172 = .ok (.iload 6, 2) := dk_21 6 (dk_at dksX0_gap_7 9 rfl rfl)
theorem dX0_gap_174 : decode cX0_gap 174 = .ok (.goto 19, 3) := dk_167 0 19 (dk_at dksX0_gap_7 11 rfl rfl)
theorem dX0_gap_177 : decode cX0_gap 177 = .ok (.bipush 10, 2) := dk_16 10 (dk_at dksX0_gap_7 14 rfl rfl)
theorem dX0_gap_179 : decode cX0_gap 179 = .ok (.aload_n 0, 1) := dk_42 (dk_at dksX0_gap_7 16 rfl rfl)
theorem dX0_gap_180 : decode cX0_gap 180 = .ok (.getfield 106, 3) := dk_180 0 106 (dk_at dksX0_gap_7 17 rfl rfl)
theorem dX0_gap_183 : decode cX0_gap 183 = .ok (.iconst 0, 1) := dk_3 (dk_at dksX0_gap_7 20 rfl rfl)
theorem dX0_gap_184 : decode cX0_gap 184 = .ok (.iaload, 1) := dk_46 (dk_at dksX0_gap_7 21 rfl rfl)
theorem dX0_gap_185 : decode cX0_gap 185 = .ok (.imul, 1) := dk_104 (dk_at dksX0_gap_7 22 rfl rfl)
theorem dX0_gap_186 : decode cX0_gap 186 = .ok (.aload_n 0, 1) := dk_42 (dk_at dksX0_gap_7 23 rfl rfl)
theorem dX0_gap_187 : decode cX0_gap 187 = .ok (.getfield 106, 3) := dk_180 0 106 (dk_at dksX0_gap_8 0 rfl rfl)
theorem dX0_gap_190 : decode cX0_gap 190 = .ok (.iconst 1, 1) := dk_4 (dk_at dksX0_gap_8 3 rfl rfl)
theorem dX0_gap_191 : decode cX0_gap 191 = .ok (.iaload, 1) := dk_46 (dk_at dksX0_gap_8 4 rfl rfl)
theorem dX0_gap_192 : decode cX0_gap 192 = .ok (.iadd, 1) := dk_96 (dk_at dksX0_gap_8 5 rfl rfl)
theorem dX0_gap_193 : decode cX0_gap 193 = .ok (.istore 5, 2) := dk_54 5 (dk_at dksX0_gap_8 6 rfl rfl)
theorem dX0_gap_195 : decode cX0_gap 195 = .ok (.iinc 6 1, 3) := dk_132 6 1 (dk_at dksX0_gap_8 8 rfl rfl)
theorem dX0_gap_198 : decode cX0_gap 198 = .ok (.goto (-116), 3) := dk_167 255 140 (dk_at dksX0_gap_8 11 rfl rfl)
theorem dX0_gap_201 : decode cX0_gap 201 = .ok (.iload_n 2, 1) := dk_28 (dk_at dksX0_gap_8 14 rfl rfl)
theorem dX0_gap_202 : decode cX0_gap 202 = .ok (.ifCond .ne 8, 3) := dk_154 0 8 (dk_at dksX0_gap_8 15 rfl rfl)
theorem dX0_gap_205 : decode cX0_gap 205 = .ok (.iload 4, 2) := dk_21 4 (dk_at dksX0_gap_8 18 rfl rfl)
theorem dX0_gap_207 : decode cX0_gap 207 = .ok (.goto 5, 3) := dk_167 0 5 (dk_at dksX0_gap_8 20 rfl rfl)
theorem dX0_gap_210 : decode cX0_gap 210 = .ok (.iload 5, 2) := dk_21 5 (dk_at dksX0_gap_9 0 rfl rfl)
theorem dX0_gap_212 : decode cX0_gap 212 = .ok (.ireturn, 1) := dk_172 (dk_at dksX0_gap_9 2 rfl rfl)
abbrev cX0_sheet : ByteArray := prog_1_method_91_code
def yX0_sheet : MethodName := ⟨RX0, "sheet", "(III)I"⟩
def dkwX0_sheet_3 : List UInt8 := [58, 4, 19, 1, 244, 172]
abbrev dktX0_sheet_3 : List UInt8 := dkwX0_sheet_3 ++ []
def dkwX0_sheet_2 : List UInt8 := [180, 0, 112, 27, 50, 28, 4, 160, 0, 7, 4, 167, 0, 4, 3, 29, 184, 1, 238, 181, 1, 234, 29, 172]
abbrev dktX0_sheet_2 : List UInt8 := dkwX0_sheet_2 ++ dktX0_sheet_3
def dkwX0_sheet_1 : List UInt8 := [164, 0, 6, 18, 164, 172, 28, 156, 0, 15, 42, 180, 0, 112, 27, 50, 1, 181, 1, 234, 3, 172, 42]
abbrev dktX0_sheet_1 : List UInt8 := dkwX0_sheet_1 ++ dktX0_sheet_2
def dkwX0_sheet_0 : List UInt8 := [27, 184, 1, 231, 153, 0, 22, 28, 2, 4, 184, 0, 137, 153, 0, 13, 28, 155, 0, 12, 29, 16, 24]
abbrev dktX0_sheet_0 : List UInt8 := dkwX0_sheet_0 ++ dktX0_sheet_1
theorem dksX0_sheet_0 : cX0_sheet.data.toList.drop 0 = dktX0_sheet_0 := by decide +kernel
theorem dksX0_sheet_1 : cX0_sheet.data.toList.drop 23 = dktX0_sheet_1 := dk_seg dksX0_sheet_0 23 rfl rfl
theorem dksX0_sheet_2 : cX0_sheet.data.toList.drop 46 = dktX0_sheet_2 := dk_seg dksX0_sheet_1 23 rfl rfl
theorem dksX0_sheet_3 : cX0_sheet.data.toList.drop 70 = dktX0_sheet_3 := dk_seg dksX0_sheet_2 24 rfl rfl
theorem dX0_sheet_0 : decode cX0_sheet 0 = .ok (.iload_n 1, 1) := dk_27 (dk_at dksX0_sheet_0 0 rfl rfl)
theorem dX0_sheet_1 : decode cX0_sheet 1 = .ok (.invokestatic 487, 3) := dk_184 1 231 (dk_at dksX0_sheet_0 1 rfl rfl)
theorem dX0_sheet_4 : decode cX0_sheet 4 = .ok (.ifCond .eq 22, 3) := dk_153 0 22 (dk_at dksX0_sheet_0 4 rfl rfl)
theorem dX0_sheet_7 : decode cX0_sheet 7 = .ok (.iload_n 2, 1) := dk_28 (dk_at dksX0_sheet_0 7 rfl rfl)
theorem dX0_sheet_8 : decode cX0_sheet 8 = .ok (.iconst (-1), 1) := dk_2 (dk_at dksX0_sheet_0 8 rfl rfl)
theorem dX0_sheet_9 : decode cX0_sheet 9 = .ok (.iconst 1, 1) := dk_4 (dk_at dksX0_sheet_0 9 rfl rfl)
theorem dX0_sheet_10 : decode cX0_sheet 10 = .ok (.invokestatic 137, 3) := dk_184 0 137 (dk_at dksX0_sheet_0 10 rfl rfl)
theorem dX0_sheet_13 : decode cX0_sheet 13 = .ok (.ifCond .eq 13, 3) := dk_153 0 13 (dk_at dksX0_sheet_0 13 rfl rfl)
theorem dX0_sheet_16 : decode cX0_sheet 16 = .ok (.iload_n 2, 1) := dk_28 (dk_at dksX0_sheet_0 16 rfl rfl)
theorem dX0_sheet_17 : decode cX0_sheet 17 = .ok (.ifCond .lt 12, 3) := dk_155 0 12 (dk_at dksX0_sheet_0 17 rfl rfl)
theorem dX0_sheet_20 : decode cX0_sheet 20 = .ok (.iload_n 3, 1) := dk_29 (dk_at dksX0_sheet_0 20 rfl rfl)
theorem dX0_sheet_21 : decode cX0_sheet 21 = .ok (.bipush 24, 2) := dk_16 24 (dk_at dksX0_sheet_0 21 rfl rfl)
theorem dX0_sheet_23 : decode cX0_sheet 23 = .ok (.if_icmp .le 6, 3) := dk_164 0 6 (dk_at dksX0_sheet_1 0 rfl rfl)
theorem dX0_sheet_26 : decode cX0_sheet 26 = .ok (.ldc 164, 2) := dk_18 164 (dk_at dksX0_sheet_1 3 rfl rfl)
theorem dX0_sheet_28 : decode cX0_sheet 28 = .ok (.ireturn, 1) := dk_172 (dk_at dksX0_sheet_1 5 rfl rfl)
theorem dX0_sheet_29 : decode cX0_sheet 29 = .ok (.iload_n 2, 1) := dk_28 (dk_at dksX0_sheet_1 6 rfl rfl)
theorem dX0_sheet_30 : decode cX0_sheet 30 = .ok (.ifCond .ge 15, 3) := dk_156 0 15 (dk_at dksX0_sheet_1 7 rfl rfl)
theorem dX0_sheet_33 : decode cX0_sheet 33 = .ok (.aload_n 0, 1) := dk_42 (dk_at dksX0_sheet_1 10 rfl rfl)
theorem dX0_sheet_34 : decode cX0_sheet 34 = .ok (.getfield 112, 3) := dk_180 0 112 (dk_at dksX0_sheet_1 11 rfl rfl)
theorem dX0_sheet_37 : decode cX0_sheet 37 = .ok (.iload_n 1, 1) := dk_27 (dk_at dksX0_sheet_1 14 rfl rfl)
theorem dX0_sheet_38 : decode cX0_sheet 38 = .ok (.aaload, 1) := dk_50 (dk_at dksX0_sheet_1 15 rfl rfl)
theorem dX0_sheet_39 : decode cX0_sheet 39 = .ok (.aconst_null, 1) := dk_1 (dk_at dksX0_sheet_1 16 rfl rfl)
theorem dX0_sheet_40 : decode cX0_sheet 40 = .ok (.putfield 490, 3) := dk_181 1 234 (dk_at dksX0_sheet_1 17 rfl rfl)
theorem dX0_sheet_43 : decode cX0_sheet 43 = .ok (.iconst 0, 1) := dk_3 (dk_at dksX0_sheet_1 20 rfl rfl)
theorem dX0_sheet_44 : decode cX0_sheet 44 = .ok (.ireturn, 1) := dk_172 (dk_at dksX0_sheet_1 21 rfl rfl)
theorem dX0_sheet_45 : decode cX0_sheet 45 = .ok (.aload_n 0, 1) := dk_42 (dk_at dksX0_sheet_1 22 rfl rfl)
theorem dX0_sheet_46 : decode cX0_sheet 46 = .ok (.getfield 112, 3) := dk_180 0 112 (dk_at dksX0_sheet_2 0 rfl rfl)
theorem dX0_sheet_49 : decode cX0_sheet 49 = .ok (.iload_n 1, 1) := dk_27 (dk_at dksX0_sheet_2 3 rfl rfl)
theorem dX0_sheet_50 : decode cX0_sheet 50 = .ok (.aaload, 1) := dk_50 (dk_at dksX0_sheet_2 4 rfl rfl)
theorem dX0_sheet_51 : decode cX0_sheet 51 = .ok (.iload_n 2, 1) := dk_28 (dk_at dksX0_sheet_2 5 rfl rfl)
theorem dX0_sheet_52 : decode cX0_sheet 52 = .ok (.iconst 1, 1) := dk_4 (dk_at dksX0_sheet_2 6 rfl rfl)
theorem dX0_sheet_53 : decode cX0_sheet 53 = .ok (.if_icmp .ne 7, 3) := dk_160 0 7 (dk_at dksX0_sheet_2 7 rfl rfl)
theorem dX0_sheet_56 : decode cX0_sheet 56 = .ok (.iconst 1, 1) := dk_4 (dk_at dksX0_sheet_2 10 rfl rfl)
theorem dX0_sheet_57 : decode cX0_sheet 57 = .ok (.goto 4, 3) := dk_167 0 4 (dk_at dksX0_sheet_2 11 rfl rfl)
theorem dX0_sheet_60 : decode cX0_sheet 60 = .ok (.iconst 0, 1) := dk_3 (dk_at dksX0_sheet_2 14 rfl rfl)
theorem dX0_sheet_61 : decode cX0_sheet 61 = .ok (.iload_n 3, 1) := dk_29 (dk_at dksX0_sheet_2 15 rfl rfl)
theorem dX0_sheet_62 : decode cX0_sheet 62 = .ok (.invokestatic 494, 3) := dk_184 1 238 (dk_at dksX0_sheet_2 16 rfl rfl)
theorem dX0_sheet_65 : decode cX0_sheet 65 = .ok (.putfield 490, 3) := dk_181 1 234 (dk_at dksX0_sheet_2 19 rfl rfl)
theorem dX0_sheet_68 : decode cX0_sheet 68 = .ok (.iload_n 3, 1) := dk_29 (dk_at dksX0_sheet_2 22 rfl rfl)
theorem dX0_sheet_69 : decode cX0_sheet 69 = .ok (.ireturn, 1) := dk_172 (dk_at dksX0_sheet_2 23 rfl rfl)
theorem dX0_sheet_70 : decode cX0_sheet 70 = .ok (.astore 4, 2) := dk_58 4 (dk_at dksX0_sheet_3 0 rfl rfl)
theorem dX0_sheet_72 : decode cX0_sheet 72 = .ok (.ldc_w 500, 3) := dk_19 1 244 (dk_at dksX0_sheet_3 2 rfl rfl)
theorem dX0_sheet_75 : decode cX0_sheet 75 = .ok (.ireturn, 1) := dk_172 (dk_at dksX0_sheet_3 5 rfl rfl)
abbrev cX0_isSheet : ByteArray := prog_1_method_88_code
def yX0_isSheet : MethodName := ⟨RX0, "isSheet", "(I)Z"⟩
def dkwX0_isSheet_0 : List UInt8 := [26, 3, 6, 184, 0, 137, 172]
abbrev dktX0_isSheet_0 : List UInt8 := dkwX0_isSheet_0 ++ []
theorem dksX0_isSheet_0 : cX0_isSheet.data.toList.drop 0 = dktX0_isSheet_0 := by decide +kernel
theorem dX0_isSheet_0 : decode cX0_isSheet 0 = .ok (.iload_n 0, 1) := dk_26 (dk_at dksX0_isSheet_0 0 rfl rfl)
theorem dX0_isSheet_1 : decode cX0_isSheet 1 = .ok (.iconst 0, 1) := dk_3 (dk_at dksX0_isSheet_0 1 rfl rfl)
theorem dX0_isSheet_2 : decode cX0_isSheet 2 = .ok (.iconst 3, 1) := dk_6 (dk_at dksX0_isSheet_0 2 rfl rfl)
theorem dX0_isSheet_3 : decode cX0_isSheet 3 = .ok (.invokestatic 137, 3) := dk_184 0 137 (dk_at dksX0_isSheet_0 3 rfl rfl)
theorem dX0_isSheet_6 : decode cX0_isSheet 6 = .ok (.ireturn, 1) := dk_172 (dk_at dksX0_isSheet_0 6 rfl rfl)
abbrev cX0_rowOf : ByteArray := prog_1_method_90_code
def yX0_rowOf : MethodName := ⟨RX0, "rowOf", "(ZI)Ljava/lang/Object;"⟩
def dkwX0_rowOf_0 : List UInt8 := [26, 153, 0, 7, 27, 188, 6, 176, 27, 188, 9, 176]
abbrev dktX0_rowOf_0 : List UInt8 := dkwX0_rowOf_0 ++ []
theorem dksX0_rowOf_0 : cX0_rowOf.data.toList.drop 0 = dktX0_rowOf_0 := by decide +kernel
theorem dX0_rowOf_0 : decode cX0_rowOf 0 = .ok (.iload_n 0, 1) := dk_26 (dk_at dksX0_rowOf_0 0 rfl rfl)
theorem dX0_rowOf_1 : decode cX0_rowOf 1 = .ok (.ifCond .eq 7, 3) := dk_153 0 7 (dk_at dksX0_rowOf_0 1 rfl rfl)
theorem dX0_rowOf_4 : decode cX0_rowOf 4 = .ok (.iload_n 1, 1) := dk_27 (dk_at dksX0_rowOf_0 4 rfl rfl)
theorem dX0_rowOf_5 : decode cX0_rowOf 5 = .ok (.newarray .float, 2) := dk_188_6 (dk_at dksX0_rowOf_0 5 rfl rfl)
theorem dX0_rowOf_7 : decode cX0_rowOf 7 = .ok (.areturn, 1) := dk_176 (dk_at dksX0_rowOf_0 7 rfl rfl)
theorem dX0_rowOf_8 : decode cX0_rowOf 8 = .ok (.iload_n 1, 1) := dk_27 (dk_at dksX0_rowOf_0 8 rfl rfl)
theorem dX0_rowOf_9 : decode cX0_rowOf 9 = .ok (.newarray .short, 2) := dk_188_9 (dk_at dksX0_rowOf_0 9 rfl rfl)
theorem dX0_rowOf_11 : decode cX0_rowOf 11 = .ok (.areturn, 1) := dk_176 (dk_at dksX0_rowOf_0 11 rfl rfl)
abbrev cX0_mark : ByteArray := prog_1_method_93_code
def yX0_mark : MethodName := ⟨RX0, "mark", "(III)I"⟩
def dkwX0_mark_2 : List UInt8 := [28, 29, 184, 2, 8, 167, 0, 6, 19, 2, 12, 172]
abbrev dktX0_mark_2 : List UInt8 := dkwX0_mark_2 ++ []
def dkwX0_mark_1 : List UInt8 := [154, 0, 7, 19, 2, 5, 172, 28, 3, 25, 4, 182, 2, 6, 4, 100, 184, 0, 137, 153, 0, 13, 25, 4]
abbrev dktX0_mark_1 : List UInt8 := dkwX0_mark_1 ++ dktX0_mark_2
def dkwX0_mark_0 : List UInt8 := [27, 184, 1, 231, 154, 0, 6, 18, 164, 172, 42, 180, 0, 112, 27, 50, 58, 4, 25, 4, 182, 2, 2]
abbrev dktX0_mark_0 : List UInt8 := dkwX0_mark_0 ++ dktX0_mark_1
theorem dksX0_mark_0 : cX0_mark.data.toList.drop 0 = dktX0_mark_0 := by decide +kernel
theorem dksX0_mark_1 : cX0_mark.data.toList.drop 23 = dktX0_mark_1 := dk_seg dksX0_mark_0 23 rfl rfl
theorem dksX0_mark_2 : cX0_mark.data.toList.drop 47 = dktX0_mark_2 := dk_seg dksX0_mark_1 24 rfl rfl
theorem dX0_mark_0 : decode cX0_mark 0 = .ok (.iload_n 1, 1) := dk_27 (dk_at dksX0_mark_0 0 rfl rfl)
theorem dX0_mark_1 : decode cX0_mark 1 = .ok (.invokestatic 487, 3) := dk_184 1 231 (dk_at dksX0_mark_0 1 rfl rfl)
theorem dX0_mark_4 : decode cX0_mark 4 = .ok (.ifCond .ne 6, 3) := dk_154 0 6 (dk_at dksX0_mark_0 4 rfl rfl)
theorem dX0_mark_7 : decode cX0_mark 7 = .ok (.ldc 164, 2) := dk_18 164 (dk_at dksX0_mark_0 7 rfl rfl)
theorem dX0_mark_9 : decode cX0_mark 9 = .ok (.ireturn, 1) := dk_172 (dk_at dksX0_mark_0 9 rfl rfl)
theorem dX0_mark_10 : decode cX0_mark 10 = .ok (.aload_n 0, 1) := dk_42 (dk_at dksX0_mark_0 10 rfl rfl)
theorem dX0_mark_11 : decode cX0_mark 11 = .ok (.getfield 112, 3) := dk_180 0 112 (dk_at dksX0_mark_0 11 rfl rfl)
theorem dX0_mark_14 : decode cX0_mark 14 = .ok (.iload_n 1, 1) := dk_27 (dk_at dksX0_mark_0 14 rfl rfl)
theorem dX0_mark_15 : decode cX0_mark 15 = .ok (.aaload, 1) := dk_50 (dk_at dksX0_mark_0 15 rfl rfl)
theorem dX0_mark_16 : decode cX0_mark 16 = .ok (.astore 4, 2) := dk_58 4 (dk_at dksX0_mark_0 16 rfl rfl)
theorem dX0_mark_18 : decode cX0_mark 18 = .ok (.aload 4, 2) := dk_25 4 (dk_at dksX0_mark_0 18 rfl rfl)
theorem dX0_mark_20 : decode cX0_mark 20 = .ok (.invokevirtual 514, 3) := dk_182 2 2 (dk_at dksX0_mark_0 20 rfl rfl)
theorem dX0_mark_23 : decode cX0_mark 23 = .ok (.ifCond .ne 7, 3) := dk_154 0 7 (dk_at dksX0_mark_1 0 rfl rfl)
theorem dX0_mark_26 : decode cX0_mark 26 = .ok (.ldc_w 517, 3) := dk_19 2 5 (dk_at dksX0_mark_1 3 rfl rfl)
theorem dX0_mark_29 : decode cX0_mark 29 = .ok (.ireturn, 1) := dk_172 (dk_at dksX0_mark_1 6 rfl rfl)
theorem dX0_mark_30 : decode cX0_mark 30 = .ok (.iload_n 2, 1) := dk_28 (dk_at dksX0_mark_1 7 rfl rfl)
theorem dX0_mark_31 : decode cX0_mark 31 = .ok (.iconst 0, 1) := dk_3 (dk_at dksX0_mark_1 8 rfl rfl)
theorem dX0_mark_32 : decode cX0_mark 32 = .ok (.aload 4, 2) := dk_25 4 (dk_at dksX0_mark_1 9 rfl rfl)
theorem dX0_mark_34 : decode cX0_mark 34 = .ok (.invokevirtual 518, 3) := dk_182 2 6 (dk_at dksX0_mark_1 11 rfl rfl)
theorem dX0_mark_37 : decode cX0_mark 37 = .ok (.iconst 1, 1) := dk_4 (dk_at dksX0_mark_1 14 rfl rfl)
theorem dX0_mark_38 : decode cX0_mark 38 = .ok (.isub, 1) := dk_100 (dk_at dksX0_mark_1 15 rfl rfl)
theorem dX0_mark_39 : decode cX0_mark 39 = .ok (.invokestatic 137, 3) := dk_184 0 137 (dk_at dksX0_mark_1 16 rfl rfl)
theorem dX0_mark_42 : decode cX0_mark 42 = .ok (.ifCond .eq 13, 3) := dk_153 0 13 (dk_at dksX0_mark_1 19 rfl rfl)
theorem dX0_mark_45 : decode cX0_mark 45 = .ok (.aload 4, 2) := dk_25 4 (dk_at dksX0_mark_1 22 rfl rfl)
theorem dX0_mark_47 : decode cX0_mark 47 = .ok (.iload_n 2, 1) := dk_28 (dk_at dksX0_mark_2 0 rfl rfl)
theorem dX0_mark_48 : decode cX0_mark 48 = .ok (.iload_n 3, 1) := dk_29 (dk_at dksX0_mark_2 1 rfl rfl)
theorem dX0_mark_49 : decode cX0_mark 49 = .ok (.invokestatic 520, 3) := dk_184 2 8 (dk_at dksX0_mark_2 2 rfl rfl)
theorem dX0_mark_52 : decode cX0_mark 52 = .ok (.goto 6, 3) := dk_167 0 6 (dk_at dksX0_mark_2 5 rfl rfl)
theorem dX0_mark_55 : decode cX0_mark 55 = .ok (.ldc_w 524, 3) := dk_19 2 12 (dk_at dksX0_mark_2 8 rfl rfl)
theorem dX0_mark_58 : decode cX0_mark 58 = .ok (.ireturn, 1) := dk_172 (dk_at dksX0_mark_2 11 rfl rfl)
abbrev cX0_markIn : ByteArray := prog_1_method_92_code
def yX0_markIn : MethodName := ⟨RX0, "markIn", "(LKeptLeaves$Sheet;II)I"⟩
def dkwX0_markIn_2 : List UInt8 := [154, 0, 6, 18, 164, 172, 42, 27, 28, 182, 1, 255, 4, 172]
abbrev dktX0_markIn_2 : List UInt8 := dkwX0_markIn_2 ++ []
def dkwX0_markIn_1 : List UInt8 := [27, 19, 1, 252, 81, 4, 172, 42, 182, 1, 245, 153, 0, 19, 28, 19, 1, 253, 19, 1, 254, 184, 0, 137]
abbrev dktX0_markIn_1 : List UInt8 := dkwX0_markIn_1 ++ dktX0_markIn_2
def dkwX0_markIn_0 : List UInt8 := [28, 18, 3, 160, 0, 28, 42, 182, 1, 245, 154, 0, 7, 19, 1, 117, 172, 42, 180, 1, 234, 192, 1, 249]
abbrev dktX0_markIn_0 : List UInt8 := dkwX0_markIn_0 ++ dktX0_markIn_1
theorem dksX0_markIn_0 : cX0_markIn.data.toList.drop 0 = dktX0_markIn_0 := by decide +kernel
theorem dksX0_markIn_1 : cX0_markIn.data.toList.drop 24 = dktX0_markIn_1 := dk_seg dksX0_markIn_0 24 rfl rfl
theorem dksX0_markIn_2 : cX0_markIn.data.toList.drop 48 = dktX0_markIn_2 := dk_seg dksX0_markIn_1 24 rfl rfl
theorem dX0_markIn_0 : decode cX0_markIn 0 = .ok (.iload_n 2, 1) := dk_28 (dk_at dksX0_markIn_0 0 rfl rfl)
theorem dX0_markIn_1 : decode cX0_markIn 1 = .ok (.ldc 3, 2) := dk_18 3 (dk_at dksX0_markIn_0 1 rfl rfl)
theorem dX0_markIn_3 : decode cX0_markIn 3 = .ok (.if_icmp .ne 28, 3) := dk_160 0 28 (dk_at dksX0_markIn_0 3 rfl rfl)
theorem dX0_markIn_6 : decode cX0_markIn 6 = .ok (.aload_n 0, 1) := dk_42 (dk_at dksX0_markIn_0 6 rfl rfl)
theorem dX0_markIn_7 : decode cX0_markIn 7 = .ok (.invokevirtual 501, 3) := dk_182 1 245 (dk_at dksX0_markIn_0 7 rfl rfl)
theorem dX0_markIn_10 : decode cX0_markIn 10 = .ok (.ifCond .ne 7, 3) := dk_154 0 7 (dk_at dksX0_markIn_0 10 rfl rfl)
theorem dX0_markIn_13 : decode cX0_markIn 13 = .ok (.ldc_w 373, 3) := dk_19 1 117 (dk_at dksX0_markIn_0 13 rfl rfl)
theorem dX0_markIn_16 : decode cX0_markIn 16 = .ok (.ireturn, 1) := dk_172 (dk_at dksX0_markIn_0 16 rfl rfl)
theorem dX0_markIn_17 : decode cX0_markIn 17 = .ok (.aload_n 0, 1) := dk_42 (dk_at dksX0_markIn_0 17 rfl rfl)
theorem dX0_markIn_18 : decode cX0_markIn 18 = .ok (.getfield 490, 3) := dk_180 1 234 (dk_at dksX0_markIn_0 18 rfl rfl)
theorem dX0_markIn_21 : decode cX0_markIn 21 = .ok (.checkcast 505, 3) := dk_192 1 249 (dk_at dksX0_markIn_0 21 rfl rfl)
theorem dX0_markIn_24 : decode cX0_markIn 24 = .ok (.iload_n 1, 1) := dk_27 (dk_at dksX0_markIn_1 0 rfl rfl)
theorem dX0_markIn_25 : decode cX0_markIn 25 = .ok (.ldc_w 508, 3) := dk_19 1 252 (dk_at dksX0_markIn_1 1 rfl rfl)
theorem dX0_markIn_28 : decode cX0_markIn 28 = .ok (.fastore, 1) := dk_81 (dk_at dksX0_markIn_1 4 rfl rfl)
theorem dX0_markIn_29 : decode cX0_markIn 29 = .ok (.iconst 1, 1) := dk_4 (dk_at dksX0_markIn_1 5 rfl rfl)
theorem dX0_markIn_30 : decode cX0_markIn 30 = .ok (.ireturn, 1) := dk_172 (dk_at dksX0_markIn_1 6 rfl rfl)
theorem dX0_markIn_31 : decode cX0_markIn 31 = .ok (.aload_n 0, 1) := dk_42 (dk_at dksX0_markIn_1 7 rfl rfl)
theorem dX0_markIn_32 : decode cX0_markIn 32 = .ok (.invokevirtual 501, 3) := dk_182 1 245 (dk_at dksX0_markIn_1 8 rfl rfl)
theorem dX0_markIn_35 : decode cX0_markIn 35 = .ok (.ifCond .eq 19, 3) := dk_153 0 19 (dk_at dksX0_markIn_1 11 rfl rfl)
theorem dX0_markIn_38 : decode cX0_markIn 38 = .ok (.iload_n 2, 1) := dk_28 (dk_at dksX0_markIn_1 14 rfl rfl)
theorem dX0_markIn_39 : decode cX0_markIn 39 = .ok (.ldc_w 509, 3) := dk_19 1 253 (dk_at dksX0_markIn_1 15 rfl rfl)
theorem dX0_markIn_42 : decode cX0_markIn 42 = .ok (.ldc_w 510, 3) := dk_19 1 254 (dk_at dksX0_markIn_1 18 rfl rfl)
theorem dX0_markIn_45 : decode cX0_markIn 45 = .ok (.invokestatic 137, 3) := dk_184 0 137 (dk_at dksX0_markIn_1 21 rfl rfl)
theorem dX0_markIn_48 : decode cX0_markIn 48 = .ok (.ifCond .ne 6, 3) := dk_154 0 6 (dk_at dksX0_markIn_2 0 rfl rfl)
theorem dX0_markIn_51 : decode cX0_markIn 51 = .ok (.ldc 164, 2) := dk_18 164 (dk_at dksX0_markIn_2 3 rfl rfl)
theorem dX0_markIn_53 : decode cX0_markIn 53 = .ok (.ireturn, 1) := dk_172 (dk_at dksX0_markIn_2 5 rfl rfl)
theorem dX0_markIn_54 : decode cX0_markIn 54 = .ok (.aload_n 0, 1) := dk_42 (dk_at dksX0_markIn_2 6 rfl rfl)
theorem dX0_markIn_55 : decode cX0_markIn 55 = .ok (.iload_n 1, 1) := dk_27 (dk_at dksX0_markIn_2 7 rfl rfl)
theorem dX0_markIn_56 : decode cX0_markIn 56 = .ok (.iload_n 2, 1) := dk_28 (dk_at dksX0_markIn_2 8 rfl rfl)
theorem dX0_markIn_57 : decode cX0_markIn 57 = .ok (.invokevirtual 511, 3) := dk_182 1 255 (dk_at dksX0_markIn_2 9 rfl rfl)
theorem dX0_markIn_60 : decode cX0_markIn 60 = .ok (.iconst 1, 1) := dk_4 (dk_at dksX0_markIn_2 12 rfl rfl)
theorem dX0_markIn_61 : decode cX0_markIn 61 = .ok (.ireturn, 1) := dk_172 (dk_at dksX0_markIn_2 13 rfl rfl)
abbrev cX0_pour : ByteArray := prog_1_method_94_code
def yX0_pour : MethodName := ⟨RX0, "pour", "(I)I"⟩
def dkwX0_pour_4 : List UInt8 := [180, 0, 46, 89, 180, 1, 182, 4, 96, 181, 1, 182, 132, 3, 1, 167, 255, 177, 29, 172]
abbrev dktX0_pour_4 : List UInt8 := dkwX0_pour_4 ++ []
def dkwX0_pour_3 : List UInt8 := [167, 0, 42, 42, 180, 0, 46, 180, 1, 185, 42, 180, 0, 46, 180, 1, 182, 44, 29, 182, 2, 16, 79, 42]
abbrev dktX0_pour_3 : List UInt8 := dkwX0_pour_3 ++ dktX0_pour_4
def dkwX0_pour_2 : List UInt8 := [29, 182, 2, 16, 182, 1, 58, 153, 0, 57, 42, 180, 0, 46, 180, 1, 182, 16, 24, 160, 0, 6]
abbrev dktX0_pour_2 : List UInt8 := dkwX0_pour_2 ++ dktX0_pour_3
def dkwX0_pour_1 : List UInt8 := [19, 2, 5, 172, 3, 62, 29, 44, 182, 2, 6, 162, 0, 77, 44, 29, 182, 2, 13, 153, 0, 69, 42, 44]
abbrev dktX0_pour_1 : List UInt8 := dkwX0_pour_1 ++ dktX0_pour_2
def dkwX0_pour_0 : List UInt8 := [27, 184, 1, 231, 154, 0, 6, 18, 164, 172, 42, 180, 0, 112, 27, 50, 77, 44, 182, 2, 2, 154, 0, 7]
abbrev dktX0_pour_0 : List UInt8 := dkwX0_pour_0 ++ dktX0_pour_1
theorem dksX0_pour_0 : cX0_pour.data.toList.drop 0 = dktX0_pour_0 := by decide +kernel
theorem dksX0_pour_1 : cX0_pour.data.toList.drop 24 = dktX0_pour_1 := dk_seg dksX0_pour_0 24 rfl rfl
theorem dksX0_pour_2 : cX0_pour.data.toList.drop 48 = dktX0_pour_2 := dk_seg dksX0_pour_1 24 rfl rfl
theorem dksX0_pour_3 : cX0_pour.data.toList.drop 70 = dktX0_pour_3 := dk_seg dksX0_pour_2 22 rfl rfl
theorem dksX0_pour_4 : cX0_pour.data.toList.drop 94 = dktX0_pour_4 := dk_seg dksX0_pour_3 24 rfl rfl
theorem dX0_pour_0 : decode cX0_pour 0 = .ok (.iload_n 1, 1) := dk_27 (dk_at dksX0_pour_0 0 rfl rfl)
theorem dX0_pour_1 : decode cX0_pour 1 = .ok (.invokestatic 487, 3) := dk_184 1 231 (dk_at dksX0_pour_0 1 rfl rfl)
theorem dX0_pour_4 : decode cX0_pour 4 = .ok (.ifCond .ne 6, 3) := dk_154 0 6 (dk_at dksX0_pour_0 4 rfl rfl)
theorem dX0_pour_7 : decode cX0_pour 7 = .ok (.ldc 164, 2) := dk_18 164 (dk_at dksX0_pour_0 7 rfl rfl)
theorem dX0_pour_9 : decode cX0_pour 9 = .ok (.ireturn, 1) := dk_172 (dk_at dksX0_pour_0 9 rfl rfl)
theorem dX0_pour_10 : decode cX0_pour 10 = .ok (.aload_n 0, 1) := dk_42 (dk_at dksX0_pour_0 10 rfl rfl)
theorem dX0_pour_11 : decode cX0_pour 11 = .ok (.getfield 112, 3) := dk_180 0 112 (dk_at dksX0_pour_0 11 rfl rfl)
theorem dX0_pour_14 : decode cX0_pour 14 = .ok (.iload_n 1, 1) := dk_27 (dk_at dksX0_pour_0 14 rfl rfl)
theorem dX0_pour_15 : decode cX0_pour 15 = .ok (.aaload, 1) := dk_50 (dk_at dksX0_pour_0 15 rfl rfl)
theorem dX0_pour_16 : decode cX0_pour 16 = .ok (.astore_n 2, 1) := dk_77 (dk_at dksX0_pour_0 16 rfl rfl)
theorem dX0_pour_17 : decode cX0_pour 17 = .ok (.aload_n 2, 1) := dk_44 (dk_at dksX0_pour_0 17 rfl rfl)
theorem dX0_pour_18 : decode cX0_pour 18 = .ok (.invokevirtual 514, 3) := dk_182 2 2 (dk_at dksX0_pour_0 18 rfl rfl)
theorem dX0_pour_21 : decode cX0_pour 21 = .ok (.ifCond .ne 7, 3) := dk_154 0 7 (dk_at dksX0_pour_0 21 rfl rfl)
theorem dX0_pour_24 : decode cX0_pour 24 = .ok (.ldc_w 517, 3) := dk_19 2 5 (dk_at dksX0_pour_1 0 rfl rfl)
theorem dX0_pour_27 : decode cX0_pour 27 = .ok (.ireturn, 1) := dk_172 (dk_at dksX0_pour_1 3 rfl rfl)
theorem dX0_pour_28 : decode cX0_pour 28 = .ok (.iconst 0, 1) := dk_3 (dk_at dksX0_pour_1 4 rfl rfl)
theorem dX0_pour_29 : decode cX0_pour 29 = .ok (.istore_n 3, 1) := dk_62 (dk_at dksX0_pour_1 5 rfl rfl)
theorem dX0_pour_30 : decode cX0_pour 30 = .ok (.iload_n 3, 1) := dk_29 (dk_at dksX0_pour_1 6 rfl rfl)
theorem dX0_pour_31 : decode cX0_pour 31 = .ok (.aload_n 2, 1) := dk_44 (dk_at dksX0_pour_1 7 rfl rfl)
theorem dX0_pour_32 : decode cX0_pour 32 = .ok (.invokevirtual 518, 3) := dk_182 2 6 (dk_at dksX0_pour_1 8 rfl rfl)
theorem dX0_pour_35 : decode cX0_pour 35 = .ok (.if_icmp .ge 77, 3) := dk_162 0 77 (dk_at dksX0_pour_1 11 rfl rfl)
theorem dX0_pour_38 : decode cX0_pour 38 = .ok (.aload_n 2, 1) := dk_44 (dk_at dksX0_pour_1 14 rfl rfl)
theorem dX0_pour_39 : decode cX0_pour 39 = .ok (.iload_n 3, 1) := dk_29 (dk_at dksX0_pour_1 15 rfl rfl)
theorem dX0_pour_40 : decode cX0_pour 40 = .ok (.invokevirtual 525, 3) := dk_182 2 13 (dk_at dksX0_pour_1 16 rfl rfl)
theorem dX0_pour_43 : decode cX0_pour 43 = .ok (.ifCond .eq 69, 3) := dk_153 0 69 (dk_at dksX0_pour_1 19 rfl rfl)
theorem dX0_pour_46 : decode cX0_pour 46 = .ok (.aload_n 0, 1) := dk_42 (dk_at dksX0_pour_1 22 rfl rfl)
theorem dX0_pour_47 : decode cX0_pour 47 = .ok (.aload_n 2, 1) := dk_44 (dk_at dksX0_pour_1 23 rfl rfl)
theorem dX0_pour_48 : decode cX0_pour 48 = .ok (.iload_n 3, 1) := dk_29 (dk_at dksX0_pour_2 0 rfl rfl)
theorem dX0_pour_49 : decode cX0_pour 49 = .ok (.invokevirtual 528, 3) := dk_182 2 16 (dk_at dksX0_pour_2 1 rfl rfl)
theorem dX0_pour_52 : decode cX0_pour 52 = .ok (.invokevirtual 314, 3) := dk_182 1 58 (dk_at dksX0_pour_2 4 rfl rfl)
theorem dX0_pour_55 : decode cX0_pour 55 = .ok (.ifCond .eq 57, 3) := dk_153 0 57 (dk_at dksX0_pour_2 7 rfl rfl)
theorem dX0_pour_58 : decode cX0_pour 58 = .ok (.aload_n 0, 1) := dk_42 (dk_at dksX0_pour_2 10 rfl rfl)
theorem dX0_pour_59 : decode cX0_pour 59 = .ok (.getfield 46, 3) := dk_180 0 46 (dk_at dksX0_pour_2 11 rfl rfl)
theorem dX0_pour_62 : decode cX0_pour 62 = .ok (.getfield 438, 3) := dk_180 1 182 (dk_at dksX0_pour_2 14 rfl rfl)
theorem dX0_pour_65 : decode cX0_pour 65 = .ok (.bipush 24, 2) := dk_16 24 (dk_at dksX0_pour_2 17 rfl rfl)
theorem dX0_pour_67 : decode cX0_pour 67 = .ok (.if_icmp .ne 6, 3) := dk_160 0 6 (dk_at dksX0_pour_2 19 rfl rfl)
theorem dX0_pour_70 : decode cX0_pour 70 = .ok (.goto 42, 3) := dk_167 0 42 (dk_at dksX0_pour_3 0 rfl rfl)
theorem dX0_pour_73 : decode cX0_pour 73 = .ok (.aload_n 0, 1) := dk_42 (dk_at dksX0_pour_3 3 rfl rfl)
theorem dX0_pour_74 : decode cX0_pour 74 = .ok (.getfield 46, 3) := dk_180 0 46 (dk_at dksX0_pour_3 4 rfl rfl)
theorem dX0_pour_77 : decode cX0_pour 77 = .ok (.getfield 441, 3) := dk_180 1 185 (dk_at dksX0_pour_3 7 rfl rfl)
theorem dX0_pour_80 : decode cX0_pour 80 = .ok (.aload_n 0, 1) := dk_42 (dk_at dksX0_pour_3 10 rfl rfl)
theorem dX0_pour_81 : decode cX0_pour 81 = .ok (.getfield 46, 3) := dk_180 0 46 (dk_at dksX0_pour_3 11 rfl rfl)
theorem dX0_pour_84 : decode cX0_pour 84 = .ok (.getfield 438, 3) := dk_180 1 182 (dk_at dksX0_pour_3 14 rfl rfl)
theorem dX0_pour_87 : decode cX0_pour 87 = .ok (.aload_n 2, 1) := dk_44 (dk_at dksX0_pour_3 17 rfl rfl)
theorem dX0_pour_88 : decode cX0_pour 88 = .ok (.iload_n 3, 1) := dk_29 (dk_at dksX0_pour_3 18 rfl rfl)
theorem dX0_pour_89 : decode cX0_pour 89 = .ok (.invokevirtual 528, 3) := dk_182 2 16 (dk_at dksX0_pour_3 19 rfl rfl)
theorem dX0_pour_92 : decode cX0_pour 92 = .ok (.iastore, 1) := dk_79 (dk_at dksX0_pour_3 22 rfl rfl)
theorem dX0_pour_93 : decode cX0_pour 93 = .ok (.aload_n 0, 1) := dk_42 (dk_at dksX0_pour_3 23 rfl rfl)
theorem dX0_pour_94 : decode cX0_pour 94 = .ok (.getfield 46, 3) := dk_180 0 46 (dk_at dksX0_pour_4 0 rfl rfl)
theorem dX0_pour_97 : decode cX0_pour 97 = .ok (.dup, 1) := dk_89 (dk_at dksX0_pour_4 3 rfl rfl)
theorem dX0_pour_98 : decode cX0_pour 98 = .ok (.getfield 438, 3) := dk_180 1 182 (dk_at dksX0_pour_4 4 rfl rfl)
theorem dX0_pour_101 : decode cX0_pour 101 = .ok (.iconst 1, 1) := dk_4 (dk_at dksX0_pour_4 7 rfl rfl)
theorem dX0_pour_102 : decode cX0_pour 102 = .ok (.iadd, 1) := dk_96 (dk_at dksX0_pour_4 8 rfl rfl)
theorem dX0_pour_103 : decode cX0_pour 103 = .ok (.putfield 438, 3) := dk_181 1 182 (dk_at dksX0_pour_4 9 rfl rfl)
theorem dX0_pour_106 : decode cX0_pour 106 = .ok (.iinc 3 1, 3) := dk_132 3 1 (dk_at dksX0_pour_4 12 rfl rfl)
theorem dX0_pour_109 : decode cX0_pour 109 = .ok (.goto (-79), 3) := dk_167 255 177 (dk_at dksX0_pour_4 15 rfl rfl)
theorem dX0_pour_112 : decode cX0_pour 112 = .ok (.iload_n 3, 1) := dk_29 (dk_at dksX0_pour_4 18 rfl rfl)
theorem dX0_pour_113 : decode cX0_pour 113 = .ok (.ireturn, 1) := dk_172 (dk_at dksX0_pour_4 19 rfl rfl)
abbrev cX0_reads : ByteArray := prog_1_method_95_code
def yX0_reads : MethodName := ⟨RX0, "reads", "(I)I"⟩
def dkwX0_reads_3 : List UInt8 := [172, 132, 3, 1, 167, 255, 210, 18, 3, 172]
abbrev dktX0_reads_3 : List UInt8 := dkwX0_reads_3 ++ []
def dkwX0_reads_2 : List UInt8 := [182, 1, 58, 153, 0, 20, 44, 29, 182, 2, 16, 42, 180, 0, 66, 180, 1, 52, 29, 46, 159, 0, 5, 29]
abbrev dktX0_reads_2 : List UInt8 := dkwX0_reads_2 ++ dktX0_reads_3
def dkwX0_reads_1 : List UInt8 := [19, 2, 5, 172, 3, 62, 29, 44, 182, 2, 6, 162, 0, 44, 44, 29, 182, 2, 13, 153, 0, 30, 42, 29]
abbrev dktX0_reads_1 : List UInt8 := dkwX0_reads_1 ++ dktX0_reads_2
def dkwX0_reads_0 : List UInt8 := [27, 184, 1, 231, 154, 0, 6, 18, 164, 172, 42, 180, 0, 112, 27, 50, 77, 44, 182, 2, 2, 154, 0, 7]
abbrev dktX0_reads_0 : List UInt8 := dkwX0_reads_0 ++ dktX0_reads_1
theorem dksX0_reads_0 : cX0_reads.data.toList.drop 0 = dktX0_reads_0 := by decide +kernel
theorem dksX0_reads_1 : cX0_reads.data.toList.drop 24 = dktX0_reads_1 := dk_seg dksX0_reads_0 24 rfl rfl
theorem dksX0_reads_2 : cX0_reads.data.toList.drop 48 = dktX0_reads_2 := dk_seg dksX0_reads_1 24 rfl rfl
theorem dksX0_reads_3 : cX0_reads.data.toList.drop 72 = dktX0_reads_3 := dk_seg dksX0_reads_2 24 rfl rfl
theorem dX0_reads_0 : decode cX0_reads 0 = .ok (.iload_n 1, 1) := dk_27 (dk_at dksX0_reads_0 0 rfl rfl)
theorem dX0_reads_1 : decode cX0_reads 1 = .ok (.invokestatic 487, 3) := dk_184 1 231 (dk_at dksX0_reads_0 1 rfl rfl)
theorem dX0_reads_4 : decode cX0_reads 4 = .ok (.ifCond .ne 6, 3) := dk_154 0 6 (dk_at dksX0_reads_0 4 rfl rfl)
theorem dX0_reads_7 : decode cX0_reads 7 = .ok (.ldc 164, 2) := dk_18 164 (dk_at dksX0_reads_0 7 rfl rfl)
theorem dX0_reads_9 : decode cX0_reads 9 = .ok (.ireturn, 1) := dk_172 (dk_at dksX0_reads_0 9 rfl rfl)
theorem dX0_reads_10 : decode cX0_reads 10 = .ok (.aload_n 0, 1) := dk_42 (dk_at dksX0_reads_0 10 rfl rfl)
theorem dX0_reads_11 : decode cX0_reads 11 = .ok (.getfield 112, 3) := dk_180 0 112 (dk_at dksX0_reads_0 11 rfl rfl)
theorem dX0_reads_14 : decode cX0_reads 14 = .ok (.iload_n 1, 1) := dk_27 (dk_at dksX0_reads_0 14 rfl rfl)
theorem dX0_reads_15 : decode cX0_reads 15 = .ok (.aaload, 1) := dk_50 (dk_at dksX0_reads_0 15 rfl rfl)
theorem dX0_reads_16 : decode cX0_reads 16 = .ok (.astore_n 2, 1) := dk_77 (dk_at dksX0_reads_0 16 rfl rfl)
theorem dX0_reads_17 : decode cX0_reads 17 = .ok (.aload_n 2, 1) := dk_44 (dk_at dksX0_reads_0 17 rfl rfl)
theorem dX0_reads_18 : decode cX0_reads 18 = .ok (.invokevirtual 514, 3) := dk_182 2 2 (dk_at dksX0_reads_0 18 rfl rfl)
theorem dX0_reads_21 : decode cX0_reads 21 = .ok (.ifCond .ne 7, 3) := dk_154 0 7 (dk_at dksX0_reads_0 21 rfl rfl)
theorem dX0_reads_24 : decode cX0_reads 24 = .ok (.ldc_w 517, 3) := dk_19 2 5 (dk_at dksX0_reads_1 0 rfl rfl)
theorem dX0_reads_27 : decode cX0_reads 27 = .ok (.ireturn, 1) := dk_172 (dk_at dksX0_reads_1 3 rfl rfl)
theorem dX0_reads_28 : decode cX0_reads 28 = .ok (.iconst 0, 1) := dk_3 (dk_at dksX0_reads_1 4 rfl rfl)
theorem dX0_reads_29 : decode cX0_reads 29 = .ok (.istore_n 3, 1) := dk_62 (dk_at dksX0_reads_1 5 rfl rfl)
theorem dX0_reads_30 : decode cX0_reads 30 = .ok (.iload_n 3, 1) := dk_29 (dk_at dksX0_reads_1 6 rfl rfl)
theorem dX0_reads_31 : decode cX0_reads 31 = .ok (.aload_n 2, 1) := dk_44 (dk_at dksX0_reads_1 7 rfl rfl)
theorem dX0_reads_32 : decode cX0_reads 32 = .ok (.invokevirtual 518, 3) := dk_182 2 6 (dk_at dksX0_reads_1 8 rfl rfl)
theorem dX0_reads_35 : decode cX0_reads 35 = .ok (.if_icmp .ge 44, 3) := dk_162 0 44 (dk_at dksX0_reads_1 11 rfl rfl)
theorem dX0_reads_38 : decode cX0_reads 38 = .ok (.aload_n 2, 1) := dk_44 (dk_at dksX0_reads_1 14 rfl rfl)
theorem dX0_reads_39 : decode cX0_reads 39 = .ok (.iload_n 3, 1) := dk_29 (dk_at dksX0_reads_1 15 rfl rfl)
theorem dX0_reads_40 : decode cX0_reads 40 = .ok (.invokevirtual 525, 3) := dk_182 2 13 (dk_at dksX0_reads_1 16 rfl rfl)
theorem dX0_reads_43 : decode cX0_reads 43 = .ok (.ifCond .eq 30, 3) := dk_153 0 30 (dk_at dksX0_reads_1 19 rfl rfl)
theorem dX0_reads_46 : decode cX0_reads 46 = .ok (.aload_n 0, 1) := dk_42 (dk_at dksX0_reads_1 22 rfl rfl)
theorem dX0_reads_47 : decode cX0_reads 47 = .ok (.iload_n 3, 1) := dk_29 (dk_at dksX0_reads_1 23 rfl rfl)
theorem dX0_reads_48 : decode cX0_reads 48 = .ok (.invokevirtual 314, 3) := dk_182 1 58 (dk_at dksX0_reads_2 0 rfl rfl)
theorem dX0_reads_51 : decode cX0_reads 51 = .ok (.ifCond .eq 20, 3) := dk_153 0 20 (dk_at dksX0_reads_2 3 rfl rfl)
theorem dX0_reads_54 : decode cX0_reads 54 = .ok (.aload_n 2, 1) := dk_44 (dk_at dksX0_reads_2 6 rfl rfl)
theorem dX0_reads_55 : decode cX0_reads 55 = .ok (.iload_n 3, 1) := dk_29 (dk_at dksX0_reads_2 7 rfl rfl)
theorem dX0_reads_56 : decode cX0_reads 56 = .ok (.invokevirtual 528, 3) := dk_182 2 16 (dk_at dksX0_reads_2 8 rfl rfl)
theorem dX0_reads_59 : decode cX0_reads 59 = .ok (.aload_n 0, 1) := dk_42 (dk_at dksX0_reads_2 11 rfl rfl)
theorem dX0_reads_60 : decode cX0_reads 60 = .ok (.getfield 66, 3) := dk_180 0 66 (dk_at dksX0_reads_2 12 rfl rfl)
theorem dX0_reads_63 : decode cX0_reads 63 = .ok (.getfield 308, 3) := dk_180 1 52 (dk_at dksX0_reads_2 15 rfl rfl)
theorem dX0_reads_66 : decode cX0_reads 66 = .ok (.iload_n 3, 1) := dk_29 (dk_at dksX0_reads_2 18 rfl rfl)
theorem dX0_reads_67 : decode cX0_reads 67 = .ok (.iaload, 1) := dk_46 (dk_at dksX0_reads_2 19 rfl rfl)
theorem dX0_reads_68 : decode cX0_reads 68 = .ok (.if_icmp .eq 5, 3) := dk_159 0 5 (dk_at dksX0_reads_2 20 rfl rfl)
theorem dX0_reads_71 : decode cX0_reads 71 = .ok (.iload_n 3, 1) := dk_29 (dk_at dksX0_reads_2 23 rfl rfl)
theorem dX0_reads_72 : decode cX0_reads 72 = .ok (.ireturn, 1) := dk_172 (dk_at dksX0_reads_3 0 rfl rfl)
theorem dX0_reads_73 : decode cX0_reads 73 = .ok (.iinc 3 1, 3) := dk_132 3 1 (dk_at dksX0_reads_3 1 rfl rfl)
theorem dX0_reads_76 : decode cX0_reads 76 = .ok (.goto (-46), 3) := dk_167 255 210 (dk_at dksX0_reads_3 4 rfl rfl)
theorem dX0_reads_79 : decode cX0_reads 79 = .ok (.ldc 3, 2) := dk_18 3 (dk_at dksX0_reads_3 7 rfl rfl)
theorem dX0_reads_81 : decode cX0_reads 81 = .ok (.ireturn, 1) := dk_172 (dk_at dksX0_reads_3 9 rfl rfl)
abbrev cX0_copy : ByteArray := prog_1_method_97_code
def yX0_copy : MethodName := ⟨RX0, "copy", "(IIIII)I"⟩
def dkwX0_copy_5 : List UInt8 := [25, 7, 21, 4, 21, 5, 182, 2, 21, 21, 5, 172]
abbrev dktX0_copy_5 : List UInt8 := dkwX0_copy_5 ++ []
def dkwX0_copy_4 : List UInt8 := [163, 0, 16, 21, 4, 25, 7, 182, 2, 6, 21, 5, 100, 164, 0, 7, 19, 2, 12, 172, 42, 25, 6, 28]
abbrev dktX0_copy_4 : List UInt8 := dkwX0_copy_4 ++ dktX0_copy_5
def dkwX0_copy_3 : List UInt8 := [28, 155, 0, 38, 21, 4, 155, 0, 33, 21, 5, 155, 0, 28, 28, 25, 6, 182, 2, 6, 21, 5, 100]
abbrev dktX0_copy_3 : List UInt8 := dkwX0_copy_3 ++ dktX0_copy_4
def dkwX0_copy_2 : List UInt8 := [154, 0, 7, 19, 2, 5, 172, 25, 6, 182, 1, 245, 25, 7, 182, 1, 245, 159, 0, 7, 19, 1, 117, 172]
abbrev dktX0_copy_2 : List UInt8 := dkwX0_copy_2 ++ dktX0_copy_3
def dkwX0_copy_1 : List UInt8 := [58, 6, 42, 180, 0, 112, 29, 50, 58, 7, 25, 6, 182, 2, 2, 153, 0, 11, 25, 7, 182, 2, 2]
abbrev dktX0_copy_1 : List UInt8 := dkwX0_copy_1 ++ dktX0_copy_2
def dkwX0_copy_0 : List UInt8 := [27, 184, 1, 231, 153, 0, 10, 29, 184, 1, 231, 154, 0, 6, 18, 164, 172, 42, 180, 0, 112, 27, 50]
abbrev dktX0_copy_0 : List UInt8 := dkwX0_copy_0 ++ dktX0_copy_1
theorem dksX0_copy_0 : cX0_copy.data.toList.drop 0 = dktX0_copy_0 := by decide +kernel
theorem dksX0_copy_1 : cX0_copy.data.toList.drop 23 = dktX0_copy_1 := dk_seg dksX0_copy_0 23 rfl rfl
theorem dksX0_copy_2 : cX0_copy.data.toList.drop 46 = dktX0_copy_2 := dk_seg dksX0_copy_1 23 rfl rfl
theorem dksX0_copy_3 : cX0_copy.data.toList.drop 70 = dktX0_copy_3 := dk_seg dksX0_copy_2 24 rfl rfl
theorem dksX0_copy_4 : cX0_copy.data.toList.drop 93 = dktX0_copy_4 := dk_seg dksX0_copy_3 23 rfl rfl
theorem dksX0_copy_5 : cX0_copy.data.toList.drop 117 = dktX0_copy_5 := dk_seg dksX0_copy_4 24 rfl rfl
theorem dX0_copy_0 : decode cX0_copy 0 = .ok (.iload_n 1, 1) := dk_27 (dk_at dksX0_copy_0 0 rfl rfl)
theorem dX0_copy_1 : decode cX0_copy 1 = .ok (.invokestatic 487, 3) := dk_184 1 231 (dk_at dksX0_copy_0 1 rfl rfl)
theorem dX0_copy_4 : decode cX0_copy 4 = .ok (.ifCond .eq 10, 3) := dk_153 0 10 (dk_at dksX0_copy_0 4 rfl rfl)
theorem dX0_copy_7 : decode cX0_copy 7 = .ok (.iload_n 3, 1) := dk_29 (dk_at dksX0_copy_0 7 rfl rfl)
theorem dX0_copy_8 : decode cX0_copy 8 = .ok (.invokestatic 487, 3) := dk_184 1 231 (dk_at dksX0_copy_0 8 rfl rfl)
theorem dX0_copy_11 : decode cX0_copy 11 = .ok (.ifCond .ne 6, 3) := dk_154 0 6 (dk_at dksX0_copy_0 11 rfl rfl)
theorem dX0_copy_14 : decode cX0_copy 14 = .ok (.ldc 164, 2) := dk_18 164 (dk_at dksX0_copy_0 14 rfl rfl)
theorem dX0_copy_16 : decode cX0_copy 16 = .ok (.ireturn, 1) := dk_172 (dk_at dksX0_copy_0 16 rfl rfl)
theorem dX0_copy_17 : decode cX0_copy 17 = .ok (.aload_n 0, 1) := dk_42 (dk_at dksX0_copy_0 17 rfl rfl)
theorem dX0_copy_18 : decode cX0_copy 18 = .ok (.getfield 112, 3) := dk_180 0 112 (dk_at dksX0_copy_0 18 rfl rfl)
theorem dX0_copy_21 : decode cX0_copy 21 = .ok (.iload_n 1, 1) := dk_27 (dk_at dksX0_copy_0 21 rfl rfl)
theorem dX0_copy_22 : decode cX0_copy 22 = .ok (.aaload, 1) := dk_50 (dk_at dksX0_copy_0 22 rfl rfl)
theorem dX0_copy_23 : decode cX0_copy 23 = .ok (.astore 6, 2) := dk_58 6 (dk_at dksX0_copy_1 0 rfl rfl)
theorem dX0_copy_25 : decode cX0_copy 25 = .ok (.aload_n 0, 1) := dk_42 (dk_at dksX0_copy_1 2 rfl rfl)
theorem dX0_copy_26 : decode cX0_copy 26 = .ok (.getfield 112, 3) := dk_180 0 112 (dk_at dksX0_copy_1 3 rfl rfl)
theorem dX0_copy_29 : decode cX0_copy 29 = .ok (.iload_n 3, 1) := dk_29 (dk_at dksX0_copy_1 6 rfl rfl)
theorem dX0_copy_30 : decode cX0_copy 30 = .ok (.aaload, 1) := dk_50 (dk_at dksX0_copy_1 7 rfl rfl)
theorem dX0_copy_31 : decode cX0_copy 31 = .ok (.astore 7, 2) := dk_58 7 (dk_at dksX0_copy_1 8 rfl rfl)
theorem dX0_copy_33 : decode cX0_copy 33 = .ok (.aload 6, 2) := dk_25 6 (dk_at dksX0_copy_1 10 rfl rfl)
theorem dX0_copy_35 : decode cX0_copy 35 = .ok (.invokevirtual 514, 3) := dk_182 2 2 (dk_at dksX0_copy_1 12 rfl rfl)
theorem dX0_copy_38 : decode cX0_copy 38 = .ok (.ifCond .eq 11, 3) := dk_153 0 11 (dk_at dksX0_copy_1 15 rfl rfl)
theorem dX0_copy_41 : decode cX0_copy 41 = .ok (.aload 7, 2) := dk_25 7 (dk_at dksX0_copy_1 18 rfl rfl)
theorem dX0_copy_43 : decode cX0_copy 43 = .ok (.invokevirtual 514, 3) := dk_182 2 2 (dk_at dksX0_copy_1 20 rfl rfl)
theorem dX0_copy_46 : decode cX0_copy 46 = .ok (.ifCond .ne 7, 3) := dk_154 0 7 (dk_at dksX0_copy_2 0 rfl rfl)
theorem dX0_copy_49 : decode cX0_copy 49 = .ok (.ldc_w 517, 3) := dk_19 2 5 (dk_at dksX0_copy_2 3 rfl rfl)
theorem dX0_copy_52 : decode cX0_copy 52 = .ok (.ireturn, 1) := dk_172 (dk_at dksX0_copy_2 6 rfl rfl)
theorem dX0_copy_53 : decode cX0_copy 53 = .ok (.aload 6, 2) := dk_25 6 (dk_at dksX0_copy_2 7 rfl rfl)
theorem dX0_copy_55 : decode cX0_copy 55 = .ok (.invokevirtual 501, 3) := dk_182 1 245 (dk_at dksX0_copy_2 9 rfl rfl)
theorem dX0_copy_58 : decode cX0_copy 58 = .ok (.aload 7, 2) := dk_25 7 (dk_at dksX0_copy_2 12 rfl rfl)
theorem dX0_copy_60 : decode cX0_copy 60 = .ok (.invokevirtual 501, 3) := dk_182 1 245 (dk_at dksX0_copy_2 14 rfl rfl)
theorem dX0_copy_63 : decode cX0_copy 63 = .ok (.if_icmp .eq 7, 3) := dk_159 0 7 (dk_at dksX0_copy_2 17 rfl rfl)
theorem dX0_copy_66 : decode cX0_copy 66 = .ok (.ldc_w 373, 3) := dk_19 1 117 (dk_at dksX0_copy_2 20 rfl rfl)
theorem dX0_copy_69 : decode cX0_copy 69 = .ok (.ireturn, 1) := dk_172 (dk_at dksX0_copy_2 23 rfl rfl)
theorem dX0_copy_70 : decode cX0_copy 70 = .ok (.iload_n 2, 1) := dk_28 (dk_at dksX0_copy_3 0 rfl rfl)
theorem dX0_copy_71 : decode cX0_copy 71 = .ok (.ifCond .lt 38, 3) := dk_155 0 38 (dk_at dksX0_copy_3 1 rfl rfl)
theorem dX0_copy_74 : decode cX0_copy 74 = .ok (.iload 4, 2) := dk_21 4 (dk_at dksX0_copy_3 4 rfl rfl)
theorem dX0_copy_76 : decode cX0_copy 76 = .ok (.ifCond .lt 33, 3) := dk_155 0 33 (dk_at dksX0_copy_3 6 rfl rfl)
theorem dX0_copy_79 : decode cX0_copy 79 = .ok (.iload 5, 2) := dk_21 5 (dk_at dksX0_copy_3 9 rfl rfl)
theorem dX0_copy_81 : decode cX0_copy 81 = .ok (.ifCond .lt 28, 3) := dk_155 0 28 (dk_at dksX0_copy_3 11 rfl rfl)
theorem dX0_copy_84 : decode cX0_copy 84 = .ok (.iload_n 2, 1) := dk_28 (dk_at dksX0_copy_3 14 rfl rfl)
theorem dX0_copy_85 : decode cX0_copy 85 = .ok (.aload 6, 2) := dk_25 6 (dk_at dksX0_copy_3 15 rfl rfl)
theorem dX0_copy_87 : decode cX0_copy 87 = .ok (.invokevirtual 518, 3) := dk_182 2 6 (dk_at dksX0_copy_3 17 rfl rfl)
theorem dX0_copy_90 : decode cX0_copy 90 = .ok (.iload 5, 2) := dk_21 5 (dk_at dksX0_copy_3 20 rfl rfl)
theorem dX0_copy_92 : decode cX0_copy 92 = .ok (.isub, 1) := dk_100 (dk_at dksX0_copy_3 22 rfl rfl)
theorem dX0_copy_93 : decode cX0_copy 93 = .ok (.if_icmp .gt 16, 3) := dk_163 0 16 (dk_at dksX0_copy_4 0 rfl rfl)
theorem dX0_copy_96 : decode cX0_copy 96 = .ok (.iload 4, 2) := dk_21 4 (dk_at dksX0_copy_4 3 rfl rfl)
theorem dX0_copy_98 : decode cX0_copy 98 = .ok (.aload 7, 2) := dk_25 7 (dk_at dksX0_copy_4 5 rfl rfl)
theorem dX0_copy_100 : decode cX0_copy 100 = .ok (.invokevirtual 518, 3) := dk_182 2 6 (dk_at dksX0_copy_4 7 rfl rfl)
theorem dX0_copy_103 : decode cX0_copy 103 = .ok (.iload 5, 2) := dk_21 5 (dk_at dksX0_copy_4 10 rfl rfl)
theorem dX0_copy_105 : decode cX0_copy 105 = .ok (.isub, 1) := dk_100 (dk_at dksX0_copy_4 12 rfl rfl)
theorem dX0_copy_106 : decode cX0_copy 106 = .ok (.if_icmp .le 7, 3) := dk_164 0 7 (dk_at dksX0_copy_4 13 rfl rfl)
theorem dX0_copy_109 : decode cX0_copy 109 = .ok (.ldc_w 524, 3) := dk_19 2 12 (dk_at dksX0_copy_4 16 rfl rfl)
theorem dX0_copy_112 : decode cX0_copy 112 = .ok (.ireturn, 1) := dk_172 (dk_at dksX0_copy_4 19 rfl rfl)
theorem dX0_copy_113 : decode cX0_copy 113 = .ok (.aload_n 0, 1) := dk_42 (dk_at dksX0_copy_4 20 rfl rfl)
theorem dX0_copy_114 : decode cX0_copy 114 = .ok (.aload 6, 2) := dk_25 6 (dk_at dksX0_copy_4 21 rfl rfl)
theorem dX0_copy_116 : decode cX0_copy 116 = .ok (.iload_n 2, 1) := dk_28 (dk_at dksX0_copy_4 23 rfl rfl)
theorem dX0_copy_117 : decode cX0_copy 117 = .ok (.aload 7, 2) := dk_25 7 (dk_at dksX0_copy_5 0 rfl rfl)
theorem dX0_copy_119 : decode cX0_copy 119 = .ok (.iload 4, 2) := dk_21 4 (dk_at dksX0_copy_5 2 rfl rfl)
theorem dX0_copy_121 : decode cX0_copy 121 = .ok (.iload 5, 2) := dk_21 5 (dk_at dksX0_copy_5 4 rfl rfl)
theorem dX0_copy_123 : decode cX0_copy 123 = .ok (.invokevirtual 533, 3) := dk_182 2 21 (dk_at dksX0_copy_5 6 rfl rfl)
theorem dX0_copy_126 : decode cX0_copy 126 = .ok (.iload 5, 2) := dk_21 5 (dk_at dksX0_copy_5 9 rfl rfl)
theorem dX0_copy_128 : decode cX0_copy 128 = .ok (.ireturn, 1) := dk_172 (dk_at dksX0_copy_5 11 rfl rfl)
abbrev cX0_carries : ByteArray := prog_1_method_96_code
def yX0_carries : MethodName := ⟨RX0, "carries", "(LKeptLeaves$Sheet;ILKeptLeaves$Sheet;II)V"⟩
def dkwX0_carries_4 : List UInt8 := [180, 0, 123, 21, 8, 48, 81, 132, 8, 1, 167, 255, 231, 177]
abbrev dktX0_carries_4 : List UInt8 := dkwX0_carries_4 ++ []
def dkwX0_carries_3 : List UInt8 := [132, 8, 1, 167, 255, 232, 3, 54, 8, 21, 8, 21, 5, 162, 0, 24, 25, 7, 21, 4, 21, 8, 96, 42]
abbrev dktX0_carries_3 : List UInt8 := dkwX0_carries_3 ++ dktX0_carries_4
def dkwX0_carries_2 : List UInt8 := [3, 54, 8, 21, 8, 21, 5, 162, 0, 23, 42, 180, 0, 123, 21, 8, 25, 6, 28, 21, 8, 96, 48, 81]
abbrev dktX0_carries_2 : List UInt8 := dkwX0_carries_2 ++ dktX0_carries_3
def dkwX0_carries_1 : List UInt8 := [21, 5, 184, 0, 34, 177, 43, 180, 1, 234, 192, 1, 249, 58, 6, 45, 180, 1, 234, 192, 1, 249, 58, 7]
abbrev dktX0_carries_1 : List UInt8 := dkwX0_carries_1 ++ dktX0_carries_2
def dkwX0_carries_0 : List UInt8 := [43, 182, 1, 245, 154, 0, 26, 43, 180, 1, 234, 192, 2, 19, 28, 45, 180, 1, 234, 192, 2, 19, 21, 4]
abbrev dktX0_carries_0 : List UInt8 := dkwX0_carries_0 ++ dktX0_carries_1
theorem dksX0_carries_0 : cX0_carries.data.toList.drop 0 = dktX0_carries_0 := by decide +kernel
theorem dksX0_carries_1 : cX0_carries.data.toList.drop 24 = dktX0_carries_1 := dk_seg dksX0_carries_0 24 rfl rfl
theorem dksX0_carries_2 : cX0_carries.data.toList.drop 48 = dktX0_carries_2 := dk_seg dksX0_carries_1 24 rfl rfl
theorem dksX0_carries_3 : cX0_carries.data.toList.drop 72 = dktX0_carries_3 := dk_seg dksX0_carries_2 24 rfl rfl
theorem dksX0_carries_4 : cX0_carries.data.toList.drop 96 = dktX0_carries_4 := dk_seg dksX0_carries_3 24 rfl rfl
theorem dX0_carries_0 : decode cX0_carries 0 = .ok (.aload_n 1, 1) := dk_43 (dk_at dksX0_carries_0 0 rfl rfl)
theorem dX0_carries_1 : decode cX0_carries 1 = .ok (.invokevirtual 501, 3) := dk_182 1 245 (dk_at dksX0_carries_0 1 rfl rfl)
theorem dX0_carries_4 : decode cX0_carries 4 = .ok (.ifCond .ne 26, 3) := dk_154 0 26 (dk_at dksX0_carries_0 4 rfl rfl)
theorem dX0_carries_7 : decode cX0_carries 7 = .ok (.aload_n 1, 1) := dk_43 (dk_at dksX0_carries_0 7 rfl rfl)
theorem dX0_carries_8 : decode cX0_carries 8 = .ok (.getfield 490, 3) := dk_180 1 234 (dk_at dksX0_carries_0 8 rfl rfl)
theorem dX0_carries_11 : decode cX0_carries 11 = .ok (.checkcast 531, 3) := dk_192 2 19 (dk_at dksX0_carries_0 11 rfl rfl)
theorem dX0_carries_14 : decode cX0_carries 14 = .ok (.iload_n 2, 1) := dk_28 (dk_at dksX0_carries_0 14 rfl rfl)
theorem dX0_carries_15 : decode cX0_carries 15 = .ok (.aload_n 3, 1) := dk_45 (dk_at dksX0_carries_0 15 rfl rfl)
theorem dX0_carries_16 : decode cX0_carries 16 = .ok (.getfield 490, 3) := dk_180 1 234 (dk_at dksX0_carries_0 16 rfl rfl)
theorem dX0_carries_19 : decode cX0_carries 19 = .ok (.checkcast 531, 3) := dk_192 2 19 (dk_at dksX0_carries_0 19 rfl rfl)
theorem dX0_carries_22 : decode cX0_carries 22 = .ok (.iload 4, 2) := dk_21 4 (dk_at dksX0_carries_0 22 rfl rfl)
theorem dX0_carries_24 : decode cX0_carries 24 = .ok (.iload 5, 2) := dk_21 5 (dk_at dksX0_carries_1 0 rfl rfl)
theorem dX0_carries_26 : decode cX0_carries 26 = .ok (.invokestatic 34, 3) := dk_184 0 34 (dk_at dksX0_carries_1 2 rfl rfl)
theorem dX0_carries_29 : decode cX0_carries 29 = .ok (.return_, 1) := dk_177 (dk_at dksX0_carries_1 5 rfl rfl)
theorem dX0_carries_30 : decode cX0_carries 30 = .ok (.aload_n 1, 1) := dk_43 (dk_at dksX0_carries_1 6 rfl rfl)
theorem dX0_carries_31 : decode cX0_carries 31 = .ok (.getfield 490, 3) := dk_180 1 234 (dk_at dksX0_carries_1 7 rfl rfl)
theorem dX0_carries_34 : decode cX0_carries 34 = .ok (.checkcast 505, 3) := dk_192 1 249 (dk_at dksX0_carries_1 10 rfl rfl)
theorem dX0_carries_37 : decode cX0_carries 37 = .ok (.astore 6, 2) := dk_58 6 (dk_at dksX0_carries_1 13 rfl rfl)
theorem dX0_carries_39 : decode cX0_carries 39 = .ok (.aload_n 3, 1) := dk_45 (dk_at dksX0_carries_1 15 rfl rfl)
theorem dX0_carries_40 : decode cX0_carries 40 = .ok (.getfield 490, 3) := dk_180 1 234 (dk_at dksX0_carries_1 16 rfl rfl)
theorem dX0_carries_43 : decode cX0_carries 43 = .ok (.checkcast 505, 3) := dk_192 1 249 (dk_at dksX0_carries_1 19 rfl rfl)
theorem dX0_carries_46 : decode cX0_carries 46 = .ok (.astore 7, 2) := dk_58 7 (dk_at dksX0_carries_1 22 rfl rfl)
theorem dX0_carries_48 : decode cX0_carries 48 = .ok (.iconst 0, 1) := dk_3 (dk_at dksX0_carries_2 0 rfl rfl)
theorem dX0_carries_49 : decode cX0_carries 49 = .ok (.istore 8, 2) := dk_54 8 (dk_at dksX0_carries_2 1 rfl rfl)
theorem dX0_carries_51 : decode cX0_carries 51 = .ok (.iload 8, 2) := dk_21 8 (dk_at dksX0_carries_2 3 rfl rfl)
theorem dX0_carries_53 : decode cX0_carries 53 = .ok (.iload 5, 2) := dk_21 5 (dk_at dksX0_carries_2 5 rfl rfl)
theorem dX0_carries_55 : decode cX0_carries 55 = .ok (.if_icmp .ge 23, 3) := dk_162 0 23 (dk_at dksX0_carries_2 7 rfl rfl)
theorem dX0_carries_58 : decode cX0_carries 58 = .ok (.aload_n 0, 1) := dk_42 (dk_at dksX0_carries_2 10 rfl rfl)
theorem dX0_carries_59 : decode cX0_carries 59 = .ok (.getfield 123, 3) := dk_180 0 123 (dk_at dksX0_carries_2 11 rfl rfl)
theorem dX0_carries_62 : decode cX0_carries 62 = .ok (.iload 8, 2) := dk_21 8 (dk_at dksX0_carries_2 14 rfl rfl)
theorem dX0_carries_64 : decode cX0_carries 64 = .ok (.aload 6, 2) := dk_25 6 (dk_at dksX0_carries_2 16 rfl rfl)
theorem dX0_carries_66 : decode cX0_carries 66 = .ok (.iload_n 2, 1) := dk_28 (dk_at dksX0_carries_2 18 rfl rfl)
theorem dX0_carries_67 : decode cX0_carries 67 = .ok (.iload 8, 2) := dk_21 8 (dk_at dksX0_carries_2 19 rfl rfl)
theorem dX0_carries_69 : decode cX0_carries 69 = .ok (.iadd, 1) := dk_96 (dk_at dksX0_carries_2 21 rfl rfl)
theorem dX0_carries_70 : decode cX0_carries 70 = .ok (.faload, 1) := dk_48 (dk_at dksX0_carries_2 22 rfl rfl)
theorem dX0_carries_71 : decode cX0_carries 71 = .ok (.fastore, 1) := dk_81 (dk_at dksX0_carries_2 23 rfl rfl)
theorem dX0_carries_72 : decode cX0_carries 72 = .ok (.iinc 8 1, 3) := dk_132 8 1 (dk_at dksX0_carries_3 0 rfl rfl)
theorem dX0_carries_75 : decode cX0_carries 75 = .ok (.goto (-24), 3) := dk_167 255 232 (dk_at dksX0_carries_3 3 rfl rfl)
theorem dX0_carries_78 : decode cX0_carries 78 = .ok (.iconst 0, 1) := dk_3 (dk_at dksX0_carries_3 6 rfl rfl)
theorem dX0_carries_79 : decode cX0_carries 79 = .ok (.istore 8, 2) := dk_54 8 (dk_at dksX0_carries_3 7 rfl rfl)
theorem dX0_carries_81 : decode cX0_carries 81 = .ok (.iload 8, 2) := dk_21 8 (dk_at dksX0_carries_3 9 rfl rfl)
theorem dX0_carries_83 : decode cX0_carries 83 = .ok (.iload 5, 2) := dk_21 5 (dk_at dksX0_carries_3 11 rfl rfl)
theorem dX0_carries_85 : decode cX0_carries 85 = .ok (.if_icmp .ge 24, 3) := dk_162 0 24 (dk_at dksX0_carries_3 13 rfl rfl)
theorem dX0_carries_88 : decode cX0_carries 88 = .ok (.aload 7, 2) := dk_25 7 (dk_at dksX0_carries_3 16 rfl rfl)
theorem dX0_carries_90 : decode cX0_carries 90 = .ok (.iload 4, 2) := dk_21 4 (dk_at dksX0_carries_3 18 rfl rfl)
theorem dX0_carries_92 : decode cX0_carries 92 = .ok (.iload 8, 2) := dk_21 8 (dk_at dksX0_carries_3 20 rfl rfl)
theorem dX0_carries_94 : decode cX0_carries 94 = .ok (.iadd, 1) := dk_96 (dk_at dksX0_carries_3 22 rfl rfl)
theorem dX0_carries_95 : decode cX0_carries 95 = .ok (.aload_n 0, 1) := dk_42 (dk_at dksX0_carries_3 23 rfl rfl)
theorem dX0_carries_96 : decode cX0_carries 96 = .ok (.getfield 123, 3) := dk_180 0 123 (dk_at dksX0_carries_4 0 rfl rfl)
theorem dX0_carries_99 : decode cX0_carries 99 = .ok (.iload 8, 2) := dk_21 8 (dk_at dksX0_carries_4 3 rfl rfl)
theorem dX0_carries_101 : decode cX0_carries 101 = .ok (.faload, 1) := dk_48 (dk_at dksX0_carries_4 5 rfl rfl)
theorem dX0_carries_102 : decode cX0_carries 102 = .ok (.fastore, 1) := dk_81 (dk_at dksX0_carries_4 6 rfl rfl)
theorem dX0_carries_103 : decode cX0_carries 103 = .ok (.iinc 8 1, 3) := dk_132 8 1 (dk_at dksX0_carries_4 7 rfl rfl)
theorem dX0_carries_106 : decode cX0_carries 106 = .ok (.goto (-25), 3) := dk_167 255 231 (dk_at dksX0_carries_4 10 rfl rfl)
theorem dX0_carries_109 : decode cX0_carries 109 = .ok (.return_, 1) := dk_177 (dk_at dksX0_carries_4 13 rfl rfl)
abbrev cX0_lay : ByteArray := prog_1_method_99_code
def yX0_lay : MethodName := ⟨RX0, "lay", "(III)I"⟩
def dkwX0_lay_6 : List UInt8 := [21, 4, 172]
abbrev dktX0_lay_6 : List UInt8 := dkwX0_lay_6 ++ []
def dkwX0_lay_5 : List UInt8 := [42, 180, 0, 112, 29, 50, 182, 2, 35, 167, 0, 11, 187, 2, 39, 89, 29, 183, 2, 41, 181, 2, 43]
abbrev dktX0_lay_5 : List UInt8 := dkwX0_lay_5 ++ dktX0_lay_6
def dkwX0_lay_4 : List UInt8 := [160, 0, 18, 42, 180, 0, 46, 180, 1, 32, 29, 50, 182, 2, 31, 167, 0, 29, 28, 5, 160, 0, 16, 42]
abbrev dktX0_lay_4 : List UInt8 := dkwX0_lay_4 ++ dktX0_lay_5
def dkwX0_lay_3 : List UInt8 := [50, 182, 2, 28, 54, 4, 42, 180, 0, 119, 27, 50, 28, 154, 0, 7, 1, 167, 0, 49, 28, 4]
abbrev dktX0_lay_3 : List UInt8 := dkwX0_lay_3 ++ dktX0_lay_4
def dkwX0_lay_2 : List UInt8 := [160, 0, 19, 42, 180, 0, 112, 29, 50, 182, 2, 2, 154, 0, 7, 19, 2, 5, 172, 42, 180, 0, 119, 27]
abbrev dktX0_lay_2 : List UInt8 := dkwX0_lay_2 ++ dktX0_lay_3
def dkwX0_lay_1 : List UInt8 := [182, 1, 58, 153, 0, 15, 28, 5, 160, 0, 13, 29, 184, 1, 231, 154, 0, 6, 18, 164, 172, 28, 5]
abbrev dktX0_lay_1 : List UInt8 := dkwX0_lay_1 ++ dktX0_lay_2
def dkwX0_lay_0 : List UInt8 := [27, 184, 2, 25, 153, 0, 37, 28, 3, 6, 184, 0, 137, 153, 0, 28, 28, 4, 160, 0, 11, 42, 29]
abbrev dktX0_lay_0 : List UInt8 := dkwX0_lay_0 ++ dktX0_lay_1
theorem dksX0_lay_0 : cX0_lay.data.toList.drop 0 = dktX0_lay_0 := by decide +kernel
theorem dksX0_lay_1 : cX0_lay.data.toList.drop 23 = dktX0_lay_1 := dk_seg dksX0_lay_0 23 rfl rfl
theorem dksX0_lay_2 : cX0_lay.data.toList.drop 46 = dktX0_lay_2 := dk_seg dksX0_lay_1 23 rfl rfl
theorem dksX0_lay_3 : cX0_lay.data.toList.drop 70 = dktX0_lay_3 := dk_seg dksX0_lay_2 24 rfl rfl
theorem dksX0_lay_4 : cX0_lay.data.toList.drop 92 = dktX0_lay_4 := dk_seg dksX0_lay_3 22 rfl rfl
theorem dksX0_lay_5 : cX0_lay.data.toList.drop 116 = dktX0_lay_5 := dk_seg dksX0_lay_4 24 rfl rfl
theorem dksX0_lay_6 : cX0_lay.data.toList.drop 139 = dktX0_lay_6 := dk_seg dksX0_lay_5 23 rfl rfl
theorem dX0_lay_0 : decode cX0_lay 0 = .ok (.iload_n 1, 1) := dk_27 (dk_at dksX0_lay_0 0 rfl rfl)
theorem dX0_lay_1 : decode cX0_lay 1 = .ok (.invokestatic 537, 3) := dk_184 2 25 (dk_at dksX0_lay_0 1 rfl rfl)
theorem dX0_lay_4 : decode cX0_lay 4 = .ok (.ifCond .eq 37, 3) := dk_153 0 37 (dk_at dksX0_lay_0 4 rfl rfl)
theorem dX0_lay_7 : decode cX0_lay 7 = .ok (.iload_n 2, 1) := dk_28 (dk_at dksX0_lay_0 7 rfl rfl)
theorem dX0_lay_8 : decode cX0_lay 8 = .ok (.iconst 0, 1) := dk_3 (dk_at dksX0_lay_0 8 rfl rfl)
theorem dX0_lay_9 : decode cX0_lay 9 = .ok (.iconst 3, 1) := dk_6 (dk_at dksX0_lay_0 9 rfl rfl)
theorem dX0_lay_10 : decode cX0_lay 10 = .ok (.invokestatic 137, 3) := dk_184 0 137 (dk_at dksX0_lay_0 10 rfl rfl)
theorem dX0_lay_13 : decode cX0_lay 13 = .ok (.ifCond .eq 28, 3) := dk_153 0 28 (dk_at dksX0_lay_0 13 rfl rfl)
theorem dX0_lay_16 : decode cX0_lay 16 = .ok (.iload_n 2, 1) := dk_28 (dk_at dksX0_lay_0 16 rfl rfl)
theorem dX0_lay_17 : decode cX0_lay 17 = .ok (.iconst 1, 1) := dk_4 (dk_at dksX0_lay_0 17 rfl rfl)
theorem dX0_lay_18 : decode cX0_lay 18 = .ok (.if_icmp .ne 11, 3) := dk_160 0 11 (dk_at dksX0_lay_0 18 rfl rfl)
theorem dX0_lay_21 : decode cX0_lay 21 = .ok (.aload_n 0, 1) := dk_42 (dk_at dksX0_lay_0 21 rfl rfl)
theorem dX0_lay_22 : decode cX0_lay 22 = .ok (.iload_n 3, 1) := dk_29 (dk_at dksX0_lay_0 22 rfl rfl)
theorem dX0_lay_23 : decode cX0_lay 23 = .ok (.invokevirtual 314, 3) := dk_182 1 58 (dk_at dksX0_lay_1 0 rfl rfl)
theorem dX0_lay_26 : decode cX0_lay 26 = .ok (.ifCond .eq 15, 3) := dk_153 0 15 (dk_at dksX0_lay_1 3 rfl rfl)
theorem dX0_lay_29 : decode cX0_lay 29 = .ok (.iload_n 2, 1) := dk_28 (dk_at dksX0_lay_1 6 rfl rfl)
theorem dX0_lay_30 : decode cX0_lay 30 = .ok (.iconst 2, 1) := dk_5 (dk_at dksX0_lay_1 7 rfl rfl)
theorem dX0_lay_31 : decode cX0_lay 31 = .ok (.if_icmp .ne 13, 3) := dk_160 0 13 (dk_at dksX0_lay_1 8 rfl rfl)
theorem dX0_lay_34 : decode cX0_lay 34 = .ok (.iload_n 3, 1) := dk_29 (dk_at dksX0_lay_1 11 rfl rfl)
theorem dX0_lay_35 : decode cX0_lay 35 = .ok (.invokestatic 487, 3) := dk_184 1 231 (dk_at dksX0_lay_1 12 rfl rfl)
theorem dX0_lay_38 : decode cX0_lay 38 = .ok (.ifCond .ne 6, 3) := dk_154 0 6 (dk_at dksX0_lay_1 15 rfl rfl)
theorem dX0_lay_41 : decode cX0_lay 41 = .ok (.ldc 164, 2) := dk_18 164 (dk_at dksX0_lay_1 18 rfl rfl)
theorem dX0_lay_43 : decode cX0_lay 43 = .ok (.ireturn, 1) := dk_172 (dk_at dksX0_lay_1 20 rfl rfl)
theorem dX0_lay_44 : decode cX0_lay 44 = .ok (.iload_n 2, 1) := dk_28 (dk_at dksX0_lay_1 21 rfl rfl)
theorem dX0_lay_45 : decode cX0_lay 45 = .ok (.iconst 2, 1) := dk_5 (dk_at dksX0_lay_1 22 rfl rfl)
theorem dX0_lay_46 : decode cX0_lay 46 = .ok (.if_icmp .ne 19, 3) := dk_160 0 19 (dk_at dksX0_lay_2 0 rfl rfl)
theorem dX0_lay_49 : decode cX0_lay 49 = .ok (.aload_n 0, 1) := dk_42 (dk_at dksX0_lay_2 3 rfl rfl)
theorem dX0_lay_50 : decode cX0_lay 50 = .ok (.getfield 112, 3) := dk_180 0 112 (dk_at dksX0_lay_2 4 rfl rfl)
theorem dX0_lay_53 : decode cX0_lay 53 = .ok (.iload_n 3, 1) := dk_29 (dk_at dksX0_lay_2 7 rfl rfl)
theorem dX0_lay_54 : decode cX0_lay 54 = .ok (.aaload, 1) := dk_50 (dk_at dksX0_lay_2 8 rfl rfl)
theorem dX0_lay_55 : decode cX0_lay 55 = .ok (.invokevirtual 514, 3) := dk_182 2 2 (dk_at dksX0_lay_2 9 rfl rfl)
theorem dX0_lay_58 : decode cX0_lay 58 = .ok (.ifCond .ne 7, 3) := dk_154 0 7 (dk_at dksX0_lay_2 12 rfl rfl)
theorem dX0_lay_61 : decode cX0_lay 61 = .ok (.ldc_w 517, 3) := dk_19 2 5 (dk_at dksX0_lay_2 15 rfl rfl)
theorem dX0_lay_64 : decode cX0_lay 64 = .ok (.ireturn, 1) := dk_172 (dk_at dksX0_lay_2 18 rfl rfl)
theorem dX0_lay_65 : decode cX0_lay 65 = .ok (.aload_n 0, 1) := dk_42 (dk_at dksX0_lay_2 19 rfl rfl)
theorem dX0_lay_66 : decode cX0_lay 66 = .ok (.getfield 119, 3) := dk_180 0 119 (dk_at dksX0_lay_2 20 rfl rfl)
theorem dX0_lay_69 : decode cX0_lay 69 = .ok (.iload_n 1, 1) := dk_27 (dk_at dksX0_lay_2 23 rfl rfl)
theorem dX0_lay_70 : decode cX0_lay 70 = .ok (.aaload, 1) := dk_50 (dk_at dksX0_lay_3 0 rfl rfl)
theorem dX0_lay_71 : decode cX0_lay 71 = .ok (.invokevirtual 540, 3) := dk_182 2 28 (dk_at dksX0_lay_3 1 rfl rfl)
theorem dX0_lay_74 : decode cX0_lay 74 = .ok (.istore 4, 2) := dk_54 4 (dk_at dksX0_lay_3 4 rfl rfl)
theorem dX0_lay_76 : decode cX0_lay 76 = .ok (.aload_n 0, 1) := dk_42 (dk_at dksX0_lay_3 6 rfl rfl)
theorem dX0_lay_77 : decode cX0_lay 77 = .ok (.getfield 119, 3) := dk_180 0 119 (dk_at dksX0_lay_3 7 rfl rfl)
theorem dX0_lay_80 : decode cX0_lay 80 = .ok (.iload_n 1, 1) := dk_27 (dk_at dksX0_lay_3 10 rfl rfl)
theorem dX0_lay_81 : decode cX0_lay 81 = .ok (.aaload, 1) := dk_50 (dk_at dksX0_lay_3 11 rfl rfl)
theorem dX0_lay_82 : decode cX0_lay 82 = .ok (.iload_n 2, 1) := dk_28 (dk_at dksX0_lay_3 12 rfl rfl)
theorem dX0_lay_83 : decode cX0_lay 83 = .ok (.ifCond .ne 7, 3) := dk_154 0 7 (dk_at dksX0_lay_3 13 rfl rfl)
theorem dX0_lay_86 : decode cX0_lay 86 = .ok (.aconst_null, 1) := dk_1 (dk_at dksX0_lay_3 16 rfl rfl)
theorem dX0_lay_87 : decode cX0_lay 87 = .ok (.goto 49, 3) := dk_167 0 49 (dk_at dksX0_lay_3 17 rfl rfl)
theorem dX0_lay_90 : decode cX0_lay 90 = .ok (.iload_n 2, 1) := dk_28 (dk_at dksX0_lay_3 20 rfl rfl)
theorem dX0_lay_91 : decode cX0_lay 91 = .ok (.iconst 1, 1) := dk_4 (dk_at dksX0_lay_3 21 rfl rfl)
theorem dX0_lay_92 : decode cX0_lay 92 = .ok (.if_icmp .ne 18, 3) := dk_160 0 18 (dk_at dksX0_lay_4 0 rfl rfl)
theorem dX0_lay_95 : decode cX0_lay 95 = .ok (.aload_n 0, 1) := dk_42 (dk_at dksX0_lay_4 3 rfl rfl)
theorem dX0_lay_96 : decode cX0_lay 96 = .ok (.getfield 46, 3) := dk_180 0 46 (dk_at dksX0_lay_4 4 rfl rfl)
theorem dX0_lay_99 : decode cX0_lay 99 = .ok (.getfield 288, 3) := dk_180 1 32 (dk_at dksX0_lay_4 7 rfl rfl)
theorem dX0_lay_102 : decode cX0_lay 102 = .ok (.iload_n 3, 1) := dk_29 (dk_at dksX0_lay_4 10 rfl rfl)
theorem dX0_lay_103 : decode cX0_lay 103 = .ok (.aaload, 1) := dk_50 (dk_at dksX0_lay_4 11 rfl rfl)
theorem dX0_lay_104 : decode cX0_lay 104 = .ok (.invokevirtual 543, 3) := dk_182 2 31 (dk_at dksX0_lay_4 12 rfl rfl)
theorem dX0_lay_107 : decode cX0_lay 107 = .ok (.goto 29, 3) := dk_167 0 29 (dk_at dksX0_lay_4 15 rfl rfl)
theorem dX0_lay_110 : decode cX0_lay 110 = .ok (.iload_n 2, 1) := dk_28 (dk_at dksX0_lay_4 18 rfl rfl)
theorem dX0_lay_111 : decode cX0_lay 111 = .ok (.iconst 2, 1) := dk_5 (dk_at dksX0_lay_4 19 rfl rfl)
theorem dX0_lay_112 : decode cX0_lay 112 = .ok (.if_icmp .ne 16, 3) := dk_160 0 16 (dk_at dksX0_lay_4 20 rfl rfl)
theorem dX0_lay_115 : decode cX0_lay 115 = .ok (.aload_n 0, 1) := dk_42 (dk_at dksX0_lay_4 23 rfl rfl)
theorem dX0_lay_116 : decode cX0_lay 116 = .ok (.aload_n 0, 1) := dk_42 (dk_at dksX0_lay_5 0 rfl rfl)
theorem dX0_lay_117 : decode cX0_lay 117 = .ok (.getfield 112, 3) := dk_180 0 112 (dk_at dksX0_lay_5 1 rfl rfl)
theorem dX0_lay_120 : decode cX0_lay 120 = .ok (.iload_n 3, 1) := dk_29 (dk_at dksX0_lay_5 4 rfl rfl)
theorem dX0_lay_121 : decode cX0_lay 121 = .ok (.aaload, 1) := dk_50 (dk_at dksX0_lay_5 5 rfl rfl)
theorem dX0_lay_122 : decode cX0_lay 122 = .ok (.invokevirtual 547, 3) := dk_182 2 35 (dk_at dksX0_lay_5 6 rfl rfl)
theorem dX0_lay_125 : decode cX0_lay 125 = .ok (.goto 11, 3) := dk_167 0 11 (dk_at dksX0_lay_5 9 rfl rfl)
theorem dX0_lay_128 : decode cX0_lay 128 = .ok (.new 551, 3) := dk_187 2 39 (dk_at dksX0_lay_5 12 rfl rfl)
theorem dX0_lay_131 : decode cX0_lay 131 = .ok (.dup, 1) := dk_89 (dk_at dksX0_lay_5 15 rfl rfl)
theorem dX0_lay_132 : decode cX0_lay 132 = .ok (.iload_n 3, 1) := dk_29 (dk_at dksX0_lay_5 16 rfl rfl)
theorem dX0_lay_133 : decode cX0_lay 133 = .ok (.invokespecial 553, 3) := dk_183 2 41 (dk_at dksX0_lay_5 17 rfl rfl)
theorem dX0_lay_136 : decode cX0_lay 136 = .ok (.putfield 555, 3) := dk_181 2 43 (dk_at dksX0_lay_5 20 rfl rfl)
theorem dX0_lay_139 : decode cX0_lay 139 = .ok (.iload 4, 2) := dk_21 4 (dk_at dksX0_lay_6 0 rfl rfl)
theorem dX0_lay_141 : decode cX0_lay 141 = .ok (.ireturn, 1) := dk_172 (dk_at dksX0_lay_6 2 rfl rfl)
abbrev cX0_isSlot : ByteArray := prog_1_method_89_code
def yX0_isSlot : MethodName := ⟨RX0, "isSlot", "(I)Z"⟩
def dkwX0_isSlot_0 : List UInt8 := [26, 3, 7, 184, 0, 137, 172]
abbrev dktX0_isSlot_0 : List UInt8 := dkwX0_isSlot_0 ++ []
theorem dksX0_isSlot_0 : cX0_isSlot.data.toList.drop 0 = dktX0_isSlot_0 := by decide +kernel
theorem dX0_isSlot_0 : decode cX0_isSlot 0 = .ok (.iload_n 0, 1) := dk_26 (dk_at dksX0_isSlot_0 0 rfl rfl)
theorem dX0_isSlot_1 : decode cX0_isSlot 1 = .ok (.iconst 0, 1) := dk_3 (dk_at dksX0_isSlot_0 1 rfl rfl)
theorem dX0_isSlot_2 : decode cX0_isSlot 2 = .ok (.iconst 4, 1) := dk_7 (dk_at dksX0_isSlot_0 2 rfl rfl)
theorem dX0_isSlot_3 : decode cX0_isSlot 3 = .ok (.invokestatic 137, 3) := dk_184 0 137 (dk_at dksX0_isSlot_0 3 rfl rfl)
theorem dX0_isSlot_6 : decode cX0_isSlot 6 = .ok (.ireturn, 1) := dk_172 (dk_at dksX0_isSlot_0 6 rfl rfl)
abbrev cX0_own : ByteArray := prog_1_method_98_code
def yX0_own : MethodName := ⟨RX0, "own", "(LKeptLeaves$Sheet;)LKeptLeaves$Sheet;"⟩
def dkwX0_own_1 : List UInt8 := [43, 3, 44, 3, 43, 182, 2, 6, 182, 2, 21, 44, 176]
abbrev dktX0_own_1 : List UInt8 := dkwX0_own_1 ++ []
def dkwX0_own_0 : List UInt8 := [187, 0, 109, 89, 183, 0, 111, 77, 44, 43, 182, 1, 245, 43, 182, 2, 6, 184, 1, 238, 181, 1, 234, 42]
abbrev dktX0_own_0 : List UInt8 := dkwX0_own_0 ++ dktX0_own_1
theorem dksX0_own_0 : cX0_own.data.toList.drop 0 = dktX0_own_0 := by decide +kernel
theorem dksX0_own_1 : cX0_own.data.toList.drop 24 = dktX0_own_1 := dk_seg dksX0_own_0 24 rfl rfl
theorem dX0_own_0 : decode cX0_own 0 = .ok (.new 109, 3) := dk_187 0 109 (dk_at dksX0_own_0 0 rfl rfl)
theorem dX0_own_3 : decode cX0_own 3 = .ok (.dup, 1) := dk_89 (dk_at dksX0_own_0 3 rfl rfl)
theorem dX0_own_4 : decode cX0_own 4 = .ok (.invokespecial 111, 3) := dk_183 0 111 (dk_at dksX0_own_0 4 rfl rfl)
theorem dX0_own_7 : decode cX0_own 7 = .ok (.astore_n 2, 1) := dk_77 (dk_at dksX0_own_0 7 rfl rfl)
theorem dX0_own_8 : decode cX0_own 8 = .ok (.aload_n 2, 1) := dk_44 (dk_at dksX0_own_0 8 rfl rfl)
theorem dX0_own_9 : decode cX0_own 9 = .ok (.aload_n 1, 1) := dk_43 (dk_at dksX0_own_0 9 rfl rfl)
theorem dX0_own_10 : decode cX0_own 10 = .ok (.invokevirtual 501, 3) := dk_182 1 245 (dk_at dksX0_own_0 10 rfl rfl)
theorem dX0_own_13 : decode cX0_own 13 = .ok (.aload_n 1, 1) := dk_43 (dk_at dksX0_own_0 13 rfl rfl)
theorem dX0_own_14 : decode cX0_own 14 = .ok (.invokevirtual 518, 3) := dk_182 2 6 (dk_at dksX0_own_0 14 rfl rfl)
theorem dX0_own_17 : decode cX0_own 17 = .ok (.invokestatic 494, 3) := dk_184 1 238 (dk_at dksX0_own_0 17 rfl rfl)
theorem dX0_own_20 : decode cX0_own 20 = .ok (.putfield 490, 3) := dk_181 1 234 (dk_at dksX0_own_0 20 rfl rfl)
theorem dX0_own_23 : decode cX0_own 23 = .ok (.aload_n 0, 1) := dk_42 (dk_at dksX0_own_0 23 rfl rfl)
theorem dX0_own_24 : decode cX0_own 24 = .ok (.aload_n 1, 1) := dk_43 (dk_at dksX0_own_1 0 rfl rfl)
theorem dX0_own_25 : decode cX0_own 25 = .ok (.iconst 0, 1) := dk_3 (dk_at dksX0_own_1 1 rfl rfl)
theorem dX0_own_26 : decode cX0_own 26 = .ok (.aload_n 2, 1) := dk_44 (dk_at dksX0_own_1 2 rfl rfl)
theorem dX0_own_27 : decode cX0_own 27 = .ok (.iconst 0, 1) := dk_3 (dk_at dksX0_own_1 3 rfl rfl)
theorem dX0_own_28 : decode cX0_own 28 = .ok (.aload_n 1, 1) := dk_43 (dk_at dksX0_own_1 4 rfl rfl)
theorem dX0_own_29 : decode cX0_own 29 = .ok (.invokevirtual 518, 3) := dk_182 2 6 (dk_at dksX0_own_1 5 rfl rfl)
theorem dX0_own_32 : decode cX0_own 32 = .ok (.invokevirtual 533, 3) := dk_182 2 21 (dk_at dksX0_own_1 8 rfl rfl)
theorem dX0_own_35 : decode cX0_own 35 = .ok (.aload_n 2, 1) := dk_44 (dk_at dksX0_own_1 11 rfl rfl)
theorem dX0_own_36 : decode cX0_own 36 = .ok (.areturn, 1) := dk_176 (dk_at dksX0_own_1 12 rfl rfl)
abbrev cX0_ask : ByteArray := prog_1_method_100_code
def yX0_ask : MethodName := ⟨RX0, "ask", "(II)I"⟩
def dkwX0_ask_2 : List UInt8 := [185, 2, 46, 1, 0, 172, 58, 4, 19, 1, 117, 172]
abbrev dktX0_ask_2 : List UInt8 := dkwX0_ask_2 ++ []
def dkwX0_ask_1 : List UInt8 := [50, 180, 2, 43, 78, 45, 199, 0, 7, 19, 2, 5, 172, 45, 28, 184, 1, 111, 58, 4, 25, 4]
abbrev dktX0_ask_1 : List UInt8 := dkwX0_ask_1 ++ dktX0_ask_2
def dkwX0_ask_0 : List UInt8 := [27, 184, 2, 25, 153, 0, 12, 28, 3, 8, 184, 0, 137, 154, 0, 6, 18, 164, 172, 42, 180, 0, 119, 27]
abbrev dktX0_ask_0 : List UInt8 := dkwX0_ask_0 ++ dktX0_ask_1
theorem dksX0_ask_0 : cX0_ask.data.toList.drop 0 = dktX0_ask_0 := by decide +kernel
theorem dksX0_ask_1 : cX0_ask.data.toList.drop 24 = dktX0_ask_1 := dk_seg dksX0_ask_0 24 rfl rfl
theorem dksX0_ask_2 : cX0_ask.data.toList.drop 46 = dktX0_ask_2 := dk_seg dksX0_ask_1 22 rfl rfl
theorem dX0_ask_0 : decode cX0_ask 0 = .ok (.iload_n 1, 1) := dk_27 (dk_at dksX0_ask_0 0 rfl rfl)
theorem dX0_ask_1 : decode cX0_ask 1 = .ok (.invokestatic 537, 3) := dk_184 2 25 (dk_at dksX0_ask_0 1 rfl rfl)
theorem dX0_ask_4 : decode cX0_ask 4 = .ok (.ifCond .eq 12, 3) := dk_153 0 12 (dk_at dksX0_ask_0 4 rfl rfl)
theorem dX0_ask_7 : decode cX0_ask 7 = .ok (.iload_n 2, 1) := dk_28 (dk_at dksX0_ask_0 7 rfl rfl)
theorem dX0_ask_8 : decode cX0_ask 8 = .ok (.iconst 0, 1) := dk_3 (dk_at dksX0_ask_0 8 rfl rfl)
theorem dX0_ask_9 : decode cX0_ask 9 = .ok (.iconst 5, 1) := dk_8 (dk_at dksX0_ask_0 9 rfl rfl)
theorem dX0_ask_10 : decode cX0_ask 10 = .ok (.invokestatic 137, 3) := dk_184 0 137 (dk_at dksX0_ask_0 10 rfl rfl)
theorem dX0_ask_13 : decode cX0_ask 13 = .ok (.ifCond .ne 6, 3) := dk_154 0 6 (dk_at dksX0_ask_0 13 rfl rfl)
theorem dX0_ask_16 : decode cX0_ask 16 = .ok (.ldc 164, 2) := dk_18 164 (dk_at dksX0_ask_0 16 rfl rfl)
theorem dX0_ask_18 : decode cX0_ask 18 = .ok (.ireturn, 1) := dk_172 (dk_at dksX0_ask_0 18 rfl rfl)
theorem dX0_ask_19 : decode cX0_ask 19 = .ok (.aload_n 0, 1) := dk_42 (dk_at dksX0_ask_0 19 rfl rfl)
theorem dX0_ask_20 : decode cX0_ask 20 = .ok (.getfield 119, 3) := dk_180 0 119 (dk_at dksX0_ask_0 20 rfl rfl)
theorem dX0_ask_23 : decode cX0_ask 23 = .ok (.iload_n 1, 1) := dk_27 (dk_at dksX0_ask_0 23 rfl rfl)
theorem dX0_ask_24 : decode cX0_ask 24 = .ok (.aaload, 1) := dk_50 (dk_at dksX0_ask_1 0 rfl rfl)
theorem dX0_ask_25 : decode cX0_ask 25 = .ok (.getfield 555, 3) := dk_180 2 43 (dk_at dksX0_ask_1 1 rfl rfl)
theorem dX0_ask_28 : decode cX0_ask 28 = .ok (.astore_n 3, 1) := dk_78 (dk_at dksX0_ask_1 4 rfl rfl)
theorem dX0_ask_29 : decode cX0_ask 29 = .ok (.aload_n 3, 1) := dk_45 (dk_at dksX0_ask_1 5 rfl rfl)
theorem dX0_ask_30 : decode cX0_ask 30 = .ok (.ifnonnull 7, 3) := dk_199 0 7 (dk_at dksX0_ask_1 6 rfl rfl)
theorem dX0_ask_33 : decode cX0_ask 33 = .ok (.ldc_w 517, 3) := dk_19 2 5 (dk_at dksX0_ask_1 9 rfl rfl)
theorem dX0_ask_36 : decode cX0_ask 36 = .ok (.ireturn, 1) := dk_172 (dk_at dksX0_ask_1 12 rfl rfl)
theorem dX0_ask_37 : decode cX0_ask 37 = .ok (.aload_n 3, 1) := dk_45 (dk_at dksX0_ask_1 13 rfl rfl)
theorem dX0_ask_38 : decode cX0_ask 38 = .ok (.iload_n 2, 1) := dk_28 (dk_at dksX0_ask_1 14 rfl rfl)
theorem dX0_ask_39 : decode cX0_ask 39 = .ok (.invokestatic 367, 3) := dk_184 1 111 (dk_at dksX0_ask_1 15 rfl rfl)
theorem dX0_ask_42 : decode cX0_ask 42 = .ok (.astore 4, 2) := dk_58 4 (dk_at dksX0_ask_1 18 rfl rfl)
theorem dX0_ask_44 : decode cX0_ask 44 = .ok (.aload 4, 2) := dk_25 4 (dk_at dksX0_ask_1 20 rfl rfl)
theorem dX0_ask_46 : decode cX0_ask 46 = .ok (.invokeinterface 558 1, 5) := by decide +kernel
theorem dX0_ask_51 : decode cX0_ask 51 = .ok (.ireturn, 1) := dk_172 (dk_at dksX0_ask_2 5 rfl rfl)
theorem dX0_ask_52 : decode cX0_ask 52 = .ok (.astore 4, 2) := dk_58 4 (dk_at dksX0_ask_2 6 rfl rfl)
theorem dX0_ask_54 : decode cX0_ask 54 = .ok (.ldc_w 373, 3) := dk_19 1 117 (dk_at dksX0_ask_2 8 rfl rfl)
theorem dX0_ask_57 : decode cX0_ask 57 = .ok (.ireturn, 1) := dk_172 (dk_at dksX0_ask_2 11 rfl rfl)
abbrev cX0_item : ByteArray := prog_1_method_101_code
def yX0_item : MethodName := ⟨RX0, "item", "(II)I"⟩
def dkwX0_item_3 : List UInt8 := [167, 0, 6, 19, 1, 117, 172, 58, 4, 19, 1, 117, 172]
abbrev dktX0_item_3 : List UInt8 := dkwX0_item_3 ++ []
def dkwX0_item_2 : List UInt8 := [154, 0, 7, 19, 2, 12, 172, 25, 4, 28, 182, 2, 13, 153, 0, 12, 25, 4, 28, 182, 2, 16]
abbrev dktX0_item_2 : List UInt8 := dkwX0_item_2 ++ dktX0_item_3
def dkwX0_item_1 : List UInt8 := [19, 2, 5, 172, 45, 192, 0, 109, 58, 4, 28, 3, 25, 4, 182, 2, 6, 4, 100, 184, 0, 137]
abbrev dktX0_item_1 : List UInt8 := dkwX0_item_1 ++ dktX0_item_2
def dkwX0_item_0 : List UInt8 := [27, 184, 2, 25, 154, 0, 6, 18, 164, 172, 42, 180, 0, 119, 27, 50, 180, 2, 43, 78, 45, 199, 0, 7]
abbrev dktX0_item_0 : List UInt8 := dkwX0_item_0 ++ dktX0_item_1
theorem dksX0_item_0 : cX0_item.data.toList.drop 0 = dktX0_item_0 := by decide +kernel
theorem dksX0_item_1 : cX0_item.data.toList.drop 24 = dktX0_item_1 := dk_seg dksX0_item_0 24 rfl rfl
theorem dksX0_item_2 : cX0_item.data.toList.drop 46 = dktX0_item_2 := dk_seg dksX0_item_1 22 rfl rfl
theorem dksX0_item_3 : cX0_item.data.toList.drop 68 = dktX0_item_3 := dk_seg dksX0_item_2 22 rfl rfl
theorem dX0_item_0 : decode cX0_item 0 = .ok (.iload_n 1, 1) := dk_27 (dk_at dksX0_item_0 0 rfl rfl)
theorem dX0_item_1 : decode cX0_item 1 = .ok (.invokestatic 537, 3) := dk_184 2 25 (dk_at dksX0_item_0 1 rfl rfl)
theorem dX0_item_4 : decode cX0_item 4 = .ok (.ifCond .ne 6, 3) := dk_154 0 6 (dk_at dksX0_item_0 4 rfl rfl)
theorem dX0_item_7 : decode cX0_item 7 = .ok (.ldc 164, 2) := dk_18 164 (dk_at dksX0_item_0 7 rfl rfl)
theorem dX0_item_9 : decode cX0_item 9 = .ok (.ireturn, 1) := dk_172 (dk_at dksX0_item_0 9 rfl rfl)
theorem dX0_item_10 : decode cX0_item 10 = .ok (.aload_n 0, 1) := dk_42 (dk_at dksX0_item_0 10 rfl rfl)
theorem dX0_item_11 : decode cX0_item 11 = .ok (.getfield 119, 3) := dk_180 0 119 (dk_at dksX0_item_0 11 rfl rfl)
theorem dX0_item_14 : decode cX0_item 14 = .ok (.iload_n 1, 1) := dk_27 (dk_at dksX0_item_0 14 rfl rfl)
theorem dX0_item_15 : decode cX0_item 15 = .ok (.aaload, 1) := dk_50 (dk_at dksX0_item_0 15 rfl rfl)
theorem dX0_item_16 : decode cX0_item 16 = .ok (.getfield 555, 3) := dk_180 2 43 (dk_at dksX0_item_0 16 rfl rfl)
theorem dX0_item_19 : decode cX0_item 19 = .ok (.astore_n 3, 1) := dk_78 (dk_at dksX0_item_0 19 rfl rfl)
theorem dX0_item_20 : decode cX0_item 20 = .ok (.aload_n 3, 1) := dk_45 (dk_at dksX0_item_0 20 rfl rfl)
theorem dX0_item_21 : decode cX0_item 21 = .ok (.ifnonnull 7, 3) := dk_199 0 7 (dk_at dksX0_item_0 21 rfl rfl)
theorem dX0_item_24 : decode cX0_item 24 = .ok (.ldc_w 517, 3) := dk_19 2 5 (dk_at dksX0_item_1 0 rfl rfl)
theorem dX0_item_27 : decode cX0_item 27 = .ok (.ireturn, 1) := dk_172 (dk_at dksX0_item_1 3 rfl rfl)
theorem dX0_item_28 : decode cX0_item 28 = .ok (.aload_n 3, 1) := dk_45 (dk_at dksX0_item_1 4 rfl rfl)
theorem dX0_item_29 : decode cX0_item 29 = .ok (.checkcast 109, 3) := dk_192 0 109 (dk_at dksX0_item_1 5 rfl rfl)
theorem dX0_item_32 : decode cX0_item 32 = .ok (.astore 4, 2) := dk_58 4 (dk_at dksX0_item_1 8 rfl rfl)
theorem dX0_item_34 : decode cX0_item 34 = .ok (.iload_n 2, 1) := dk_28 (dk_at dksX0_item_1 10 rfl rfl)
theorem dX0_item_35 : decode cX0_item 35 = .ok (.iconst 0, 1) := dk_3 (dk_at dksX0_item_1 11 rfl rfl)
theorem dX0_item_36 : decode cX0_item 36 = .ok (.aload 4, 2) := dk_25 4 (dk_at dksX0_item_1 12 rfl rfl)
theorem dX0_item_38 : decode cX0_item 38 = .ok (.invokevirtual 518, 3) := dk_182 2 6 (dk_at dksX0_item_1 14 rfl rfl)
theorem dX0_item_41 : decode cX0_item 41 = .ok (.iconst 1, 1) := dk_4 (dk_at dksX0_item_1 17 rfl rfl)
theorem dX0_item_42 : decode cX0_item 42 = .ok (.isub, 1) := dk_100 (dk_at dksX0_item_1 18 rfl rfl)
theorem dX0_item_43 : decode cX0_item 43 = .ok (.invokestatic 137, 3) := dk_184 0 137 (dk_at dksX0_item_1 19 rfl rfl)
theorem dX0_item_46 : decode cX0_item 46 = .ok (.ifCond .ne 7, 3) := dk_154 0 7 (dk_at dksX0_item_2 0 rfl rfl)
theorem dX0_item_49 : decode cX0_item 49 = .ok (.ldc_w 524, 3) := dk_19 2 12 (dk_at dksX0_item_2 3 rfl rfl)
theorem dX0_item_52 : decode cX0_item 52 = .ok (.ireturn, 1) := dk_172 (dk_at dksX0_item_2 6 rfl rfl)
theorem dX0_item_53 : decode cX0_item 53 = .ok (.aload 4, 2) := dk_25 4 (dk_at dksX0_item_2 7 rfl rfl)
theorem dX0_item_55 : decode cX0_item 55 = .ok (.iload_n 2, 1) := dk_28 (dk_at dksX0_item_2 9 rfl rfl)
theorem dX0_item_56 : decode cX0_item 56 = .ok (.invokevirtual 525, 3) := dk_182 2 13 (dk_at dksX0_item_2 10 rfl rfl)
theorem dX0_item_59 : decode cX0_item 59 = .ok (.ifCond .eq 12, 3) := dk_153 0 12 (dk_at dksX0_item_2 13 rfl rfl)
theorem dX0_item_62 : decode cX0_item 62 = .ok (.aload 4, 2) := dk_25 4 (dk_at dksX0_item_2 16 rfl rfl)
theorem dX0_item_64 : decode cX0_item 64 = .ok (.iload_n 2, 1) := dk_28 (dk_at dksX0_item_2 18 rfl rfl)
theorem dX0_item_65 : decode cX0_item 65 = .ok (.invokevirtual 528, 3) := dk_182 2 16 (dk_at dksX0_item_2 19 rfl rfl)
theorem dX0_item_68 : decode cX0_item 68 = .ok (.goto 6, 3) := dk_167 0 6 (dk_at dksX0_item_3 0 rfl rfl)
theorem dX0_item_71 : decode cX0_item 71 = .ok (.ldc_w 373, 3) := dk_19 1 117 (dk_at dksX0_item_3 3 rfl rfl)
theorem dX0_item_74 : decode cX0_item 74 = .ok (.ireturn, 1) := dk_172 (dk_at dksX0_item_3 6 rfl rfl)
theorem dX0_item_75 : decode cX0_item 75 = .ok (.astore 4, 2) := dk_58 4 (dk_at dksX0_item_3 7 rfl rfl)
theorem dX0_item_77 : decode cX0_item 77 = .ok (.ldc_w 373, 3) := dk_19 1 117 (dk_at dksX0_item_3 9 rfl rfl)
theorem dX0_item_80 : decode cX0_item 80 = .ok (.ireturn, 1) := dk_172 (dk_at dksX0_item_3 12 rfl rfl)
abbrev cX0_rest : ByteArray := prog_1_method_102_code
def yX0_rest : MethodName := ⟨RX0, "rest", "(II)I"⟩
def dkwX0_rest_2 : List UInt8 := [28, 154, 0, 9, 19, 1, 196, 167, 0, 7, 21, 4, 28, 112, 172]
abbrev dktX0_rest_2 : List UInt8 := dkwX0_rest_2 ++ []
def dkwX0_rest_1 : List UInt8 := [19, 2, 5, 172, 45, 193, 2, 39, 154, 0, 7, 19, 1, 117, 172, 45, 192, 2, 39, 180, 2, 49, 54, 4]
abbrev dktX0_rest_1 : List UInt8 := dkwX0_rest_1 ++ dktX0_rest_2
def dkwX0_rest_0 : List UInt8 := [27, 184, 2, 25, 154, 0, 6, 18, 164, 172, 42, 180, 0, 119, 27, 50, 180, 2, 43, 78, 45, 199, 0, 7]
abbrev dktX0_rest_0 : List UInt8 := dkwX0_rest_0 ++ dktX0_rest_1
theorem dksX0_rest_0 : cX0_rest.data.toList.drop 0 = dktX0_rest_0 := by decide +kernel
theorem dksX0_rest_1 : cX0_rest.data.toList.drop 24 = dktX0_rest_1 := dk_seg dksX0_rest_0 24 rfl rfl
theorem dksX0_rest_2 : cX0_rest.data.toList.drop 48 = dktX0_rest_2 := dk_seg dksX0_rest_1 24 rfl rfl
theorem dX0_rest_0 : decode cX0_rest 0 = .ok (.iload_n 1, 1) := dk_27 (dk_at dksX0_rest_0 0 rfl rfl)
theorem dX0_rest_1 : decode cX0_rest 1 = .ok (.invokestatic 537, 3) := dk_184 2 25 (dk_at dksX0_rest_0 1 rfl rfl)
theorem dX0_rest_4 : decode cX0_rest 4 = .ok (.ifCond .ne 6, 3) := dk_154 0 6 (dk_at dksX0_rest_0 4 rfl rfl)
theorem dX0_rest_7 : decode cX0_rest 7 = .ok (.ldc 164, 2) := dk_18 164 (dk_at dksX0_rest_0 7 rfl rfl)
theorem dX0_rest_9 : decode cX0_rest 9 = .ok (.ireturn, 1) := dk_172 (dk_at dksX0_rest_0 9 rfl rfl)
theorem dX0_rest_10 : decode cX0_rest 10 = .ok (.aload_n 0, 1) := dk_42 (dk_at dksX0_rest_0 10 rfl rfl)
theorem dX0_rest_11 : decode cX0_rest 11 = .ok (.getfield 119, 3) := dk_180 0 119 (dk_at dksX0_rest_0 11 rfl rfl)
theorem dX0_rest_14 : decode cX0_rest 14 = .ok (.iload_n 1, 1) := dk_27 (dk_at dksX0_rest_0 14 rfl rfl)
theorem dX0_rest_15 : decode cX0_rest 15 = .ok (.aaload, 1) := dk_50 (dk_at dksX0_rest_0 15 rfl rfl)
theorem dX0_rest_16 : decode cX0_rest 16 = .ok (.getfield 555, 3) := dk_180 2 43 (dk_at dksX0_rest_0 16 rfl rfl)
theorem dX0_rest_19 : decode cX0_rest 19 = .ok (.astore_n 3, 1) := dk_78 (dk_at dksX0_rest_0 19 rfl rfl)
theorem dX0_rest_20 : decode cX0_rest 20 = .ok (.aload_n 3, 1) := dk_45 (dk_at dksX0_rest_0 20 rfl rfl)
theorem dX0_rest_21 : decode cX0_rest 21 = .ok (.ifnonnull 7, 3) := dk_199 0 7 (dk_at dksX0_rest_0 21 rfl rfl)
theorem dX0_rest_24 : decode cX0_rest 24 = .ok (.ldc_w 517, 3) := dk_19 2 5 (dk_at dksX0_rest_1 0 rfl rfl)
theorem dX0_rest_27 : decode cX0_rest 27 = .ok (.ireturn, 1) := dk_172 (dk_at dksX0_rest_1 3 rfl rfl)
theorem dX0_rest_28 : decode cX0_rest 28 = .ok (.aload_n 3, 1) := dk_45 (dk_at dksX0_rest_1 4 rfl rfl)
theorem dX0_rest_29 : decode cX0_rest 29 = .ok (.instanceof 551, 3) := dk_193 2 39 (dk_at dksX0_rest_1 5 rfl rfl)
theorem dX0_rest_32 : decode cX0_rest 32 = .ok (.ifCond .ne 7, 3) := dk_154 0 7 (dk_at dksX0_rest_1 8 rfl rfl)
theorem dX0_rest_35 : decode cX0_rest 35 = .ok (.ldc_w 373, 3) := dk_19 1 117 (dk_at dksX0_rest_1 11 rfl rfl)
theorem dX0_rest_38 : decode cX0_rest 38 = .ok (.ireturn, 1) := dk_172 (dk_at dksX0_rest_1 14 rfl rfl)
theorem dX0_rest_39 : decode cX0_rest 39 = .ok (.aload_n 3, 1) := dk_45 (dk_at dksX0_rest_1 15 rfl rfl)
theorem dX0_rest_40 : decode cX0_rest 40 = .ok (.checkcast 551, 3) := dk_192 2 39 (dk_at dksX0_rest_1 16 rfl rfl)
theorem dX0_rest_43 : decode cX0_rest 43 = .ok (.getfield 561, 3) := dk_180 2 49 (dk_at dksX0_rest_1 19 rfl rfl)
theorem dX0_rest_46 : decode cX0_rest 46 = .ok (.istore 4, 2) := dk_54 4 (dk_at dksX0_rest_1 22 rfl rfl)
theorem dX0_rest_48 : decode cX0_rest 48 = .ok (.iload_n 2, 1) := dk_28 (dk_at dksX0_rest_2 0 rfl rfl)
theorem dX0_rest_49 : decode cX0_rest 49 = .ok (.ifCond .ne 9, 3) := dk_154 0 9 (dk_at dksX0_rest_2 1 rfl rfl)
theorem dX0_rest_52 : decode cX0_rest 52 = .ok (.ldc_w 452, 3) := dk_19 1 196 (dk_at dksX0_rest_2 4 rfl rfl)
theorem dX0_rest_55 : decode cX0_rest 55 = .ok (.goto 7, 3) := dk_167 0 7 (dk_at dksX0_rest_2 7 rfl rfl)
theorem dX0_rest_58 : decode cX0_rest 58 = .ok (.iload 4, 2) := dk_21 4 (dk_at dksX0_rest_2 10 rfl rfl)
theorem dX0_rest_60 : decode cX0_rest 60 = .ok (.iload_n 2, 1) := dk_28 (dk_at dksX0_rest_2 12 rfl rfl)
theorem dX0_rest_61 : decode cX0_rest 61 = .ok (.irem, 1) := dk_112 (dk_at dksX0_rest_2 13 rfl rfl)
theorem dX0_rest_62 : decode cX0_rest 62 = .ok (.ireturn, 1) := dk_172 (dk_at dksX0_rest_2 14 rfl rfl)
abbrev cX0_tell : ByteArray := prog_1_method_103_code
def yX0_tell : MethodName := ⟨RX0, "tell", "(I)I"⟩
def dkwX0_tell_1 : List UInt8 := [180, 2, 52, 4, 96, 181, 2, 52, 42, 180, 2, 52, 172]
abbrev dktX0_tell_1 : List UInt8 := dkwX0_tell_1 ++ []
def dkwX0_tell_0 : List UInt8 := [42, 180, 2, 52, 16, 60, 160, 0, 6, 18, 159, 172, 42, 180, 0, 127, 42, 180, 2, 52, 27, 79, 42, 89]
abbrev dktX0_tell_0 : List UInt8 := dkwX0_tell_0 ++ dktX0_tell_1
theorem dksX0_tell_0 : cX0_tell.data.toList.drop 0 = dktX0_tell_0 := by decide +kernel
theorem dksX0_tell_1 : cX0_tell.data.toList.drop 24 = dktX0_tell_1 := dk_seg dksX0_tell_0 24 rfl rfl
theorem dX0_tell_0 : decode cX0_tell 0 = .ok (.aload_n 0, 1) := dk_42 (dk_at dksX0_tell_0 0 rfl rfl)
theorem dX0_tell_1 : decode cX0_tell 1 = .ok (.getfield 564, 3) := dk_180 2 52 (dk_at dksX0_tell_0 1 rfl rfl)
theorem dX0_tell_4 : decode cX0_tell 4 = .ok (.bipush 60, 2) := dk_16 60 (dk_at dksX0_tell_0 4 rfl rfl)
theorem dX0_tell_6 : decode cX0_tell 6 = .ok (.if_icmp .ne 6, 3) := dk_160 0 6 (dk_at dksX0_tell_0 6 rfl rfl)
theorem dX0_tell_9 : decode cX0_tell 9 = .ok (.ldc 159, 2) := dk_18 159 (dk_at dksX0_tell_0 9 rfl rfl)
theorem dX0_tell_11 : decode cX0_tell 11 = .ok (.ireturn, 1) := dk_172 (dk_at dksX0_tell_0 11 rfl rfl)
theorem dX0_tell_12 : decode cX0_tell 12 = .ok (.aload_n 0, 1) := dk_42 (dk_at dksX0_tell_0 12 rfl rfl)
theorem dX0_tell_13 : decode cX0_tell 13 = .ok (.getfield 127, 3) := dk_180 0 127 (dk_at dksX0_tell_0 13 rfl rfl)
theorem dX0_tell_16 : decode cX0_tell 16 = .ok (.aload_n 0, 1) := dk_42 (dk_at dksX0_tell_0 16 rfl rfl)
theorem dX0_tell_17 : decode cX0_tell 17 = .ok (.getfield 564, 3) := dk_180 2 52 (dk_at dksX0_tell_0 17 rfl rfl)
theorem dX0_tell_20 : decode cX0_tell 20 = .ok (.iload_n 1, 1) := dk_27 (dk_at dksX0_tell_0 20 rfl rfl)
theorem dX0_tell_21 : decode cX0_tell 21 = .ok (.iastore, 1) := dk_79 (dk_at dksX0_tell_0 21 rfl rfl)
theorem dX0_tell_22 : decode cX0_tell 22 = .ok (.aload_n 0, 1) := dk_42 (dk_at dksX0_tell_0 22 rfl rfl)
theorem dX0_tell_23 : decode cX0_tell 23 = .ok (.dup, 1) := dk_89 (dk_at dksX0_tell_0 23 rfl rfl)
theorem dX0_tell_24 : decode cX0_tell 24 = .ok (.getfield 564, 3) := dk_180 2 52 (dk_at dksX0_tell_1 0 rfl rfl)
theorem dX0_tell_27 : decode cX0_tell 27 = .ok (.iconst 1, 1) := dk_4 (dk_at dksX0_tell_1 3 rfl rfl)
theorem dX0_tell_28 : decode cX0_tell 28 = .ok (.iadd, 1) := dk_96 (dk_at dksX0_tell_1 4 rfl rfl)
theorem dX0_tell_29 : decode cX0_tell 29 = .ok (.putfield 564, 3) := dk_181 2 52 (dk_at dksX0_tell_1 5 rfl rfl)
theorem dX0_tell_32 : decode cX0_tell 32 = .ok (.aload_n 0, 1) := dk_42 (dk_at dksX0_tell_1 8 rfl rfl)
theorem dX0_tell_33 : decode cX0_tell 33 = .ok (.getfield 564, 3) := dk_180 2 52 (dk_at dksX0_tell_1 9 rfl rfl)
theorem dX0_tell_36 : decode cX0_tell 36 = .ok (.ireturn, 1) := dk_172 (dk_at dksX0_tell_1 12 rfl rfl)
abbrev cX0_check : ByteArray := prog_1_method_105_code
def yX0_check : MethodName := ⟨RX0, "check", "(I)I"⟩
def dkwX0_check_4 : List UInt8 := [167, 255, 216, 28, 29, 162, 0, 9, 4, 28, 96, 167, 0, 4, 3, 172]
abbrev dktX0_check_4 : List UInt8 := dkwX0_check_4 ++ []
def dkwX0_check_3 : List UInt8 := [21, 4, 46, 42, 180, 0, 130, 21, 4, 46, 160, 0, 6, 167, 0, 8, 4, 21, 4, 96, 172, 132, 4, 1]
abbrev dktX0_check_3 : List UInt8 := dkwX0_check_3 ++ dktX0_check_4
def dkwX0_check_2 : List UInt8 := [182, 2, 62, 62, 3, 54, 4, 21, 4, 28, 162, 0, 40, 21, 4, 29, 162, 0, 23, 42, 180, 0, 127]
abbrev dktX0_check_2 : List UInt8 := dkwX0_check_2 ++ dktX0_check_3
def dkwX0_check_1 : List UInt8 := [180, 2, 58, 153, 0, 13, 42, 180, 0, 50, 180, 0, 133, 154, 0, 7, 19, 1, 196, 172, 42, 27]
abbrev dktX0_check_1 : List UInt8 := dkwX0_check_1 ++ dktX0_check_2
def dkwX0_check_0 : List UInt8 := [42, 180, 2, 52, 61, 42, 3, 181, 2, 52, 27, 4, 16, 30, 184, 0, 137, 154, 0, 6, 18, 164, 172, 42]
abbrev dktX0_check_0 : List UInt8 := dkwX0_check_0 ++ dktX0_check_1
theorem dksX0_check_0 : cX0_check.data.toList.drop 0 = dktX0_check_0 := by decide +kernel
theorem dksX0_check_1 : cX0_check.data.toList.drop 24 = dktX0_check_1 := dk_seg dksX0_check_0 24 rfl rfl
theorem dksX0_check_2 : cX0_check.data.toList.drop 46 = dktX0_check_2 := dk_seg dksX0_check_1 22 rfl rfl
theorem dksX0_check_3 : cX0_check.data.toList.drop 69 = dktX0_check_3 := dk_seg dksX0_check_2 23 rfl rfl
theorem dksX0_check_4 : cX0_check.data.toList.drop 93 = dktX0_check_4 := dk_seg dksX0_check_3 24 rfl rfl
theorem dX0_check_0 : decode cX0_check 0 = .ok (.aload_n 0, 1) := dk_42 (dk_at dksX0_check_0 0 rfl rfl)
theorem dX0_check_1 : decode cX0_check 1 = .ok (.getfield 564, 3) := dk_180 2 52 (dk_at dksX0_check_0 1 rfl rfl)
theorem dX0_check_4 : decode cX0_check 4 = .ok (.istore_n 2, 1) := dk_61 (dk_at dksX0_check_0 4 rfl rfl)
theorem dX0_check_5 : decode cX0_check 5 = .ok (.aload_n 0, 1) := dk_42 (dk_at dksX0_check_0 5 rfl rfl)
theorem dX0_check_6 : decode cX0_check 6 = .ok (.iconst 0, 1) := dk_3 (dk_at dksX0_check_0 6 rfl rfl)
theorem dX0_check_7 : decode cX0_check 7 = .ok (.putfield 564, 3) := dk_181 2 52 (dk_at dksX0_check_0 7 rfl rfl)
theorem dX0_check_10 : decode cX0_check 10 = .ok (.iload_n 1, 1) := dk_27 (dk_at dksX0_check_0 10 rfl rfl)
theorem dX0_check_11 : decode cX0_check 11 = .ok (.iconst 1, 1) := dk_4 (dk_at dksX0_check_0 11 rfl rfl)
theorem dX0_check_12 : decode cX0_check 12 = .ok (.bipush 30, 2) := dk_16 30 (dk_at dksX0_check_0 12 rfl rfl)
theorem dX0_check_14 : decode cX0_check 14 = .ok (.invokestatic 137, 3) := dk_184 0 137 (dk_at dksX0_check_0 14 rfl rfl)
theorem dX0_check_17 : decode cX0_check 17 = .ok (.ifCond .ne 6, 3) := dk_154 0 6 (dk_at dksX0_check_0 17 rfl rfl)
theorem dX0_check_20 : decode cX0_check 20 = .ok (.ldc 164, 2) := dk_18 164 (dk_at dksX0_check_0 20 rfl rfl)
theorem dX0_check_22 : decode cX0_check 22 = .ok (.ireturn, 1) := dk_172 (dk_at dksX0_check_0 22 rfl rfl)
theorem dX0_check_23 : decode cX0_check 23 = .ok (.aload_n 0, 1) := dk_42 (dk_at dksX0_check_0 23 rfl rfl)
theorem dX0_check_24 : decode cX0_check 24 = .ok (.getfield 570, 3) := dk_180 2 58 (dk_at dksX0_check_1 0 rfl rfl)
theorem dX0_check_27 : decode cX0_check 27 = .ok (.ifCond .eq 13, 3) := dk_153 0 13 (dk_at dksX0_check_1 3 rfl rfl)
theorem dX0_check_30 : decode cX0_check 30 = .ok (.aload_n 0, 1) := dk_42 (dk_at dksX0_check_1 6 rfl rfl)
theorem dX0_check_31 : decode cX0_check 31 = .ok (.getfield 50, 3) := dk_180 0 50 (dk_at dksX0_check_1 7 rfl rfl)
theorem dX0_check_34 : decode cX0_check 34 = .ok (.getfield 133, 3) := dk_180 0 133 (dk_at dksX0_check_1 10 rfl rfl)
theorem dX0_check_37 : decode cX0_check 37 = .ok (.ifCond .ne 7, 3) := dk_154 0 7 (dk_at dksX0_check_1 13 rfl rfl)
theorem dX0_check_40 : decode cX0_check 40 = .ok (.ldc_w 452, 3) := dk_19 1 196 (dk_at dksX0_check_1 16 rfl rfl)
theorem dX0_check_43 : decode cX0_check 43 = .ok (.ireturn, 1) := dk_172 (dk_at dksX0_check_1 19 rfl rfl)
theorem dX0_check_44 : decode cX0_check 44 = .ok (.aload_n 0, 1) := dk_42 (dk_at dksX0_check_1 20 rfl rfl)
theorem dX0_check_45 : decode cX0_check 45 = .ok (.iload_n 1, 1) := dk_27 (dk_at dksX0_check_1 21 rfl rfl)
theorem dX0_check_46 : decode cX0_check 46 = .ok (.invokevirtual 574, 3) := dk_182 2 62 (dk_at dksX0_check_2 0 rfl rfl)
theorem dX0_check_49 : decode cX0_check 49 = .ok (.istore_n 3, 1) := dk_62 (dk_at dksX0_check_2 3 rfl rfl)
theorem dX0_check_50 : decode cX0_check 50 = .ok (.iconst 0, 1) := dk_3 (dk_at dksX0_check_2 4 rfl rfl)
theorem dX0_check_51 : decode cX0_check 51 = .ok (.istore 4, 2) := dk_54 4 (dk_at dksX0_check_2 5 rfl rfl)
theorem dX0_check_53 : decode cX0_check 53 = .ok (.iload 4, 2) := dk_21 4 (dk_at dksX0_check_2 7 rfl rfl)
theorem dX0_check_55 : decode cX0_check 55 = .ok (.iload_n 2, 1) := dk_28 (dk_at dksX0_check_2 9 rfl rfl)
theorem dX0_check_56 : decode cX0_check 56 = .ok (.if_icmp .ge 40, 3) := dk_162 0 40 (dk_at dksX0_check_2 10 rfl rfl)
theorem dX0_check_59 : decode cX0_check 59 = .ok (.iload 4, 2) := dk_21 4 (dk_at dksX0_check_2 13 rfl rfl)
theorem dX0_check_61 : decode cX0_check 61 = .ok (.iload_n 3, 1) := dk_29 (dk_at dksX0_check_2 15 rfl rfl)
theorem dX0_check_62 : decode cX0_check 62 = .ok (.if_icmp .ge 23, 3) := dk_162 0 23 (dk_at dksX0_check_2 16 rfl rfl)
theorem dX0_check_65 : decode cX0_check 65 = .ok (.aload_n 0, 1) := dk_42 (dk_at dksX0_check_2 19 rfl rfl)
theorem dX0_check_66 : decode cX0_check 66 = .ok (.getfield 127, 3) := dk_180 0 127 (dk_at dksX0_check_2 20 rfl rfl)
theorem dX0_check_69 : decode cX0_check 69 = .ok (.iload 4, 2) := dk_21 4 (dk_at dksX0_check_3 0 rfl rfl)
theorem dX0_check_71 : decode cX0_check 71 = .ok (.iaload, 1) := dk_46 (dk_at dksX0_check_3 2 rfl rfl)
theorem dX0_check_72 : decode cX0_check 72 = .ok (.aload_n 0, 1) := dk_42 (dk_at dksX0_check_3 3 rfl rfl)
theorem dX0_check_73 : decode cX0_check 73 = .ok (.getfield 130, 3) := dk_180 0 130 (dk_at dksX0_check_3 4 rfl rfl)
theorem dX0_check_76 : decode cX0_check 76 = .ok (.iload 4, 2) := dk_21 4 (dk_at dksX0_check_3 7 rfl rfl)
theorem dX0_check_78 : decode cX0_check 78 = .ok (.iaload, 1) := dk_46 (dk_at dksX0_check_3 9 rfl rfl)
theorem dX0_check_79 : decode cX0_check 79 = .ok (.if_icmp .ne 6, 3) := dk_160 0 6 (dk_at dksX0_check_3 10 rfl rfl)
theorem dX0_check_82 : decode cX0_check 82 = .ok (.goto 8, 3) := dk_167 0 8 (dk_at dksX0_check_3 13 rfl rfl)
theorem dX0_check_85 : decode cX0_check 85 = .ok (.iconst 1, 1) := dk_4 (dk_at dksX0_check_3 16 rfl rfl)
theorem dX0_check_86 : decode cX0_check 86 = .ok (.iload 4, 2) := dk_21 4 (dk_at dksX0_check_3 17 rfl rfl)
theorem dX0_check_88 : decode cX0_check 88 = .ok (.iadd, 1) := dk_96 (dk_at dksX0_check_3 19 rfl rfl)
theorem dX0_check_89 : decode cX0_check 89 = .ok (.ireturn, 1) := dk_172 (dk_at dksX0_check_3 20 rfl rfl)
theorem dX0_check_90 : decode cX0_check 90 = .ok (.iinc 4 1, 3) := dk_132 4 1 (dk_at dksX0_check_3 21 rfl rfl)
theorem dX0_check_93 : decode cX0_check 93 = .ok (.goto (-40), 3) := dk_167 255 216 (dk_at dksX0_check_4 0 rfl rfl)
theorem dX0_check_96 : decode cX0_check 96 = .ok (.iload_n 2, 1) := dk_28 (dk_at dksX0_check_4 3 rfl rfl)
theorem dX0_check_97 : decode cX0_check 97 = .ok (.iload_n 3, 1) := dk_29 (dk_at dksX0_check_4 4 rfl rfl)
theorem dX0_check_98 : decode cX0_check 98 = .ok (.if_icmp .ge 9, 3) := dk_162 0 9 (dk_at dksX0_check_4 5 rfl rfl)
theorem dX0_check_101 : decode cX0_check 101 = .ok (.iconst 1, 1) := dk_4 (dk_at dksX0_check_4 8 rfl rfl)
theorem dX0_check_102 : decode cX0_check 102 = .ok (.iload_n 2, 1) := dk_28 (dk_at dksX0_check_4 9 rfl rfl)
theorem dX0_check_103 : decode cX0_check 103 = .ok (.iadd, 1) := dk_96 (dk_at dksX0_check_4 10 rfl rfl)
theorem dX0_check_104 : decode cX0_check 104 = .ok (.goto 4, 3) := dk_167 0 4 (dk_at dksX0_check_4 11 rfl rfl)
theorem dX0_check_107 : decode cX0_check 107 = .ok (.iconst 0, 1) := dk_3 (dk_at dksX0_check_4 14 rfl rfl)
theorem dX0_check_108 : decode cX0_check 108 = .ok (.ireturn, 1) := dk_172 (dk_at dksX0_check_4 15 rfl rfl)
abbrev cX0_rowsOfTurns : ByteArray := prog_1_method_104_code
def yX0_rowsOfTurns : MethodName := ⟨RX0, "rowsOfTurns", "(I)I"⟩
def dkwX0_rowsOfTurns_4 : List UInt8 := [132, 2, 1, 167, 255, 189, 42, 180, 0, 46, 42, 180, 0, 53, 182, 2, 55, 5, 27, 104, 172]
abbrev dktX0_rowsOfTurns_4 : List UInt8 := dkwX0_rowsOfTurns_4 ++ []
def dkwX0_rowsOfTurns_3 : List UInt8 := [167, 0, 4, 3, 96, 79, 42, 180, 0, 130, 5, 28, 104, 4, 96, 42, 180, 0, 66, 180, 1, 101, 79]
abbrev dktX0_rowsOfTurns_3 : List UInt8 := dkwX0_rowsOfTurns_3 ++ dktX0_rowsOfTurns_4
def dkwX0_rowsOfTurns_2 : List UInt8 := [112, 62, 42, 180, 0, 130, 5, 28, 104, 16, 10, 29, 104, 42, 29, 182, 1, 176, 153, 0, 7, 4]
abbrev dktX0_rowsOfTurns_2 : List UInt8 := dkwX0_rowsOfTurns_2 ++ dktX0_rowsOfTurns_3
def dkwX0_rowsOfTurns_1 : List UInt8 := [182, 1, 89, 3, 61, 28, 27, 162, 0, 68, 42, 180, 0, 66, 182, 1, 126, 42, 180, 0, 46, 180, 0, 133]
abbrev dktX0_rowsOfTurns_1 : List UInt8 := dkwX0_rowsOfTurns_1 ++ dktX0_rowsOfTurns_2
def dkwX0_rowsOfTurns_0 : List UInt8 := [42, 180, 0, 53, 42, 180, 0, 46, 182, 2, 55, 42, 180, 0, 46, 42, 180, 0, 50, 182, 2, 55, 42]
abbrev dktX0_rowsOfTurns_0 : List UInt8 := dkwX0_rowsOfTurns_0 ++ dktX0_rowsOfTurns_1
theorem dksX0_rowsOfTurns_0 : cX0_rowsOfTurns.data.toList.drop 0 = dktX0_rowsOfTurns_0 := by decide +kernel
theorem dksX0_rowsOfTurns_1 : cX0_rowsOfTurns.data.toList.drop 23 = dktX0_rowsOfTurns_1 := dk_seg dksX0_rowsOfTurns_0 23 rfl rfl
theorem dksX0_rowsOfTurns_2 : cX0_rowsOfTurns.data.toList.drop 47 = dktX0_rowsOfTurns_2 := dk_seg dksX0_rowsOfTurns_1 24 rfl rfl
theorem dksX0_rowsOfTurns_3 : cX0_rowsOfTurns.data.toList.drop 69 = dktX0_rowsOfTurns_3 := dk_seg dksX0_rowsOfTurns_2 22 rfl rfl
theorem dksX0_rowsOfTurns_4 : cX0_rowsOfTurns.data.toList.drop 92 = dktX0_rowsOfTurns_4 := dk_seg dksX0_rowsOfTurns_3 23 rfl rfl
theorem dX0_rowsOfTurns_0 : decode cX0_rowsOfTurns 0 = .ok (.aload_n 0, 1) := dk_42 (dk_at dksX0_rowsOfTurns_0 0 rfl rfl)
theorem dX0_rowsOfTurns_1 : decode cX0_rowsOfTurns 1 = .ok (.getfield 53, 3) := dk_180 0 53 (dk_at dksX0_rowsOfTurns_0 1 rfl rfl)
theorem dX0_rowsOfTurns_4 : decode cX0_rowsOfTurns 4 = .ok (.aload_n 0, 1) := dk_42 (dk_at dksX0_rowsOfTurns_0 4 rfl rfl)
theorem dX0_rowsOfTurns_5 : decode cX0_rowsOfTurns 5 = .ok (.getfield 46, 3) := dk_180 0 46 (dk_at dksX0_rowsOfTurns_0 5 rfl rfl)
theorem dX0_rowsOfTurns_8 : decode cX0_rowsOfTurns 8 = .ok (.invokevirtual 567, 3) := dk_182 2 55 (dk_at dksX0_rowsOfTurns_0 8 rfl rfl)
theorem dX0_rowsOfTurns_11 : decode cX0_rowsOfTurns 11 = .ok (.aload_n 0, 1) := dk_42 (dk_at dksX0_rowsOfTurns_0 11 rfl rfl)
theorem dX0_rowsOfTurns_12 : decode cX0_rowsOfTurns 12 = .ok (.getfield 46, 3) := dk_180 0 46 (dk_at dksX0_rowsOfTurns_0 12 rfl rfl)
theorem dX0_rowsOfTurns_15 : decode cX0_rowsOfTurns 15 = .ok (.aload_n 0, 1) := dk_42 (dk_at dksX0_rowsOfTurns_0 15 rfl rfl)
theorem dX0_rowsOfTurns_16 : decode cX0_rowsOfTurns 16 = .ok (.getfield 50, 3) := dk_180 0 50 (dk_at dksX0_rowsOfTurns_0 16 rfl rfl)
theorem dX0_rowsOfTurns_19 : decode cX0_rowsOfTurns 19 = .ok (.invokevirtual 567, 3) := dk_182 2 55 (dk_at dksX0_rowsOfTurns_0 19 rfl rfl)
theorem dX0_rowsOfTurns_22 : decode cX0_rowsOfTurns 22 = .ok (.aload_n 0, 1) := dk_42 (dk_at dksX0_rowsOfTurns_0 22 rfl rfl)
theorem dX0_rowsOfTurns_23 : decode cX0_rowsOfTurns 23 = .ok (.invokevirtual 345, 3) := dk_182 1 89 (dk_at dksX0_rowsOfTurns_1 0 rfl rfl)
theorem dX0_rowsOfTurns_26 : decode cX0_rowsOfTurns 26 = .ok (.iconst 0, 1) := dk_3 (dk_at dksX0_rowsOfTurns_1 3 rfl rfl)
theorem dX0_rowsOfTurns_27 : decode cX0_rowsOfTurns 27 = .ok (.istore_n 2, 1) := dk_61 (dk_at dksX0_rowsOfTurns_1 4 rfl rfl)
theorem dX0_rowsOfTurns_28 : decode cX0_rowsOfTurns 28 = .ok (.iload_n 2, 1) := dk_28 (dk_at dksX0_rowsOfTurns_1 5 rfl rfl)
theorem dX0_rowsOfTurns_29 : decode cX0_rowsOfTurns 29 = .ok (.iload_n 1, 1) := dk_27 (dk_at dksX0_rowsOfTurns_1 6 rfl rfl)
theorem dX0_rowsOfTurns_30 : decode cX0_rowsOfTurns 30 = .ok (.if_icmp .ge 68, 3) := dk_162 0 68 (dk_at dksX0_rowsOfTurns_1 7 rfl rfl)
theorem dX0_rowsOfTurns_33 : decode cX0_rowsOfTurns 33 = .ok (.aload_n 0, 1) := dk_42 (dk_at dksX0_rowsOfTurns_1 10 rfl rfl)
theorem dX0_rowsOfTurns_34 : decode cX0_rowsOfTurns 34 = .ok (.getfield 66, 3) := dk_180 0 66 (dk_at dksX0_rowsOfTurns_1 11 rfl rfl)
theorem dX0_rowsOfTurns_37 : decode cX0_rowsOfTurns 37 = .ok (.invokevirtual 382, 3) := dk_182 1 126 (dk_at dksX0_rowsOfTurns_1 14 rfl rfl)
theorem dX0_rowsOfTurns_40 : decode cX0_rowsOfTurns 40 = .ok (.aload_n 0, 1) := dk_42 (dk_at dksX0_rowsOfTurns_1 17 rfl rfl)
theorem dX0_rowsOfTurns_41 : decode cX0_rowsOfTurns 41 = .ok (.getfield 46, 3) := dk_180 0 46 (dk_at dksX0_rowsOfTurns_1 18 rfl rfl)
theorem dX0_rowsOfTurns_44 : decode cX0_rowsOfTurns 44 = .ok (.getfield 133, 3) := dk_180 0 133 (dk_at dksX0_rowsOfTurns_1 21 rfl rfl)
theorem dX0_rowsOfTurns_47 : decode cX0_rowsOfTurns 47 = .ok (.irem, 1) := dk_112 (dk_at dksX0_rowsOfTurns_2 0 rfl rfl)
theorem dX0_rowsOfTurns_48 : decode cX0_rowsOfTurns 48 = .ok (.istore_n 3, 1) := dk_62 (dk_at dksX0_rowsOfTurns_2 1 rfl rfl)
theorem dX0_rowsOfTurns_49 : decode cX0_rowsOfTurns 49 = .ok (.aload_n 0, 1) := dk_42 (dk_at dksX0_rowsOfTurns_2 2 rfl rfl)
theorem dX0_rowsOfTurns_50 : decode cX0_rowsOfTurns 50 = .ok (.getfield 130, 3) := dk_180 0 130 (dk_at dksX0_rowsOfTurns_2 3 rfl rfl)
theorem dX0_rowsOfTurns_53 : decode cX0_rowsOfTurns 53 = .ok (.iconst 2, 1) := dk_5 (dk_at dksX0_rowsOfTurns_2 6 rfl rfl)
theorem dX0_rowsOfTurns_54 : decode cX0_rowsOfTurns 54 = .ok (.iload_n 2, 1) := dk_28 (dk_at dksX0_rowsOfTurns_2 7 rfl rfl)
theorem dX0_rowsOfTurns_55 : decode cX0_rowsOfTurns 55 = .ok (.imul, 1) := dk_104 (dk_at dksX0_rowsOfTurns_2 8 rfl rfl)
theorem dX0_rowsOfTurns_56 : decode cX0_rowsOfTurns 56 = .ok (.bipush 10, 2) := dk_16 10 (dk_at dksX0_rowsOfTurns_2 9 rfl rfl)
theorem dX0_rowsOfTurns_58 : decode cX0_rowsOfTurns 58 = .ok (.iload_n 3, 1) := dk_29 (dk_at dksX0_rowsOfTurns_2 11 rfl rfl)
theorem dX0_rowsOfTurns_59 : decode cX0_rowsOfTurns 59 = .ok (.imul, 1) := dk_104 (dk_at dksX0_rowsOfTurns_2 12 rfl rfl)
theorem dX0_rowsOfTurns_60 : decode cX0_rowsOfTurns 60 = .ok (.aload_n 0, 1) := dk_42 (dk_at dksX0_rowsOfTurns_2 13 rfl rfl)
theorem dX0_rowsOfTurns_61 : decode cX0_rowsOfTurns 61 = .ok (.iload_n 3, 1) := dk_29 (dk_at dksX0_rowsOfTurns_2 14 rfl rfl)
theorem dX0_rowsOfTurns_62 : decode cX0_rowsOfTurns 62 = .ok (.invokevirtual 432, 3) := dk_182 1 176 (dk_at dksX0_rowsOfTurns_2 15 rfl rfl)
theorem dX0_rowsOfTurns_65 : decode cX0_rowsOfTurns 65 = .ok (.ifCond .eq 7, 3) := dk_153 0 7 (dk_at dksX0_rowsOfTurns_2 18 rfl rfl)
theorem dX0_rowsOfTurns_68 : decode cX0_rowsOfTurns 68 = .ok (.iconst 1, 1) := dk_4 (dk_at dksX0_rowsOfTurns_2 21 rfl rfl)
theorem dX0_rowsOfTurns_69 : decode cX0_rowsOfTurns 69 = .ok (.goto 4, 3) := dk_167 0 4 (dk_at dksX0_rowsOfTurns_3 0 rfl rfl)
theorem dX0_rowsOfTurns_72 : decode cX0_rowsOfTurns 72 = .ok (.iconst 0, 1) := dk_3 (dk_at dksX0_rowsOfTurns_3 3 rfl rfl)
theorem dX0_rowsOfTurns_73 : decode cX0_rowsOfTurns 73 = .ok (.iadd, 1) := dk_96 (dk_at dksX0_rowsOfTurns_3 4 rfl rfl)
theorem dX0_rowsOfTurns_74 : decode cX0_rowsOfTurns 74 = .ok (.iastore, 1) := dk_79 (dk_at dksX0_rowsOfTurns_3 5 rfl rfl)
theorem dX0_rowsOfTurns_75 : decode cX0_rowsOfTurns 75 = .ok (.aload_n 0, 1) := dk_42 (dk_at dksX0_rowsOfTurns_3 6 rfl rfl)
theorem dX0_rowsOfTurns_76 : decode cX0_rowsOfTurns 76 = .ok (.getfield 130, 3) := dk_180 0 130 (dk_at dksX0_rowsOfTurns_3 7 rfl rfl)
theorem dX0_rowsOfTurns_79 : decode cX0_rowsOfTurns 79 = .ok (.iconst 2, 1) := dk_5 (dk_at dksX0_rowsOfTurns_3 10 rfl rfl)
theorem dX0_rowsOfTurns_80 : decode cX0_rowsOfTurns 80 = .ok (.iload_n 2, 1) := dk_28 (dk_at dksX0_rowsOfTurns_3 11 rfl rfl)
theorem dX0_rowsOfTurns_81 : decode cX0_rowsOfTurns 81 = .ok (.imul, 1) := dk_104 (dk_at dksX0_rowsOfTurns_3 12 rfl rfl)
theorem dX0_rowsOfTurns_82 : decode cX0_rowsOfTurns 82 = .ok (.iconst 1, 1) := dk_4 (dk_at dksX0_rowsOfTurns_3 13 rfl rfl)
theorem dX0_rowsOfTurns_83 : decode cX0_rowsOfTurns 83 = .ok (.iadd, 1) := dk_96 (dk_at dksX0_rowsOfTurns_3 14 rfl rfl)
theorem dX0_rowsOfTurns_84 : decode cX0_rowsOfTurns 84 = .ok (.aload_n 0, 1) := dk_42 (dk_at dksX0_rowsOfTurns_3 15 rfl rfl)
theorem dX0_rowsOfTurns_85 : decode cX0_rowsOfTurns 85 = .ok (.getfield 66, 3) := dk_180 0 66 (dk_at dksX0_rowsOfTurns_3 16 rfl rfl)
theorem dX0_rowsOfTurns_88 : decode cX0_rowsOfTurns 88 = .ok (.getfield 357, 3) := dk_180 1 101 (dk_at dksX0_rowsOfTurns_3 19 rfl rfl)
theorem dX0_rowsOfTurns_91 : decode cX0_rowsOfTurns 91 = .ok (.iastore, 1) := dk_79 (dk_at dksX0_rowsOfTurns_3 22 rfl rfl)
theorem dX0_rowsOfTurns_92 : decode cX0_rowsOfTurns 92 = .ok (.iinc 2 1, 3) := dk_132 2 1 (dk_at dksX0_rowsOfTurns_4 0 rfl rfl)
theorem dX0_rowsOfTurns_95 : decode cX0_rowsOfTurns 95 = .ok (.goto (-67), 3) := dk_167 255 189 (dk_at dksX0_rowsOfTurns_4 3 rfl rfl)
theorem dX0_rowsOfTurns_98 : decode cX0_rowsOfTurns 98 = .ok (.aload_n 0, 1) := dk_42 (dk_at dksX0_rowsOfTurns_4 6 rfl rfl)
theorem dX0_rowsOfTurns_99 : decode cX0_rowsOfTurns 99 = .ok (.getfield 46, 3) := dk_180 0 46 (dk_at dksX0_rowsOfTurns_4 7 rfl rfl)
theorem dX0_rowsOfTurns_102 : decode cX0_rowsOfTurns 102 = .ok (.aload_n 0, 1) := dk_42 (dk_at dksX0_rowsOfTurns_4 10 rfl rfl)
theorem dX0_rowsOfTurns_103 : decode cX0_rowsOfTurns 103 = .ok (.getfield 53, 3) := dk_180 0 53 (dk_at dksX0_rowsOfTurns_4 11 rfl rfl)
theorem dX0_rowsOfTurns_106 : decode cX0_rowsOfTurns 106 = .ok (.invokevirtual 567, 3) := dk_182 2 55 (dk_at dksX0_rowsOfTurns_4 14 rfl rfl)
theorem dX0_rowsOfTurns_109 : decode cX0_rowsOfTurns 109 = .ok (.iconst 2, 1) := dk_5 (dk_at dksX0_rowsOfTurns_4 17 rfl rfl)
theorem dX0_rowsOfTurns_110 : decode cX0_rowsOfTurns 110 = .ok (.iload_n 1, 1) := dk_27 (dk_at dksX0_rowsOfTurns_4 18 rfl rfl)
theorem dX0_rowsOfTurns_111 : decode cX0_rowsOfTurns 111 = .ok (.imul, 1) := dk_104 (dk_at dksX0_rowsOfTurns_4 19 rfl rfl)
theorem dX0_rowsOfTurns_112 : decode cX0_rowsOfTurns 112 = .ok (.ireturn, 1) := dk_172 (dk_at dksX0_rowsOfTurns_4 20 rfl rfl)
abbrev cX0_keep : ByteArray := prog_1_method_106_code
def yX0_keep : MethodName := ⟨RX0, "keep", "()I"⟩
def dkwX0_keep_0 : List UInt8 := [42, 180, 0, 50, 42, 180, 0, 46, 182, 2, 55, 42, 4, 181, 2, 58, 42, 180, 0, 46, 180, 0, 133, 172]
abbrev dktX0_keep_0 : List UInt8 := dkwX0_keep_0 ++ []
theorem dksX0_keep_0 : cX0_keep.data.toList.drop 0 = dktX0_keep_0 := by decide +kernel
theorem dX0_keep_0 : decode cX0_keep 0 = .ok (.aload_n 0, 1) := dk_42 (dk_at dksX0_keep_0 0 rfl rfl)
theorem dX0_keep_1 : decode cX0_keep 1 = .ok (.getfield 50, 3) := dk_180 0 50 (dk_at dksX0_keep_0 1 rfl rfl)
theorem dX0_keep_4 : decode cX0_keep 4 = .ok (.aload_n 0, 1) := dk_42 (dk_at dksX0_keep_0 4 rfl rfl)
theorem dX0_keep_5 : decode cX0_keep 5 = .ok (.getfield 46, 3) := dk_180 0 46 (dk_at dksX0_keep_0 5 rfl rfl)
theorem dX0_keep_8 : decode cX0_keep 8 = .ok (.invokevirtual 567, 3) := dk_182 2 55 (dk_at dksX0_keep_0 8 rfl rfl)
theorem dX0_keep_11 : decode cX0_keep 11 = .ok (.aload_n 0, 1) := dk_42 (dk_at dksX0_keep_0 11 rfl rfl)
theorem dX0_keep_12 : decode cX0_keep 12 = .ok (.iconst 1, 1) := dk_4 (dk_at dksX0_keep_0 12 rfl rfl)
theorem dX0_keep_13 : decode cX0_keep 13 = .ok (.putfield 570, 3) := dk_181 2 58 (dk_at dksX0_keep_0 13 rfl rfl)
theorem dX0_keep_16 : decode cX0_keep 16 = .ok (.aload_n 0, 1) := dk_42 (dk_at dksX0_keep_0 16 rfl rfl)
theorem dX0_keep_17 : decode cX0_keep 17 = .ok (.getfield 46, 3) := dk_180 0 46 (dk_at dksX0_keep_0 17 rfl rfl)
theorem dX0_keep_20 : decode cX0_keep 20 = .ok (.getfield 133, 3) := dk_180 0 133 (dk_at dksX0_keep_0 20 rfl rfl)
theorem dX0_keep_23 : decode cX0_keep 23 = .ok (.ireturn, 1) := dk_172 (dk_at dksX0_keep_0 23 rfl rfl)
abbrev cX0_back : ByteArray := prog_1_method_107_code
def yX0_back : MethodName := ⟨RX0, "back", "()I"⟩
def dkwX0_back_1 : List UInt8 := [180, 0, 46, 180, 0, 133, 172]
abbrev dktX0_back_1 : List UInt8 := dkwX0_back_1 ++ []
def dkwX0_back_0 : List UInt8 := [42, 180, 2, 58, 154, 0, 7, 19, 1, 196, 172, 42, 180, 0, 46, 42, 180, 0, 50, 182, 2, 55, 42]
abbrev dktX0_back_0 : List UInt8 := dkwX0_back_0 ++ dktX0_back_1
theorem dksX0_back_0 : cX0_back.data.toList.drop 0 = dktX0_back_0 := by decide +kernel
theorem dksX0_back_1 : cX0_back.data.toList.drop 23 = dktX0_back_1 := dk_seg dksX0_back_0 23 rfl rfl
theorem dX0_back_0 : decode cX0_back 0 = .ok (.aload_n 0, 1) := dk_42 (dk_at dksX0_back_0 0 rfl rfl)
theorem dX0_back_1 : decode cX0_back 1 = .ok (.getfield 570, 3) := dk_180 2 58 (dk_at dksX0_back_0 1 rfl rfl)
theorem dX0_back_4 : decode cX0_back 4 = .ok (.ifCond .ne 7, 3) := dk_154 0 7 (dk_at dksX0_back_0 4 rfl rfl)
theorem dX0_back_7 : decode cX0_back 7 = .ok (.ldc_w 452, 3) := dk_19 1 196 (dk_at dksX0_back_0 7 rfl rfl)
theorem dX0_back_10 : decode cX0_back 10 = .ok (.ireturn, 1) := dk_172 (dk_at dksX0_back_0 10 rfl rfl)
theorem dX0_back_11 : decode cX0_back 11 = .ok (.aload_n 0, 1) := dk_42 (dk_at dksX0_back_0 11 rfl rfl)
theorem dX0_back_12 : decode cX0_back 12 = .ok (.getfield 46, 3) := dk_180 0 46 (dk_at dksX0_back_0 12 rfl rfl)
theorem dX0_back_15 : decode cX0_back 15 = .ok (.aload_n 0, 1) := dk_42 (dk_at dksX0_back_0 15 rfl rfl)
theorem dX0_back_16 : decode cX0_back 16 = .ok (.getfield 50, 3) := dk_180 0 50 (dk_at dksX0_back_0 16 rfl rfl)
theorem dX0_back_19 : decode cX0_back 19 = .ok (.invokevirtual 567, 3) := dk_182 2 55 (dk_at dksX0_back_0 19 rfl rfl)
theorem dX0_back_22 : decode cX0_back 22 = .ok (.aload_n 0, 1) := dk_42 (dk_at dksX0_back_0 22 rfl rfl)
theorem dX0_back_23 : decode cX0_back 23 = .ok (.getfield 46, 3) := dk_180 0 46 (dk_at dksX0_back_1 0 rfl rfl)
theorem dX0_back_26 : decode cX0_back 26 = .ok (.getfield 133, 3) := dk_180 0 133 (dk_at dksX0_back_1 3 rfl rfl)
theorem dX0_back_29 : decode cX0_back 29 = .ok (.ireturn, 1) := dk_172 (dk_at dksX0_back_1 6 rfl rfl)
abbrev cX0_count : ByteArray := prog_1_method_109_code
def yX0_count : MethodName := ⟨RX0, "count", "(I)I"⟩
def dkwX0_count_6 : List UInt8 := [172, 42, 180, 0, 66, 180, 1, 179, 172, 18, 164, 172]
abbrev dktX0_count_6 : List UInt8 := dkwX0_count_6 ++ []
def dkwX0_count_5 : List UInt8 := [180, 0, 46, 180, 1, 182, 172, 42, 180, 0, 46, 180, 1, 15, 172, 42, 180, 2, 52, 172, 42, 180, 0, 156]
abbrev dktX0_count_5 : List UInt8 := dkwX0_count_5 ++ dktX0_count_6
def dkwX0_count_4 : List UInt8 := [180, 0, 46, 180, 1, 139, 172, 42, 180, 0, 66, 180, 1, 136, 172, 42, 180, 0, 66, 180, 1, 162, 172, 42]
abbrev dktX0_count_4 : List UInt8 := dkwX0_count_4 ++ dktX0_count_5
def dkwX0_count_3 : List UInt8 := [42, 182, 2, 65, 172, 42, 180, 0, 46, 180, 1, 168, 172, 42, 180, 0, 46, 180, 1, 133, 172, 42]
abbrev dktX0_count_3 : List UInt8 := dkwX0_count_3 ++ dktX0_count_4
def dkwX0_count_2 : List UInt8 := [42, 180, 0, 46, 180, 0, 133, 172, 42, 180, 0, 66, 180, 1, 129, 172, 42, 180, 0, 66, 180, 1, 101, 172]
abbrev dktX0_count_2 : List UInt8 := dkwX0_count_2 ++ dktX0_count_3
def dkwX0_count_1 : List UInt8 := [170, 0, 0, 0, 0, 0, 174, 0, 0, 0, 0, 0, 0, 0, 13, 0, 0, 0, 71, 0, 0, 0, 79, 0, 0, 0, 87, 0, 0, 0, 95, 0, 0, 0, 100, 0, 0, 0, 108, 0, 0, 0, 116, 0, 0, 0, 124, 0, 0, 0, 132, 0, 0, 0, 140, 0, 0, 0, 148, 0, 0, 0, 156, 0, 0, 0, 161, 0, 0, 0, 166]
abbrev dktX0_count_1 : List UInt8 := dkwX0_count_1 ++ dktX0_count_2
def dkwX0_count_0 : List UInt8 := [27]
abbrev dktX0_count_0 : List UInt8 := dkwX0_count_0 ++ dktX0_count_1
theorem dksX0_count_0 : cX0_count.data.toList.drop 0 = dktX0_count_0 := by decide +kernel
theorem dksX0_count_1 : cX0_count.data.toList.drop 1 = dktX0_count_1 := dk_seg dksX0_count_0 1 rfl rfl
theorem dksX0_count_2 : cX0_count.data.toList.drop 72 = dktX0_count_2 := dk_seg dksX0_count_1 71 rfl rfl
theorem dksX0_count_3 : cX0_count.data.toList.drop 96 = dktX0_count_3 := dk_seg dksX0_count_2 24 rfl rfl
theorem dksX0_count_4 : cX0_count.data.toList.drop 118 = dktX0_count_4 := dk_seg dksX0_count_3 22 rfl rfl
theorem dksX0_count_5 : cX0_count.data.toList.drop 142 = dktX0_count_5 := dk_seg dksX0_count_4 24 rfl rfl
theorem dksX0_count_6 : cX0_count.data.toList.drop 166 = dktX0_count_6 := dk_seg dksX0_count_5 24 rfl rfl
theorem dX0_count_0 : decode cX0_count 0 = .ok (.iload_n 1, 1) := dk_27 (dk_at dksX0_count_0 0 rfl rfl)
theorem dX0_count_1 : decode cX0_count 1 = .ok (.tableswitch 174 0 13 #[71, 79, 87, 95, 100, 108, 116, 124, 132, 140, 148, 156, 161, 166], 71) := by decide +kernel
theorem dX0_count_72 : decode cX0_count 72 = .ok (.aload_n 0, 1) := dk_42 (dk_at dksX0_count_2 0 rfl rfl)
theorem dX0_count_73 : decode cX0_count 73 = .ok (.getfield 46, 3) := dk_180 0 46 (dk_at dksX0_count_2 1 rfl rfl)
theorem dX0_count_76 : decode cX0_count 76 = .ok (.getfield 133, 3) := dk_180 0 133 (dk_at dksX0_count_2 4 rfl rfl)
theorem dX0_count_79 : decode cX0_count 79 = .ok (.ireturn, 1) := dk_172 (dk_at dksX0_count_2 7 rfl rfl)
theorem dX0_count_80 : decode cX0_count 80 = .ok (.aload_n 0, 1) := dk_42 (dk_at dksX0_count_2 8 rfl rfl)
theorem dX0_count_81 : decode cX0_count 81 = .ok (.getfield 66, 3) := dk_180 0 66 (dk_at dksX0_count_2 9 rfl rfl)
theorem dX0_count_84 : decode cX0_count 84 = .ok (.getfield 385, 3) := dk_180 1 129 (dk_at dksX0_count_2 12 rfl rfl)
theorem dX0_count_87 : decode cX0_count 87 = .ok (.ireturn, 1) := dk_172 (dk_at dksX0_count_2 15 rfl rfl)
theorem dX0_count_88 : decode cX0_count 88 = .ok (.aload_n 0, 1) := dk_42 (dk_at dksX0_count_2 16 rfl rfl)
theorem dX0_count_89 : decode cX0_count 89 = .ok (.getfield 66, 3) := dk_180 0 66 (dk_at dksX0_count_2 17 rfl rfl)
theorem dX0_count_92 : decode cX0_count 92 = .ok (.getfield 357, 3) := dk_180 1 101 (dk_at dksX0_count_2 20 rfl rfl)
theorem dX0_count_95 : decode cX0_count 95 = .ok (.ireturn, 1) := dk_172 (dk_at dksX0_count_2 23 rfl rfl)
theorem dX0_count_96 : decode cX0_count 96 = .ok (.aload_n 0, 1) := dk_42 (dk_at dksX0_count_3 0 rfl rfl)
theorem dX0_count_97 : decode cX0_count 97 = .ok (.invokevirtual 577, 3) := dk_182 2 65 (dk_at dksX0_count_3 1 rfl rfl)
theorem dX0_count_100 : decode cX0_count 100 = .ok (.ireturn, 1) := dk_172 (dk_at dksX0_count_3 4 rfl rfl)
theorem dX0_count_101 : decode cX0_count 101 = .ok (.aload_n 0, 1) := dk_42 (dk_at dksX0_count_3 5 rfl rfl)
theorem dX0_count_102 : decode cX0_count 102 = .ok (.getfield 46, 3) := dk_180 0 46 (dk_at dksX0_count_3 6 rfl rfl)
theorem dX0_count_105 : decode cX0_count 105 = .ok (.getfield 424, 3) := dk_180 1 168 (dk_at dksX0_count_3 9 rfl rfl)
theorem dX0_count_108 : decode cX0_count 108 = .ok (.ireturn, 1) := dk_172 (dk_at dksX0_count_3 12 rfl rfl)
theorem dX0_count_109 : decode cX0_count 109 = .ok (.aload_n 0, 1) := dk_42 (dk_at dksX0_count_3 13 rfl rfl)
theorem dX0_count_110 : decode cX0_count 110 = .ok (.getfield 46, 3) := dk_180 0 46 (dk_at dksX0_count_3 14 rfl rfl)
theorem dX0_count_113 : decode cX0_count 113 = .ok (.getfield 389, 3) := dk_180 1 133 (dk_at dksX0_count_3 17 rfl rfl)
theorem dX0_count_116 : decode cX0_count 116 = .ok (.ireturn, 1) := dk_172 (dk_at dksX0_count_3 20 rfl rfl)
theorem dX0_count_117 : decode cX0_count 117 = .ok (.aload_n 0, 1) := dk_42 (dk_at dksX0_count_3 21 rfl rfl)
theorem dX0_count_118 : decode cX0_count 118 = .ok (.getfield 46, 3) := dk_180 0 46 (dk_at dksX0_count_4 0 rfl rfl)
theorem dX0_count_121 : decode cX0_count 121 = .ok (.getfield 395, 3) := dk_180 1 139 (dk_at dksX0_count_4 3 rfl rfl)
theorem dX0_count_124 : decode cX0_count 124 = .ok (.ireturn, 1) := dk_172 (dk_at dksX0_count_4 6 rfl rfl)
theorem dX0_count_125 : decode cX0_count 125 = .ok (.aload_n 0, 1) := dk_42 (dk_at dksX0_count_4 7 rfl rfl)
theorem dX0_count_126 : decode cX0_count 126 = .ok (.getfield 66, 3) := dk_180 0 66 (dk_at dksX0_count_4 8 rfl rfl)
theorem dX0_count_129 : decode cX0_count 129 = .ok (.getfield 392, 3) := dk_180 1 136 (dk_at dksX0_count_4 11 rfl rfl)
theorem dX0_count_132 : decode cX0_count 132 = .ok (.ireturn, 1) := dk_172 (dk_at dksX0_count_4 14 rfl rfl)
theorem dX0_count_133 : decode cX0_count 133 = .ok (.aload_n 0, 1) := dk_42 (dk_at dksX0_count_4 15 rfl rfl)
theorem dX0_count_134 : decode cX0_count 134 = .ok (.getfield 66, 3) := dk_180 0 66 (dk_at dksX0_count_4 16 rfl rfl)
theorem dX0_count_137 : decode cX0_count 137 = .ok (.getfield 418, 3) := dk_180 1 162 (dk_at dksX0_count_4 19 rfl rfl)
theorem dX0_count_140 : decode cX0_count 140 = .ok (.ireturn, 1) := dk_172 (dk_at dksX0_count_4 22 rfl rfl)
theorem dX0_count_141 : decode cX0_count 141 = .ok (.aload_n 0, 1) := dk_42 (dk_at dksX0_count_4 23 rfl rfl)
theorem dX0_count_142 : decode cX0_count 142 = .ok (.getfield 46, 3) := dk_180 0 46 (dk_at dksX0_count_5 0 rfl rfl)
theorem dX0_count_145 : decode cX0_count 145 = .ok (.getfield 438, 3) := dk_180 1 182 (dk_at dksX0_count_5 3 rfl rfl)
theorem dX0_count_148 : decode cX0_count 148 = .ok (.ireturn, 1) := dk_172 (dk_at dksX0_count_5 6 rfl rfl)
theorem dX0_count_149 : decode cX0_count 149 = .ok (.aload_n 0, 1) := dk_42 (dk_at dksX0_count_5 7 rfl rfl)
theorem dX0_count_150 : decode cX0_count 150 = .ok (.getfield 46, 3) := dk_180 0 46 (dk_at dksX0_count_5 8 rfl rfl)
theorem dX0_count_153 : decode cX0_count 153 = .ok (.getfield 271, 3) := dk_180 1 15 (dk_at dksX0_count_5 11 rfl rfl)
theorem dX0_count_156 : decode cX0_count 156 = .ok (.ireturn, 1) := dk_172 (dk_at dksX0_count_5 14 rfl rfl)
theorem dX0_count_157 : decode cX0_count 157 = .ok (.aload_n 0, 1) := dk_42 (dk_at dksX0_count_5 15 rfl rfl)
theorem dX0_count_158 : decode cX0_count 158 = .ok (.getfield 564, 3) := dk_180 2 52 (dk_at dksX0_count_5 16 rfl rfl)
theorem dX0_count_161 : decode cX0_count 161 = .ok (.ireturn, 1) := dk_172 (dk_at dksX0_count_5 19 rfl rfl)
theorem dX0_count_162 : decode cX0_count 162 = .ok (.aload_n 0, 1) := dk_42 (dk_at dksX0_count_5 20 rfl rfl)
theorem dX0_count_163 : decode cX0_count 163 = .ok (.getfield 156, 3) := dk_180 0 156 (dk_at dksX0_count_5 21 rfl rfl)
theorem dX0_count_166 : decode cX0_count 166 = .ok (.ireturn, 1) := dk_172 (dk_at dksX0_count_6 0 rfl rfl)
theorem dX0_count_167 : decode cX0_count 167 = .ok (.aload_n 0, 1) := dk_42 (dk_at dksX0_count_6 1 rfl rfl)
theorem dX0_count_168 : decode cX0_count 168 = .ok (.getfield 66, 3) := dk_180 0 66 (dk_at dksX0_count_6 2 rfl rfl)
theorem dX0_count_171 : decode cX0_count 171 = .ok (.getfield 435, 3) := dk_180 1 179 (dk_at dksX0_count_6 5 rfl rfl)
theorem dX0_count_174 : decode cX0_count 174 = .ok (.ireturn, 1) := dk_172 (dk_at dksX0_count_6 8 rfl rfl)
theorem dX0_count_175 : decode cX0_count 175 = .ok (.ldc 164, 2) := dk_18 164 (dk_at dksX0_count_6 9 rfl rfl)
theorem dX0_count_177 : decode cX0_count 177 = .ok (.ireturn, 1) := dk_172 (dk_at dksX0_count_6 11 rfl rfl)
abbrev cX0_fullnessNow : ByteArray := prog_1_method_108_code
def yX0_fullnessNow : MethodName := ⟨RX0, "fullnessNow", "()I"⟩
def dkwX0_fullnessNow_0 : List UInt8 := [42, 182, 1, 89, 42, 182, 1, 154, 172]
abbrev dktX0_fullnessNow_0 : List UInt8 := dkwX0_fullnessNow_0 ++ []
theorem dksX0_fullnessNow_0 : cX0_fullnessNow.data.toList.drop 0 = dktX0_fullnessNow_0 := by decide +kernel
theorem dX0_fullnessNow_0 : decode cX0_fullnessNow 0 = .ok (.aload_n 0, 1) := dk_42 (dk_at dksX0_fullnessNow_0 0 rfl rfl)
theorem dX0_fullnessNow_1 : decode cX0_fullnessNow 1 = .ok (.invokevirtual 345, 3) := dk_182 1 89 (dk_at dksX0_fullnessNow_0 1 rfl rfl)
theorem dX0_fullnessNow_4 : decode cX0_fullnessNow 4 = .ok (.aload_n 0, 1) := dk_42 (dk_at dksX0_fullnessNow_0 4 rfl rfl)
theorem dX0_fullnessNow_5 : decode cX0_fullnessNow 5 = .ok (.invokevirtual 410, 3) := dk_182 1 154 (dk_at dksX0_fullnessNow_0 5 rfl rfl)
theorem dX0_fullnessNow_8 : decode cX0_fullnessNow 8 = .ok (.ireturn, 1) := dk_172 (dk_at dksX0_fullnessNow_0 8 rfl rfl)
theorem q103 : (Jvm.Cond.initialized "KeptLeaves") ∈ lw_all := lw_g (lw_at lw_m1 1 rfl) rfl
theorem q131 : (Jvm.Cond.instantiable "KeptLeaves" (31 : Nat)) ∈ lw_all := lw_g (lw_at lw_m1 29 rfl) rfl
theorem q133 : (Jvm.Cond.instanceMethod ({ cls := "KeptLeaves", name := "<init>", desc := "()V" } : Jvm.MethodName)) ∈ lw_all := lw_g (lw_at lw_m1 31 rfl) rfl
theorem q134 : (Jvm.Cond.code ({ cls := "KeptLeaves", name := "<init>", desc := "()V" } : Jvm.MethodName) prog_1_method_6_code (1 : Nat) (Option.none : Option Jvm.ClassFile.FieldType)) ∈ lw_all := lw_g (lw_at lw_m1 32 rfl) rfl
theorem q135 : (Jvm.Cond.methodLink "KeptLeaves" (40 : Nat) ({ cls := "java/lang/Object", name := "<init>", desc := "()V" } : Jvm.MethodName)) ∈ lw_all := lw_g (lw_at lw_m1 33 rfl) rfl
theorem q138 : (Jvm.Cond.classLink "KeptLeaves" (43 : Nat) "KeptLeaves$State") ∈ lw_all := lw_g (lw_at lw_m1 36 rfl) rfl
theorem q140 : (Jvm.Cond.methodLinkNest "KeptLeaves" (45 : Nat) ({ cls := "KeptLeaves$State", name := "<init>", desc := "()V" } : Jvm.MethodName) "KeptLeaves") ∈ lw_tbl := lw_at lw_m1 38 rfl
theorem q151 : (Jvm.Cond.fieldLinkNest "KeptLeaves" (435 : Nat) "KeptLeaves$Shelf" "z" "I" "KeptLeaves") ∈ lw_tbl := lw_at lw_m1 49 rfl
theorem q153 : (Jvm.Cond.fieldLinkNest "KeptLeaves" (392 : Nat) "KeptLeaves$Shelf" "turn" "I" "KeptLeaves") ∈ lw_tbl := lw_at lw_m1 51 rfl
theorem q155 : (Jvm.Cond.fieldLinkNest "KeptLeaves" (418 : Nat) "KeptLeaves$Shelf" "cost" "I" "KeptLeaves") ∈ lw_tbl := lw_at lw_m1 53 rfl
theorem q157 : (Jvm.Cond.fieldLinkNest "KeptLeaves" (357 : Nat) "KeptLeaves$Shelf" "set" "I" "KeptLeaves") ∈ lw_tbl := lw_at lw_m1 55 rfl
theorem q159 : (Jvm.Cond.fieldLinkNest "KeptLeaves" (385 : Nat) "KeptLeaves$Shelf" "many" "I" "KeptLeaves") ∈ lw_tbl := lw_at lw_m1 57 rfl
theorem q161 : (Jvm.Cond.fieldLinkNest "KeptLeaves" (386 : Nat) "KeptLeaves$Shelf" "order" "[I" "KeptLeaves") ∈ lw_tbl := lw_at lw_m1 59 rfl
theorem q163 : (Jvm.Cond.fieldLinkNest "KeptLeaves" (305 : Nat) "KeptLeaves$Shelf" "last" "[I" "KeptLeaves") ∈ lw_tbl := lw_at lw_m1 61 rfl
theorem q165 : (Jvm.Cond.fieldLinkNest "KeptLeaves" (308 : Nat) "KeptLeaves$Shelf" "times" "[I" "KeptLeaves") ∈ lw_tbl := lw_at lw_m1 63 rfl
theorem q189 : (Jvm.Cond.fieldLinkNest "KeptLeaves" (63 : Nat) "KeptLeaves$State" "shelf" "LKeptLeaves$Shelf;" "KeptLeaves") ∈ lw_tbl := lw_at lw_m1 87 rfl
theorem q191 : (Jvm.Cond.fieldLinkNest "KeptLeaves" (133 : Nat) "KeptLeaves$State" "leaves" "I" "KeptLeaves") ∈ lw_tbl := lw_at lw_m1 89 rfl
theorem q193 : (Jvm.Cond.fieldLinkNest "KeptLeaves" (288 : Nat) "KeptLeaves$State" "leaf" "[LKeptLeaves$Leaf;" "KeptLeaves") ∈ lw_tbl := lw_at lw_m1 91 rfl
theorem q195 : (Jvm.Cond.fieldLinkNest "KeptLeaves" (424 : Nat) "KeptLeaves$State" "space" "I" "KeptLeaves") ∈ lw_tbl := lw_at lw_m1 93 rfl
theorem q197 : (Jvm.Cond.fieldLinkNest "KeptLeaves" (389 : Nat) "KeptLeaves$State" "rule" "I" "KeptLeaves") ∈ lw_tbl := lw_at lw_m1 95 rfl
theorem q199 : (Jvm.Cond.fieldLinkNest "KeptLeaves" (395 : Nat) "KeptLeaves$State" "care" "I" "KeptLeaves") ∈ lw_tbl := lw_at lw_m1 97 rfl
theorem q201 : (Jvm.Cond.fieldLinkNest "KeptLeaves" (438 : Nat) "KeptLeaves$State" "askings" "I" "KeptLeaves") ∈ lw_tbl := lw_at lw_m1 99 rfl
theorem q203 : (Jvm.Cond.fieldLinkNest "KeptLeaves" (441 : Nat) "KeptLeaves$State" "asking" "[I" "KeptLeaves") ∈ lw_tbl := lw_at lw_m1 101 rfl
theorem q205 : (Jvm.Cond.fieldLinkNest "KeptLeaves" (271 : Nat) "KeptLeaves$State" "texts" "I" "KeptLeaves") ∈ lw_tbl := lw_at lw_m1 103 rfl
theorem q207 : (Jvm.Cond.fieldLinkNest "KeptLeaves" (274 : Nat) "KeptLeaves$State" "text" "[LKeptLeaves$Text;" "KeptLeaves") ∈ lw_tbl := lw_at lw_m1 105 rfl
theorem q229 : (Jvm.Cond.classLink "KeptLeaves" (56 : Nat) "KeptLeaves$Shelf") ∈ lw_all := lw_g (lw_at lw_m1 127 rfl) rfl
theorem q230 : (Jvm.Cond.methodLinkNest "KeptLeaves" (58 : Nat) ({ cls := "KeptLeaves$Shelf", name := "<init>", desc := "()V" } : Jvm.MethodName) "KeptLeaves") ∈ lw_tbl := lw_at lw_m1 128 rfl
theorem q231 : (Jvm.Cond.classLink "KeptLeaves" (77 : Nat) "KeptLeaves$Fault") ∈ lw_all := lw_g (lw_at lw_m1 129 rfl) rfl
theorem q272 : (Jvm.Cond.methodLinkNest "KeptLeaves" (79 : Nat) ({ cls := "KeptLeaves$Fault", name := "<init>", desc := "()V" } : Jvm.MethodName) "KeptLeaves") ∈ lw_tbl := lw_at lw_m1 170 rfl
theorem q282 : (Jvm.Cond.fieldLinkNest "KeptLeaves" (168 : Nat) "KeptLeaves$Fault" "place" "I" "KeptLeaves") ∈ lw_tbl := lw_at lw_m1 180 rfl
theorem q299 : (Jvm.Cond.classLink "KeptLeaves" (109 : Nat) "KeptLeaves$Sheet") ∈ lw_all := lw_g (lw_at lw_m1 197 rfl) rfl
theorem q302 : (Jvm.Cond.methodLinkNest "KeptLeaves" (111 : Nat) ({ cls := "KeptLeaves$Sheet", name := "<init>", desc := "()V" } : Jvm.MethodName) "KeptLeaves") ∈ lw_tbl := lw_at lw_m1 200 rfl
theorem q307 : (Jvm.Cond.fieldLinkNest "KeptLeaves" (490 : Nat) "KeptLeaves$Sheet" "row" "Ljava/lang/Object;" "KeptLeaves") ∈ lw_tbl := lw_at lw_m1 205 rfl
theorem q312 : (Jvm.Cond.classLink "KeptLeaves" (116 : Nat) "KeptLeaves$Slot") ∈ lw_all := lw_g (lw_at lw_m1 210 rfl) rfl
theorem q315 : (Jvm.Cond.methodLinkNest "KeptLeaves" (118 : Nat) ({ cls := "KeptLeaves$Slot", name := "<init>", desc := "()V" } : Jvm.MethodName) "KeptLeaves") ∈ lw_tbl := lw_at lw_m1 213 rfl
theorem q320 : (Jvm.Cond.fieldLinkNest "KeptLeaves" (555 : Nat) "KeptLeaves$Slot" "held" "Ljava/lang/Object;" "KeptLeaves") ∈ lw_tbl := lw_at lw_m1 218 rfl
theorem q324 : (Jvm.Cond.fieldLink "KeptLeaves" (46 : Nat) "KeptLeaves" "now" "LKeptLeaves$State;") ∈ lw_all := lw_g (lw_at lw_m1 222 rfl) rfl
theorem q325 : (Jvm.Cond.fieldLink "KeptLeaves" (50 : Nat) "KeptLeaves" "image" "LKeptLeaves$State;") ∈ lw_all := lw_g (lw_at lw_m1 223 rfl) rfl
theorem q326 : (Jvm.Cond.fieldLink "KeptLeaves" (53 : Nat) "KeptLeaves" "aside" "LKeptLeaves$State;") ∈ lw_all := lw_g (lw_at lw_m1 224 rfl) rfl
theorem q327 : (Jvm.Cond.fieldLink "KeptLeaves" (570 : Nat) "KeptLeaves" "hasImage" "Z") ∈ lw_all := lw_g (lw_at lw_m1 225 rfl) rfl
theorem q328 : (Jvm.Cond.fieldLink "KeptLeaves" (59 : Nat) "KeptLeaves" "beside" "LKeptLeaves$Shelf;") ∈ lw_all := lw_g (lw_at lw_m1 226 rfl) rfl
theorem q329 : (Jvm.Cond.fieldLink "KeptLeaves" (66 : Nat) "KeptLeaves" "on" "LKeptLeaves$Shelf;") ∈ lw_all := lw_g (lw_at lw_m1 227 rfl) rfl
theorem q330 : (Jvm.Cond.fieldLink "KeptLeaves" (69 : Nat) "KeptLeaves" "pile" "[I") ∈ lw_all := lw_g (lw_at lw_m1 228 rfl) rfl
theorem q331 : (Jvm.Cond.fieldLink "KeptLeaves" (73 : Nat) "KeptLeaves" "tape" "[B") ∈ lw_all := lw_g (lw_at lw_m1 229 rfl) rfl
theorem q332 : (Jvm.Cond.fieldLink "KeptLeaves" (156 : Nat) "KeptLeaves" "taped" "I") ∈ lw_all := lw_g (lw_at lw_m1 230 rfl) rfl
theorem q333 : (Jvm.Cond.fieldLink "KeptLeaves" (80 : Nat) "KeptLeaves" "fault" "LKeptLeaves$Fault;") ∈ lw_all := lw_g (lw_at lw_m1 231 rfl) rfl
theorem q334 : (Jvm.Cond.fieldLink "KeptLeaves" (165 : Nat) "KeptLeaves" "from" "I") ∈ lw_all := lw_g (lw_at lw_m1 232 rfl) rfl
theorem q335 : (Jvm.Cond.fieldLink "KeptLeaves" (171 : Nat) "KeptLeaves" "to" "I") ∈ lw_all := lw_g (lw_at lw_m1 233 rfl) rfl
theorem q336 : (Jvm.Cond.fieldLink "KeptLeaves" (174 : Nat) "KeptLeaves" "end" "I") ∈ lw_all := lw_g (lw_at lw_m1 234 rfl) rfl
theorem q337 : (Jvm.Cond.fieldLink "KeptLeaves" (233 : Nat) "KeptLeaves" "parens" "I") ∈ lw_all := lw_g (lw_at lw_m1 235 rfl) rfl
theorem q338 : (Jvm.Cond.fieldLink "KeptLeaves" (230 : Nat) "KeptLeaves" "nots" "I") ∈ lw_all := lw_g (lw_at lw_m1 236 rfl) rfl
theorem q339 : (Jvm.Cond.fieldLink "KeptLeaves" (236 : Nat) "KeptLeaves" "wordMany" "I") ∈ lw_all := lw_g (lw_at lw_m1 237 rfl) rfl
theorem q340 : (Jvm.Cond.fieldLink "KeptLeaves" (227 : Nat) "KeptLeaves" "keyRead" "I") ∈ lw_all := lw_g (lw_at lw_m1 238 rfl) rfl
theorem q341 : (Jvm.Cond.fieldLink "KeptLeaves" (84 : Nat) "KeptLeaves" "named" "[I") ∈ lw_all := lw_g (lw_at lw_m1 239 rfl) rfl
theorem q342 : (Jvm.Cond.fieldLink "KeptLeaves" (87 : Nat) "KeptLeaves" "rooms" "[I") ∈ lw_all := lw_g (lw_at lw_m2 0 rfl) rfl
theorem q343 : (Jvm.Cond.fieldLink "KeptLeaves" (90 : Nat) "KeptLeaves" "misses" "[I") ∈ lw_all := lw_g (lw_at lw_m2 1 rfl) rfl
theorem q344 : (Jvm.Cond.fieldLink "KeptLeaves" (93 : Nat) "KeptLeaves" "chains" "[I") ∈ lw_all := lw_g (lw_at lw_m2 2 rfl) rfl
theorem q345 : (Jvm.Cond.fieldLink "KeptLeaves" (96 : Nat) "KeptLeaves" "fits" "[Z") ∈ lw_all := lw_g (lw_at lw_m2 3 rfl) rfl
theorem q346 : (Jvm.Cond.fieldLink "KeptLeaves" (100 : Nat) "KeptLeaves" "from1" "[I") ∈ lw_all := lw_g (lw_at lw_m2 4 rfl) rfl
theorem q347 : (Jvm.Cond.fieldLink "KeptLeaves" (103 : Nat) "KeptLeaves" "inside" "[I") ∈ lw_all := lw_g (lw_at lw_m2 5 rfl) rfl
theorem q348 : (Jvm.Cond.fieldLink "KeptLeaves" (106 : Nat) "KeptLeaves" "thoughtRow" "[I") ∈ lw_all := lw_g (lw_at lw_m2 6 rfl) rfl
theorem q349 : (Jvm.Cond.fieldLink "KeptLeaves" (112 : Nat) "KeptLeaves" "sheets" "[LKeptLeaves$Sheet;") ∈ lw_all := lw_g (lw_at lw_m2 7 rfl) rfl
theorem q350 : (Jvm.Cond.fieldLink "KeptLeaves" (119 : Nat) "KeptLeaves" "slots" "[LKeptLeaves$Slot;") ∈ lw_all := lw_g (lw_at lw_m2 8 rfl) rfl
theorem q351 : (Jvm.Cond.fieldLink "KeptLeaves" (123 : Nat) "KeptLeaves" "carried" "[F") ∈ lw_all := lw_g (lw_at lw_m2 9 rfl) rfl
theorem q352 : (Jvm.Cond.fieldLink "KeptLeaves" (127 : Nat) "KeptLeaves" "waits" "[I") ∈ lw_all := lw_g (lw_at lw_m2 10 rfl) rfl
theorem q353 : (Jvm.Cond.fieldLink "KeptLeaves" (564 : Nat) "KeptLeaves" "waitMany" "I") ∈ lw_all := lw_g (lw_at lw_m2 11 rfl) rfl
theorem q354 : (Jvm.Cond.fieldLink "KeptLeaves" (130 : Nat) "KeptLeaves" "rows" "[I") ∈ lw_all := lw_g (lw_at lw_m2 12 rfl) rfl
theorem q355 : (Jvm.Cond.laysFinal "KeptLeaves" "KeptLeaves" "now" "LKeptLeaves$State;") ∈ lw_all := lw_g (lw_at lw_m2 13 rfl) rfl
theorem q356 : (Jvm.Cond.soleField "KeptLeaves" "now") ∈ lw_all := lw_g (lw_at lw_m2 14 rfl) rfl
theorem q357 : (Jvm.Cond.laysFinal "KeptLeaves" "KeptLeaves" "image" "LKeptLeaves$State;") ∈ lw_all := lw_g (lw_at lw_m2 15 rfl) rfl
theorem q358 : (Jvm.Cond.soleField "KeptLeaves" "image") ∈ lw_all := lw_g (lw_at lw_m2 16 rfl) rfl
theorem q359 : (Jvm.Cond.laysFinal "KeptLeaves" "KeptLeaves" "aside" "LKeptLeaves$State;") ∈ lw_all := lw_g (lw_at lw_m2 17 rfl) rfl
theorem q360 : (Jvm.Cond.soleField "KeptLeaves" "aside") ∈ lw_all := lw_g (lw_at lw_m2 18 rfl) rfl
theorem q361 : (Jvm.Cond.lays "KeptLeaves" "KeptLeaves" "hasImage" "Z") ∈ lw_all := lw_g (lw_at lw_m2 19 rfl) rfl
theorem q362 : (Jvm.Cond.soleField "KeptLeaves" "hasImage") ∈ lw_all := lw_g (lw_at lw_m2 20 rfl) rfl
theorem q363 : (Jvm.Cond.laysFinal "KeptLeaves" "KeptLeaves" "beside" "LKeptLeaves$Shelf;") ∈ lw_all := lw_g (lw_at lw_m2 21 rfl) rfl
theorem q364 : (Jvm.Cond.soleField "KeptLeaves" "beside") ∈ lw_all := lw_g (lw_at lw_m2 22 rfl) rfl
theorem q365 : (Jvm.Cond.lays "KeptLeaves" "KeptLeaves" "on" "LKeptLeaves$Shelf;") ∈ lw_all := lw_g (lw_at lw_m2 23 rfl) rfl
theorem q366 : (Jvm.Cond.soleField "KeptLeaves" "on") ∈ lw_all := lw_g (lw_at lw_m2 24 rfl) rfl
theorem q367 : (Jvm.Cond.laysFinal "KeptLeaves" "KeptLeaves" "pile" "[I") ∈ lw_all := lw_g (lw_at lw_m2 25 rfl) rfl
theorem q368 : (Jvm.Cond.soleField "KeptLeaves" "pile") ∈ lw_all := lw_g (lw_at lw_m2 26 rfl) rfl
theorem q369 : (Jvm.Cond.laysFinal "KeptLeaves" "KeptLeaves" "tape" "[B") ∈ lw_all := lw_g (lw_at lw_m2 27 rfl) rfl
theorem q370 : (Jvm.Cond.soleField "KeptLeaves" "tape") ∈ lw_all := lw_g (lw_at lw_m2 28 rfl) rfl
theorem q371 : (Jvm.Cond.lays "KeptLeaves" "KeptLeaves" "taped" "I") ∈ lw_all := lw_g (lw_at lw_m2 29 rfl) rfl
theorem q372 : (Jvm.Cond.soleField "KeptLeaves" "taped") ∈ lw_all := lw_g (lw_at lw_m2 30 rfl) rfl
theorem q373 : (Jvm.Cond.laysFinal "KeptLeaves" "KeptLeaves" "fault" "LKeptLeaves$Fault;") ∈ lw_all := lw_g (lw_at lw_m2 31 rfl) rfl
theorem q374 : (Jvm.Cond.soleField "KeptLeaves" "fault") ∈ lw_all := lw_g (lw_at lw_m2 32 rfl) rfl
theorem q375 : (Jvm.Cond.lays "KeptLeaves" "KeptLeaves" "from" "I") ∈ lw_all := lw_g (lw_at lw_m2 33 rfl) rfl
theorem q376 : (Jvm.Cond.soleField "KeptLeaves" "from") ∈ lw_all := lw_g (lw_at lw_m2 34 rfl) rfl
theorem q377 : (Jvm.Cond.lays "KeptLeaves" "KeptLeaves" "to" "I") ∈ lw_all := lw_g (lw_at lw_m2 35 rfl) rfl
theorem q378 : (Jvm.Cond.soleField "KeptLeaves" "to") ∈ lw_all := lw_g (lw_at lw_m2 36 rfl) rfl
theorem q379 : (Jvm.Cond.lays "KeptLeaves" "KeptLeaves" "end" "I") ∈ lw_all := lw_g (lw_at lw_m2 37 rfl) rfl
theorem q380 : (Jvm.Cond.soleField "KeptLeaves" "end") ∈ lw_all := lw_g (lw_at lw_m2 38 rfl) rfl
theorem q381 : (Jvm.Cond.lays "KeptLeaves" "KeptLeaves" "parens" "I") ∈ lw_all := lw_g (lw_at lw_m2 39 rfl) rfl
theorem q382 : (Jvm.Cond.soleField "KeptLeaves" "parens") ∈ lw_all := lw_g (lw_at lw_m2 40 rfl) rfl
theorem q383 : (Jvm.Cond.lays "KeptLeaves" "KeptLeaves" "nots" "I") ∈ lw_all := lw_g (lw_at lw_m2 41 rfl) rfl
theorem q384 : (Jvm.Cond.soleField "KeptLeaves" "nots") ∈ lw_all := lw_g (lw_at lw_m2 42 rfl) rfl
theorem q385 : (Jvm.Cond.lays "KeptLeaves" "KeptLeaves" "wordMany" "I") ∈ lw_all := lw_g (lw_at lw_m2 43 rfl) rfl
theorem q386 : (Jvm.Cond.soleField "KeptLeaves" "wordMany") ∈ lw_all := lw_g (lw_at lw_m2 44 rfl) rfl
theorem q387 : (Jvm.Cond.lays "KeptLeaves" "KeptLeaves" "keyRead" "I") ∈ lw_all := lw_g (lw_at lw_m2 45 rfl) rfl
theorem q388 : (Jvm.Cond.soleField "KeptLeaves" "keyRead") ∈ lw_all := lw_g (lw_at lw_m2 46 rfl) rfl
theorem q389 : (Jvm.Cond.laysFinal "KeptLeaves" "KeptLeaves" "named" "[I") ∈ lw_all := lw_g (lw_at lw_m2 47 rfl) rfl
theorem q390 : (Jvm.Cond.soleField "KeptLeaves" "named") ∈ lw_all := lw_g (lw_at lw_m2 48 rfl) rfl
theorem q391 : (Jvm.Cond.laysFinal "KeptLeaves" "KeptLeaves" "rooms" "[I") ∈ lw_all := lw_g (lw_at lw_m2 49 rfl) rfl
theorem q392 : (Jvm.Cond.soleField "KeptLeaves" "rooms") ∈ lw_all := lw_g (lw_at lw_m2 50 rfl) rfl
theorem q393 : (Jvm.Cond.laysFinal "KeptLeaves" "KeptLeaves" "misses" "[I") ∈ lw_all := lw_g (lw_at lw_m2 51 rfl) rfl
theorem q394 : (Jvm.Cond.soleField "KeptLeaves" "misses") ∈ lw_all := lw_g (lw_at lw_m2 52 rfl) rfl
theorem q395 : (Jvm.Cond.laysFinal "KeptLeaves" "KeptLeaves" "chains" "[I") ∈ lw_all := lw_g (lw_at lw_m2 53 rfl) rfl
theorem q396 : (Jvm.Cond.soleField "KeptLeaves" "chains") ∈ lw_all := lw_g (lw_at lw_m2 54 rfl) rfl
theorem q397 : (Jvm.Cond.laysFinal "KeptLeaves" "KeptLeaves" "fits" "[Z") ∈ lw_all := lw_g (lw_at lw_m2 55 rfl) rfl
theorem q398 : (Jvm.Cond.soleField "KeptLeaves" "fits") ∈ lw_all := lw_g (lw_at lw_m2 56 rfl) rfl
theorem q399 : (Jvm.Cond.laysFinal "KeptLeaves" "KeptLeaves" "from1" "[I") ∈ lw_all := lw_g (lw_at lw_m2 57 rfl) rfl
theorem q400 : (Jvm.Cond.soleField "KeptLeaves" "from1") ∈ lw_all := lw_g (lw_at lw_m2 58 rfl) rfl
theorem q401 : (Jvm.Cond.laysFinal "KeptLeaves" "KeptLeaves" "inside" "[I") ∈ lw_all := lw_g (lw_at lw_m2 59 rfl) rfl
theorem q402 : (Jvm.Cond.soleField "KeptLeaves" "inside") ∈ lw_all := lw_g (lw_at lw_m2 60 rfl) rfl
theorem q403 : (Jvm.Cond.laysFinal "KeptLeaves" "KeptLeaves" "thoughtRow" "[I") ∈ lw_all := lw_g (lw_at lw_m2 61 rfl) rfl
theorem q404 : (Jvm.Cond.soleField "KeptLeaves" "thoughtRow") ∈ lw_all := lw_g (lw_at lw_m2 62 rfl) rfl
theorem q405 : (Jvm.Cond.laysFinal "KeptLeaves" "KeptLeaves" "sheets" "[LKeptLeaves$Sheet;") ∈ lw_all := lw_g (lw_at lw_m2 63 rfl) rfl
theorem q406 : (Jvm.Cond.soleField "KeptLeaves" "sheets") ∈ lw_all := lw_g (lw_at lw_m2 64 rfl) rfl
theorem q407 : (Jvm.Cond.laysFinal "KeptLeaves" "KeptLeaves" "slots" "[LKeptLeaves$Slot;") ∈ lw_all := lw_g (lw_at lw_m2 65 rfl) rfl
theorem q408 : (Jvm.Cond.soleField "KeptLeaves" "slots") ∈ lw_all := lw_g (lw_at lw_m2 66 rfl) rfl
theorem q409 : (Jvm.Cond.laysFinal "KeptLeaves" "KeptLeaves" "carried" "[F") ∈ lw_all := lw_g (lw_at lw_m2 67 rfl) rfl
theorem q410 : (Jvm.Cond.soleField "KeptLeaves" "carried") ∈ lw_all := lw_g (lw_at lw_m2 68 rfl) rfl
theorem q411 : (Jvm.Cond.laysFinal "KeptLeaves" "KeptLeaves" "waits" "[I") ∈ lw_all := lw_g (lw_at lw_m2 69 rfl) rfl
theorem q412 : (Jvm.Cond.soleField "KeptLeaves" "waits") ∈ lw_all := lw_g (lw_at lw_m2 70 rfl) rfl
theorem q413 : (Jvm.Cond.lays "KeptLeaves" "KeptLeaves" "waitMany" "I") ∈ lw_all := lw_g (lw_at lw_m2 71 rfl) rfl
theorem q414 : (Jvm.Cond.soleField "KeptLeaves" "waitMany") ∈ lw_all := lw_g (lw_at lw_m2 72 rfl) rfl
theorem q415 : (Jvm.Cond.laysFinal "KeptLeaves" "KeptLeaves" "rows" "[I") ∈ lw_all := lw_g (lw_at lw_m2 73 rfl) rfl
theorem q416 : (Jvm.Cond.soleField "KeptLeaves" "rows") ∈ lw_all := lw_g (lw_at lw_m2 74 rfl) rfl
theorem q417 : (Jvm.Cond.superclass "KeptLeaves" "java/lang/Object") ∈ lw_all := lw_g (lw_at lw_m2 75 rfl) rfl
theorem q420 : (Jvm.Cond.instanceMethod ({ cls := "KeptLeaves", name := "feed", desc := "(III)I" } : Jvm.MethodName)) ∈ lw_all := lw_g (lw_at lw_m2 78 rfl) rfl
theorem q421 : (Jvm.Cond.selects "KeptLeaves" ({ cls := "KeptLeaves", name := "feed", desc := "(III)I" } : Jvm.MethodName) ({ cls := "KeptLeaves", name := "feed", desc := "(III)I" } : Jvm.MethodName)) ∈ lw_all := lw_g (lw_at lw_m2 79 rfl) rfl
theorem q422 : (Jvm.Cond.code ({ cls := "KeptLeaves", name := "feed", desc := "(III)I" } : Jvm.MethodName) prog_1_method_10_code (4 : Nat) (Option.some Jvm.ClassFile.FieldType.int)) ∈ lw_all := lw_g (lw_at lw_m2 80 rfl) rfl
theorem q423 : (Jvm.Cond.constant "KeptLeaves" (159 : Nat) (-1000000003 : Int32)) ∈ lw_all := lw_g (lw_at lw_m2 81 rfl) rfl
theorem q424 : (Jvm.Cond.methodLink "KeptLeaves" (160 : Nat) ({ cls := "KeptLeaves", name := "four", desc := "(I)V" } : Jvm.MethodName)) ∈ lw_all := lw_g (lw_at lw_m2 82 rfl) rfl
theorem q425 : (Jvm.Cond.privateMethod ({ cls := "KeptLeaves", name := "four", desc := "(I)V" } : Jvm.MethodName)) ∈ lw_tbl := lw_at lw_m2 83 rfl
theorem q426 : (Jvm.Cond.instanceMethod ({ cls := "KeptLeaves", name := "four", desc := "(I)V" } : Jvm.MethodName)) ∈ lw_all := lw_g (lw_at lw_m2 84 rfl) rfl
theorem q427 : (Jvm.Cond.code ({ cls := "KeptLeaves", name := "four", desc := "(I)V" } : Jvm.MethodName) prog_1_method_11_code (3 : Nat) (Option.none : Option Jvm.ClassFile.FieldType)) ∈ lw_all := lw_g (lw_at lw_m2 85 rfl) rfl
theorem q429 : (Jvm.Cond.instanceMethod ({ cls := "KeptLeaves", name := "trim", desc := "(I)I" } : Jvm.MethodName)) ∈ lw_all := lw_g (lw_at lw_m2 87 rfl) rfl
theorem q430 : (Jvm.Cond.selects "KeptLeaves" ({ cls := "KeptLeaves", name := "trim", desc := "(I)I" } : Jvm.MethodName) ({ cls := "KeptLeaves", name := "trim", desc := "(I)I" } : Jvm.MethodName)) ∈ lw_all := lw_g (lw_at lw_m2 88 rfl) rfl
theorem q431 : (Jvm.Cond.code ({ cls := "KeptLeaves", name := "trim", desc := "(I)I" } : Jvm.MethodName) prog_1_method_12_code (2 : Nat) (Option.some Jvm.ClassFile.FieldType.int)) ∈ lw_all := lw_g (lw_at lw_m2 89 rfl) rfl
theorem q432 : (Jvm.Cond.methodLink "KeptLeaves" (137 : Nat) ({ cls := "KeptLeaves", name := "isIn", desc := "(III)Z" } : Jvm.MethodName)) ∈ lw_all := lw_g (lw_at lw_m2 90 rfl) rfl
theorem q433 : (Jvm.Cond.static ({ cls := "KeptLeaves", name := "isIn", desc := "(III)Z" } : Jvm.MethodName)) ∈ lw_all := lw_g (lw_at lw_m2 91 rfl) rfl
theorem q434 : (Jvm.Cond.code ({ cls := "KeptLeaves", name := "isIn", desc := "(III)Z" } : Jvm.MethodName) prog_1_method_1_code (3 : Nat) (Option.some Jvm.ClassFile.FieldType.boolean)) ∈ lw_all := lw_g (lw_at lw_m2 92 rfl) rfl
theorem q435 : (Jvm.Cond.constant "KeptLeaves" (164 : Nat) (-1000000001 : Int32)) ∈ lw_all := lw_g (lw_at lw_m2 93 rfl) rfl
theorem q437 : (Jvm.Cond.instanceMethod ({ cls := "KeptLeaves", name := "text", desc := "()I" } : Jvm.MethodName)) ∈ lw_all := lw_g (lw_at lw_m2 95 rfl) rfl
theorem q438 : (Jvm.Cond.selects "KeptLeaves" ({ cls := "KeptLeaves", name := "text", desc := "()I" } : Jvm.MethodName) ({ cls := "KeptLeaves", name := "text", desc := "()I" } : Jvm.MethodName)) ∈ lw_all := lw_g (lw_at lw_m2 96 rfl) rfl
theorem q439 : (Jvm.Cond.codeWith ({ cls := "KeptLeaves", name := "text", desc := "()I" } : Jvm.MethodName) prog_1_method_30_code (4 : Nat) (Option.some Jvm.ClassFile.FieldType.int) [((0 : Nat), (20 : Nat), (73 : Nat), (77 : Nat)), ((27 : Nat), (66 : Nat), (73 : Nat), (77 : Nat)), ((0 : Nat), (20 : Nat), (89 : Nat), (0 : Nat)), ((27 : Nat), (66 : Nat), (89 : Nat), (0 : Nat)), ((73 : Nat), (82 : Nat), (89 : Nat), (0 : Nat))]) ∈ lw_all := lw_g (lw_at lw_m2 97 rfl) rfl
theorem q440 : (Jvm.Cond.methodLink "KeptLeaves" (267 : Nat) ({ cls := "KeptLeaves", name := "textRead", desc := "()LKeptLeaves$Text;" } : Jvm.MethodName)) ∈ lw_all := lw_g (lw_at lw_m2 98 rfl) rfl
theorem q441 : (Jvm.Cond.privateMethod ({ cls := "KeptLeaves", name := "textRead", desc := "()LKeptLeaves$Text;" } : Jvm.MethodName)) ∈ lw_tbl := lw_at lw_m2 99 rfl
theorem q442 : (Jvm.Cond.instanceMethod ({ cls := "KeptLeaves", name := "textRead", desc := "()LKeptLeaves$Text;" } : Jvm.MethodName)) ∈ lw_all := lw_g (lw_at lw_m2 100 rfl) rfl
theorem q443 : (Jvm.Cond.code ({ cls := "KeptLeaves", name := "textRead", desc := "()LKeptLeaves$Text;" } : Jvm.MethodName) prog_1_method_29_code (2 : Nat) (Option.some (Jvm.ClassFile.FieldType.object "KeptLeaves$Text"))) ∈ lw_all := lw_g (lw_at lw_m2 101 rfl) rfl
theorem q444 : (Jvm.Cond.methodLink "KeptLeaves" (197 : Nat) ({ cls := "KeptLeaves", name := "goes", desc := "()V" } : Jvm.MethodName)) ∈ lw_all := lw_g (lw_at lw_m2 102 rfl) rfl
theorem q445 : (Jvm.Cond.privateMethod ({ cls := "KeptLeaves", name := "goes", desc := "()V" } : Jvm.MethodName)) ∈ lw_tbl := lw_at lw_m2 103 rfl
theorem q446 : (Jvm.Cond.instanceMethod ({ cls := "KeptLeaves", name := "goes", desc := "()V" } : Jvm.MethodName)) ∈ lw_all := lw_g (lw_at lw_m2 104 rfl) rfl
theorem q447 : (Jvm.Cond.code ({ cls := "KeptLeaves", name := "goes", desc := "()V" } : Jvm.MethodName) prog_1_method_16_code (5 : Nat) (Option.none : Option Jvm.ClassFile.FieldType)) ∈ lw_all := lw_g (lw_at lw_m2 105 rfl) rfl
theorem q448 : (Jvm.Cond.methodLink "KeptLeaves" (177 : Nat) ({ cls := "KeptLeaves", name := "isLetter", desc := "(I)Z" } : Jvm.MethodName)) ∈ lw_all := lw_g (lw_at lw_m2 106 rfl) rfl
theorem q449 : (Jvm.Cond.static ({ cls := "KeptLeaves", name := "isLetter", desc := "(I)Z" } : Jvm.MethodName)) ∈ lw_all := lw_g (lw_at lw_m2 107 rfl) rfl
theorem q450 : (Jvm.Cond.code ({ cls := "KeptLeaves", name := "isLetter", desc := "(I)Z" } : Jvm.MethodName) prog_1_method_14_code (1 : Nat) (Option.some Jvm.ClassFile.FieldType.boolean)) ∈ lw_all := lw_g (lw_at lw_m2 108 rfl) rfl
theorem q451 : (Jvm.Cond.methodLink "KeptLeaves" (181 : Nat) ({ cls := "KeptLeaves", name := "isDigit", desc := "(I)Z" } : Jvm.MethodName)) ∈ lw_all := lw_g (lw_at lw_m2 109 rfl) rfl
theorem q452 : (Jvm.Cond.static ({ cls := "KeptLeaves", name := "isDigit", desc := "(I)Z" } : Jvm.MethodName)) ∈ lw_all := lw_g (lw_at lw_m2 110 rfl) rfl
theorem q453 : (Jvm.Cond.code ({ cls := "KeptLeaves", name := "isDigit", desc := "(I)Z" } : Jvm.MethodName) prog_1_method_15_code (1 : Nat) (Option.some Jvm.ClassFile.FieldType.boolean)) ∈ lw_all := lw_g (lw_at lw_m2 111 rfl) rfl
theorem q454 : (Jvm.Cond.methodLink "KeptLeaves" (184 : Nat) ({ cls := "KeptLeaves", name := "wrong", desc := "()V" } : Jvm.MethodName)) ∈ lw_all := lw_g (lw_at lw_m2 112 rfl) rfl
theorem q455 : (Jvm.Cond.privateMethod ({ cls := "KeptLeaves", name := "wrong", desc := "()V" } : Jvm.MethodName)) ∈ lw_tbl := lw_at lw_m2 113 rfl
theorem q456 : (Jvm.Cond.instanceMethod ({ cls := "KeptLeaves", name := "wrong", desc := "()V" } : Jvm.MethodName)) ∈ lw_all := lw_g (lw_at lw_m2 114 rfl) rfl
theorem q457 : (Jvm.Cond.code ({ cls := "KeptLeaves", name := "wrong", desc := "()V" } : Jvm.MethodName) prog_1_method_13_code (1 : Nat) (Option.none : Option Jvm.ClassFile.FieldType)) ∈ lw_all := lw_g (lw_at lw_m2 115 rfl) rfl
theorem q458 : (Jvm.Cond.methodLink "KeptLeaves" (255 : Nat) ({ cls := "KeptLeaves", name := "key", desc := "()I" } : Jvm.MethodName)) ∈ lw_all := lw_g (lw_at lw_m2 116 rfl) rfl
theorem q459 : (Jvm.Cond.privateMethod ({ cls := "KeptLeaves", name := "key", desc := "()I" } : Jvm.MethodName)) ∈ lw_tbl := lw_at lw_m2 117 rfl
theorem q460 : (Jvm.Cond.instanceMethod ({ cls := "KeptLeaves", name := "key", desc := "()I" } : Jvm.MethodName)) ∈ lw_all := lw_g (lw_at lw_m2 118 rfl) rfl
theorem q461 : (Jvm.Cond.code ({ cls := "KeptLeaves", name := "key", desc := "()I" } : Jvm.MethodName) prog_1_method_28_code (2 : Nat) (Option.some Jvm.ClassFile.FieldType.int)) ∈ lw_all := lw_g (lw_at lw_m2 119 rfl) rfl
theorem q462 : (Jvm.Cond.stringRef "KeptLeaves" (245 : Nat) "room") ∈ lw_tbl := lw_at lw_m2 120 rfl
theorem q463 : (Jvm.Cond.methodLink "KeptLeaves" (247 : Nat) ({ cls := "KeptLeaves", name := "isWord", desc := "(Ljava/lang/String;)Z" } : Jvm.MethodName)) ∈ lw_all := lw_g (lw_at lw_m2 121 rfl) rfl
theorem q464 : (Jvm.Cond.privateMethod ({ cls := "KeptLeaves", name := "isWord", desc := "(Ljava/lang/String;)Z" } : Jvm.MethodName)) ∈ lw_tbl := lw_at lw_m2 122 rfl
theorem q465 : (Jvm.Cond.instanceMethod ({ cls := "KeptLeaves", name := "isWord", desc := "(Ljava/lang/String;)Z" } : Jvm.MethodName)) ∈ lw_all := lw_g (lw_at lw_m2 123 rfl) rfl
theorem q466 : (Jvm.Cond.code ({ cls := "KeptLeaves", name := "isWord", desc := "(Ljava/lang/String;)Z" } : Jvm.MethodName) prog_1_method_17_code (4 : Nat) (Option.some Jvm.ClassFile.FieldType.boolean)) ∈ lw_all := lw_g (lw_at lw_m2 124 rfl) rfl
theorem q467 : (Jvm.Cond.methodLink "KeptLeaves" (187 : Nat) ({ cls := "java/lang/String", name := "length", desc := "()I" } : Jvm.MethodName)) ∈ lw_all := lw_g (lw_at lw_m2 125 rfl) rfl
theorem q477 : (Jvm.Cond.methodLink "KeptLeaves" (193 : Nat) ({ cls := "java/lang/String", name := "charAt", desc := "(I)C" } : Jvm.MethodName)) ∈ lw_all := lw_g (lw_at lw_m2 135 rfl) rfl
theorem q515 : (Jvm.Cond.stringRef "KeptLeaves" (251 : Nat) "miss") ∈ lw_tbl := lw_at lw_m2 173 rfl
theorem q516 : (Jvm.Cond.stringRef "KeptLeaves" (253 : Nat) "throw") ∈ lw_tbl := lw_at lw_m2 174 rfl
theorem q517 : (Jvm.Cond.methodLink "KeptLeaves" (258 : Nat) ({ cls := "KeptLeaves", name := "expression", desc := "()LKeptLeaves$Words;" } : Jvm.MethodName)) ∈ lw_all := lw_g (lw_at lw_m2 175 rfl) rfl
theorem q518 : (Jvm.Cond.privateMethod ({ cls := "KeptLeaves", name := "expression", desc := "()LKeptLeaves$Words;" } : Jvm.MethodName)) ∈ lw_tbl := lw_at lw_m2 176 rfl
theorem q519 : (Jvm.Cond.instanceMethod ({ cls := "KeptLeaves", name := "expression", desc := "()LKeptLeaves$Words;" } : Jvm.MethodName)) ∈ lw_all := lw_g (lw_at lw_m2 177 rfl) rfl
theorem q520 : (Jvm.Cond.code ({ cls := "KeptLeaves", name := "expression", desc := "()LKeptLeaves$Words;" } : Jvm.MethodName) prog_1_method_20_code (2 : Nat) (Option.some (Jvm.ClassFile.FieldType.object "KeptLeaves$Words"))) ∈ lw_all := lw_g (lw_at lw_m2 178 rfl) rfl
theorem q521 : (Jvm.Cond.classLink "KeptLeaves" (142 : Nat) "KeptLeaves$Words") ∈ lw_all := lw_g (lw_at lw_m2 179 rfl) rfl
theorem q523 : (Jvm.Cond.methodLinkNest "KeptLeaves" (200 : Nat) ({ cls := "KeptLeaves$Words", name := "<init>", desc := "()V" } : Jvm.MethodName) "KeptLeaves") ∈ lw_tbl := lw_at lw_m2 181 rfl
theorem q528 : (Jvm.Cond.fieldLinkNest "KeptLeaves" (146 : Nat) "KeptLeaves$Words" "word" "[I" "KeptLeaves") ∈ lw_tbl := lw_at lw_m2 186 rfl
theorem q530 : (Jvm.Cond.fieldLinkNest "KeptLeaves" (149 : Nat) "KeptLeaves$Words" "value" "[I" "KeptLeaves") ∈ lw_tbl := lw_at lw_m2 188 rfl
theorem q532 : (Jvm.Cond.fieldLinkNest "KeptLeaves" (141 : Nat) "KeptLeaves$Words" "many" "I" "KeptLeaves") ∈ lw_tbl := lw_at lw_m2 190 rfl
theorem q540 : (Jvm.Cond.methodLink "KeptLeaves" (201 : Nat) ({ cls := "KeptLeaves", name := "or", desc := "(LKeptLeaves$Words;)V" } : Jvm.MethodName)) ∈ lw_all := lw_g (lw_at lw_m2 198 rfl) rfl
theorem q541 : (Jvm.Cond.privateMethod ({ cls := "KeptLeaves", name := "or", desc := "(LKeptLeaves$Words;)V" } : Jvm.MethodName)) ∈ lw_tbl := lw_at lw_m2 199 rfl
theorem q542 : (Jvm.Cond.instanceMethod ({ cls := "KeptLeaves", name := "or", desc := "(LKeptLeaves$Words;)V" } : Jvm.MethodName)) ∈ lw_all := lw_g (lw_at lw_m2 200 rfl) rfl
theorem q543 : (Jvm.Cond.code ({ cls := "KeptLeaves", name := "or", desc := "(LKeptLeaves$Words;)V" } : Jvm.MethodName) prog_1_method_21_code (2 : Nat) (Option.none : Option Jvm.ClassFile.FieldType)) ∈ lw_all := lw_g (lw_at lw_m2 201 rfl) rfl
theorem q544 : (Jvm.Cond.methodLink "KeptLeaves" (205 : Nat) ({ cls := "KeptLeaves", name := "and", desc := "(LKeptLeaves$Words;)V" } : Jvm.MethodName)) ∈ lw_all := lw_g (lw_at lw_m2 202 rfl) rfl
theorem q545 : (Jvm.Cond.privateMethod ({ cls := "KeptLeaves", name := "and", desc := "(LKeptLeaves$Words;)V" } : Jvm.MethodName)) ∈ lw_tbl := lw_at lw_m2 203 rfl
theorem q546 : (Jvm.Cond.instanceMethod ({ cls := "KeptLeaves", name := "and", desc := "(LKeptLeaves$Words;)V" } : Jvm.MethodName)) ∈ lw_all := lw_g (lw_at lw_m2 204 rfl) rfl
theorem q547 : (Jvm.Cond.code ({ cls := "KeptLeaves", name := "and", desc := "(LKeptLeaves$Words;)V" } : Jvm.MethodName) prog_1_method_22_code (2 : Nat) (Option.none : Option Jvm.ClassFile.FieldType)) ∈ lw_all := lw_g (lw_at lw_m2 205 rfl) rfl
theorem q548 : (Jvm.Cond.methodLink "KeptLeaves" (215 : Nat) ({ cls := "KeptLeaves", name := "test", desc := "(LKeptLeaves$Words;)V" } : Jvm.MethodName)) ∈ lw_all := lw_g (lw_at lw_m2 206 rfl) rfl
theorem q549 : (Jvm.Cond.privateMethod ({ cls := "KeptLeaves", name := "test", desc := "(LKeptLeaves$Words;)V" } : Jvm.MethodName)) ∈ lw_tbl := lw_at lw_m2 207 rfl
theorem q550 : (Jvm.Cond.instanceMethod ({ cls := "KeptLeaves", name := "test", desc := "(LKeptLeaves$Words;)V" } : Jvm.MethodName)) ∈ lw_all := lw_g (lw_at lw_m2 208 rfl) rfl
theorem q551 : (Jvm.Cond.code ({ cls := "KeptLeaves", name := "test", desc := "(LKeptLeaves$Words;)V" } : Jvm.MethodName) prog_1_method_23_code (3 : Nat) (Option.none : Option Jvm.ClassFile.FieldType)) ∈ lw_all := lw_g (lw_at lw_m2 209 rfl) rfl
theorem q552 : (Jvm.Cond.methodLink "KeptLeaves" (218 : Nat) ({ cls := "KeptLeaves", name := "sum", desc := "(LKeptLeaves$Words;)V" } : Jvm.MethodName)) ∈ lw_all := lw_g (lw_at lw_m2 210 rfl) rfl
theorem q553 : (Jvm.Cond.privateMethod ({ cls := "KeptLeaves", name := "sum", desc := "(LKeptLeaves$Words;)V" } : Jvm.MethodName)) ∈ lw_tbl := lw_at lw_m2 211 rfl
theorem q554 : (Jvm.Cond.instanceMethod ({ cls := "KeptLeaves", name := "sum", desc := "(LKeptLeaves$Words;)V" } : Jvm.MethodName)) ∈ lw_all := lw_g (lw_at lw_m2 212 rfl) rfl
theorem q555 : (Jvm.Cond.code ({ cls := "KeptLeaves", name := "sum", desc := "(LKeptLeaves$Words;)V" } : Jvm.MethodName) prog_1_method_24_code (3 : Nat) (Option.none : Option Jvm.ClassFile.FieldType)) ∈ lw_all := lw_g (lw_at lw_m2 213 rfl) rfl
theorem q556 : (Jvm.Cond.methodLink "KeptLeaves" (221 : Nat) ({ cls := "KeptLeaves", name := "term", desc := "(LKeptLeaves$Words;)V" } : Jvm.MethodName)) ∈ lw_all := lw_g (lw_at lw_m2 214 rfl) rfl
theorem q557 : (Jvm.Cond.privateMethod ({ cls := "KeptLeaves", name := "term", desc := "(LKeptLeaves$Words;)V" } : Jvm.MethodName)) ∈ lw_tbl := lw_at lw_m2 215 rfl
theorem q558 : (Jvm.Cond.instanceMethod ({ cls := "KeptLeaves", name := "term", desc := "(LKeptLeaves$Words;)V" } : Jvm.MethodName)) ∈ lw_all := lw_g (lw_at lw_m2 216 rfl) rfl
theorem q559 : (Jvm.Cond.code ({ cls := "KeptLeaves", name := "term", desc := "(LKeptLeaves$Words;)V" } : Jvm.MethodName) prog_1_method_25_code (3 : Nat) (Option.none : Option Jvm.ClassFile.FieldType)) ∈ lw_all := lw_g (lw_at lw_m2 217 rfl) rfl
theorem q560 : (Jvm.Cond.methodLink "KeptLeaves" (224 : Nat) ({ cls := "KeptLeaves", name := "piece", desc := "(LKeptLeaves$Words;)V" } : Jvm.MethodName)) ∈ lw_all := lw_g (lw_at lw_m2 218 rfl) rfl
theorem q561 : (Jvm.Cond.privateMethod ({ cls := "KeptLeaves", name := "piece", desc := "(LKeptLeaves$Words;)V" } : Jvm.MethodName)) ∈ lw_tbl := lw_at lw_m2 219 rfl
theorem q562 : (Jvm.Cond.instanceMethod ({ cls := "KeptLeaves", name := "piece", desc := "(LKeptLeaves$Words;)V" } : Jvm.MethodName)) ∈ lw_all := lw_g (lw_at lw_m2 220 rfl) rfl
theorem q563 : (Jvm.Cond.code ({ cls := "KeptLeaves", name := "piece", desc := "(LKeptLeaves$Words;)V" } : Jvm.MethodName) prog_1_method_27_code (2 : Nat) (Option.none : Option Jvm.ClassFile.FieldType)) ∈ lw_all := lw_g (lw_at lw_m2 221 rfl) rfl
theorem q564 : (Jvm.Cond.methodLink "KeptLeaves" (208 : Nat) ({ cls := "KeptLeaves", name := "isSign", desc := "(I)Z" } : Jvm.MethodName)) ∈ lw_all := lw_g (lw_at lw_m2 222 rfl) rfl
theorem q565 : (Jvm.Cond.privateMethod ({ cls := "KeptLeaves", name := "isSign", desc := "(I)Z" } : Jvm.MethodName)) ∈ lw_tbl := lw_at lw_m2 223 rfl
theorem q566 : (Jvm.Cond.instanceMethod ({ cls := "KeptLeaves", name := "isSign", desc := "(I)Z" } : Jvm.MethodName)) ∈ lw_all := lw_g (lw_at lw_m2 224 rfl) rfl
theorem q567 : (Jvm.Cond.code ({ cls := "KeptLeaves", name := "isSign", desc := "(I)Z" } : Jvm.MethodName) prog_1_method_18_code (2 : Nat) (Option.some Jvm.ClassFile.FieldType.boolean)) ∈ lw_all := lw_g (lw_at lw_m2 225 rfl) rfl
theorem q568 : (Jvm.Cond.methodLink "KeptLeaves" (211 : Nat) ({ cls := "KeptLeaves$Words", name := "add", desc := "(II)V" } : Jvm.MethodName)) ∈ lw_all := lw_g (lw_at lw_m2 226 rfl) rfl
theorem q572 : (Jvm.Cond.methodLink "KeptLeaves" (239 : Nat) ({ cls := "KeptLeaves", name := "number", desc := "()I" } : Jvm.MethodName)) ∈ lw_all := lw_g (lw_at lw_m2 230 rfl) rfl
theorem q573 : (Jvm.Cond.privateMethod ({ cls := "KeptLeaves", name := "number", desc := "()I" } : Jvm.MethodName)) ∈ lw_tbl := lw_at lw_m2 231 rfl
theorem q574 : (Jvm.Cond.instanceMethod ({ cls := "KeptLeaves", name := "number", desc := "()I" } : Jvm.MethodName)) ∈ lw_all := lw_g (lw_at lw_m2 232 rfl) rfl
theorem q575 : (Jvm.Cond.code ({ cls := "KeptLeaves", name := "number", desc := "()I" } : Jvm.MethodName) prog_1_method_19_code (3 : Nat) (Option.some Jvm.ClassFile.FieldType.int)) ∈ lw_all := lw_g (lw_at lw_m2 233 rfl) rfl
theorem q576 : (Jvm.Cond.methodLink "KeptLeaves" (242 : Nat) ({ cls := "KeptLeaves", name := "isName", desc := "(I)Z" } : Jvm.MethodName)) ∈ lw_all := lw_g (lw_at lw_m2 234 rfl) rfl
theorem q577 : (Jvm.Cond.privateMethod ({ cls := "KeptLeaves", name := "isName", desc := "(I)Z" } : Jvm.MethodName)) ∈ lw_tbl := lw_at lw_m2 235 rfl
theorem q578 : (Jvm.Cond.instanceMethod ({ cls := "KeptLeaves", name := "isName", desc := "(I)Z" } : Jvm.MethodName)) ∈ lw_all := lw_g (lw_at lw_m2 236 rfl) rfl
theorem q579 : (Jvm.Cond.code ({ cls := "KeptLeaves", name := "isName", desc := "(I)Z" } : Jvm.MethodName) prog_1_method_26_code (2 : Nat) (Option.some Jvm.ClassFile.FieldType.boolean)) ∈ lw_all := lw_g (lw_at lw_m2 237 rfl) rfl
theorem q580 : (Jvm.Cond.classLink "KeptLeaves" (262 : Nat) "KeptLeaves$Text") ∈ lw_all := lw_g (lw_at lw_m2 238 rfl) rfl
theorem q582 : (Jvm.Cond.methodLink "KeptLeaves" (264 : Nat) ({ cls := "KeptLeaves$Text", name := "<init>", desc := "(ILKeptLeaves$Words;I)V" } : Jvm.MethodName)) ∈ lw_all := lw_g (lw_at lw_m3 0 rfl) rfl
theorem q587 : (Jvm.Cond.fieldLinkNest "KeptLeaves" (278 : Nat) "KeptLeaves$Text" "key" "I" "KeptLeaves") ∈ lw_tbl := lw_at lw_m3 5 rfl
theorem q589 : (Jvm.Cond.fieldLinkNest "KeptLeaves" (321 : Nat) "KeptLeaves$Text" "words" "LKeptLeaves$Words;" "KeptLeaves") ∈ lw_tbl := lw_at lw_m3 7 rfl
theorem q591 : (Jvm.Cond.fieldLinkNest "KeptLeaves" (280 : Nat) "KeptLeaves$Text" "many" "I" "KeptLeaves") ∈ lw_tbl := lw_at lw_m3 9 rfl
theorem q600 : (Jvm.Cond.instanceMethod ({ cls := "KeptLeaves", name := "textTold", desc := "(II)I" } : Jvm.MethodName)) ∈ lw_all := lw_g (lw_at lw_m3 18 rfl) rfl
theorem q601 : (Jvm.Cond.selects "KeptLeaves" ({ cls := "KeptLeaves", name := "textTold", desc := "(II)I" } : Jvm.MethodName) ({ cls := "KeptLeaves", name := "textTold", desc := "(II)I" } : Jvm.MethodName)) ∈ lw_all := lw_g (lw_at lw_m3 19 rfl) rfl
theorem q602 : (Jvm.Cond.code ({ cls := "KeptLeaves", name := "textTold", desc := "(II)I" } : Jvm.MethodName) prog_1_method_31_code (3 : Nat) (Option.some Jvm.ClassFile.FieldType.int)) ∈ lw_all := lw_g (lw_at lw_m3 20 rfl) rfl
theorem q604 : (Jvm.Cond.instanceMethod ({ cls := "KeptLeaves", name := "why", desc := "(I)I" } : Jvm.MethodName)) ∈ lw_all := lw_g (lw_at lw_m3 22 rfl) rfl
theorem q605 : (Jvm.Cond.selects "KeptLeaves" ({ cls := "KeptLeaves", name := "why", desc := "(I)I" } : Jvm.MethodName) ({ cls := "KeptLeaves", name := "why", desc := "(I)I" } : Jvm.MethodName)) ∈ lw_all := lw_g (lw_at lw_m3 23 rfl) rfl
theorem q606 : (Jvm.Cond.code ({ cls := "KeptLeaves", name := "why", desc := "(I)I" } : Jvm.MethodName) prog_1_method_33_code (2 : Nat) (Option.some Jvm.ClassFile.FieldType.int)) ∈ lw_all := lw_g (lw_at lw_m3 24 rfl) rfl
theorem q607 : (Jvm.Cond.methodLink "KeptLeaves" (281 : Nat) ({ cls := "KeptLeaves", name := "counts", desc := "(I)I" } : Jvm.MethodName)) ∈ lw_all := lw_g (lw_at lw_m3 25 rfl) rfl
theorem q608 : (Jvm.Cond.privateMethod ({ cls := "KeptLeaves", name := "counts", desc := "(I)I" } : Jvm.MethodName)) ∈ lw_tbl := lw_at lw_m3 26 rfl
theorem q609 : (Jvm.Cond.instanceMethod ({ cls := "KeptLeaves", name := "counts", desc := "(I)I" } : Jvm.MethodName)) ∈ lw_all := lw_g (lw_at lw_m3 27 rfl) rfl
theorem q610 : (Jvm.Cond.code ({ cls := "KeptLeaves", name := "counts", desc := "(I)I" } : Jvm.MethodName) prog_1_method_32_code (4 : Nat) (Option.some Jvm.ClassFile.FieldType.int)) ∈ lw_all := lw_g (lw_at lw_m3 28 rfl) rfl
theorem q611 : (Jvm.Cond.methodLink "KeptLeaves" (285 : Nat) ({ cls := "KeptLeaves", name := "orNone", desc := "(I)I" } : Jvm.MethodName)) ∈ lw_all := lw_g (lw_at lw_m3 29 rfl) rfl
theorem q612 : (Jvm.Cond.static ({ cls := "KeptLeaves", name := "orNone", desc := "(I)I" } : Jvm.MethodName)) ∈ lw_all := lw_g (lw_at lw_m3 30 rfl) rfl
theorem q613 : (Jvm.Cond.code ({ cls := "KeptLeaves", name := "orNone", desc := "(I)I" } : Jvm.MethodName) prog_1_method_2_code (1 : Nat) (Option.some Jvm.ClassFile.FieldType.int)) ∈ lw_all := lw_g (lw_at lw_m3 31 rfl) rfl
theorem q614 : (Jvm.Cond.constant "KeptLeaves" (3 : Nat) (-1000000005 : Int32)) ∈ lw_all := lw_g (lw_at lw_m3 32 rfl) rfl
theorem q616 : (Jvm.Cond.instanceMethod ({ cls := "KeptLeaves", name := "leaf", desc := "(IIII)I" } : Jvm.MethodName)) ∈ lw_all := lw_g (lw_at lw_m3 34 rfl) rfl
theorem q617 : (Jvm.Cond.selects "KeptLeaves" ({ cls := "KeptLeaves", name := "leaf", desc := "(IIII)I" } : Jvm.MethodName) ({ cls := "KeptLeaves", name := "leaf", desc := "(IIII)I" } : Jvm.MethodName)) ∈ lw_all := lw_g (lw_at lw_m3 35 rfl) rfl
theorem q618 : (Jvm.Cond.code ({ cls := "KeptLeaves", name := "leaf", desc := "(IIII)I" } : Jvm.MethodName) prog_1_method_36_code (5 : Nat) (Option.some Jvm.ClassFile.FieldType.int)) ∈ lw_all := lw_g (lw_at lw_m3 36 rfl) rfl
theorem q619 : (Jvm.Cond.methodLink "KeptLeaves" (311 : Nat) ({ cls := "KeptLeaves", name := "isSize", desc := "(I)Z" } : Jvm.MethodName)) ∈ lw_all := lw_g (lw_at lw_m3 37 rfl) rfl
theorem q620 : (Jvm.Cond.static ({ cls := "KeptLeaves", name := "isSize", desc := "(I)Z" } : Jvm.MethodName)) ∈ lw_all := lw_g (lw_at lw_m3 38 rfl) rfl
theorem q621 : (Jvm.Cond.code ({ cls := "KeptLeaves", name := "isSize", desc := "(I)Z" } : Jvm.MethodName) prog_1_method_34_code (1 : Nat) (Option.some Jvm.ClassFile.FieldType.boolean)) ∈ lw_all := lw_g (lw_at lw_m3 39 rfl) rfl
theorem q622 : (Jvm.Cond.methodLink "KeptLeaves" (314 : Nat) ({ cls := "KeptLeaves", name := "isLeaf", desc := "(I)Z" } : Jvm.MethodName)) ∈ lw_all := lw_g (lw_at lw_m3 40 rfl) rfl
theorem q623 : (Jvm.Cond.privateMethod ({ cls := "KeptLeaves", name := "isLeaf", desc := "(I)Z" } : Jvm.MethodName)) ∈ lw_tbl := lw_at lw_m3 41 rfl
theorem q624 : (Jvm.Cond.instanceMethod ({ cls := "KeptLeaves", name := "isLeaf", desc := "(I)Z" } : Jvm.MethodName)) ∈ lw_all := lw_g (lw_at lw_m3 42 rfl) rfl
theorem q625 : (Jvm.Cond.code ({ cls := "KeptLeaves", name := "isLeaf", desc := "(I)Z" } : Jvm.MethodName) prog_1_method_7_code (2 : Nat) (Option.some Jvm.ClassFile.FieldType.boolean)) ∈ lw_all := lw_g (lw_at lw_m3 43 rfl) rfl
theorem q626 : (Jvm.Cond.methodLink "KeptLeaves" (317 : Nat) ({ cls := "KeptLeaves", name := "comes", desc := "(IIII)I" } : Jvm.MethodName)) ∈ lw_all := lw_g (lw_at lw_m3 44 rfl) rfl
theorem q627 : (Jvm.Cond.privateMethod ({ cls := "KeptLeaves", name := "comes", desc := "(IIII)I" } : Jvm.MethodName)) ∈ lw_tbl := lw_at lw_m3 45 rfl
theorem q628 : (Jvm.Cond.instanceMethod ({ cls := "KeptLeaves", name := "comes", desc := "(IIII)I" } : Jvm.MethodName)) ∈ lw_all := lw_g (lw_at lw_m3 46 rfl) rfl
theorem q629 : (Jvm.Cond.code ({ cls := "KeptLeaves", name := "comes", desc := "(IIII)I" } : Jvm.MethodName) prog_1_method_35_code (6 : Nat) (Option.some Jvm.ClassFile.FieldType.int)) ∈ lw_all := lw_g (lw_at lw_m3 47 rfl) rfl
theorem q630 : (Jvm.Cond.methodLink "KeptLeaves" (292 : Nat) ({ cls := "KeptLeaves", name := "leafOf", desc := "(I)LKeptLeaves$Leaf;" } : Jvm.MethodName)) ∈ lw_all := lw_g (lw_at lw_m3 48 rfl) rfl
theorem q631 : (Jvm.Cond.static ({ cls := "KeptLeaves", name := "leafOf", desc := "(I)LKeptLeaves$Leaf;" } : Jvm.MethodName)) ∈ lw_all := lw_g (lw_at lw_m3 49 rfl) rfl
theorem q632 : (Jvm.Cond.code ({ cls := "KeptLeaves", name := "leafOf", desc := "(I)LKeptLeaves$Leaf;" } : Jvm.MethodName) prog_1_method_4_code (1 : Nat) (Option.some (Jvm.ClassFile.FieldType.object "KeptLeaves$Leaf"))) ∈ lw_all := lw_g (lw_at lw_m3 50 rfl) rfl
theorem q633 : (Jvm.Cond.classLink "KeptLeaves" (13 : Nat) "KeptLeaves$OldLeaf") ∈ lw_all := lw_g (lw_at lw_m3 51 rfl) rfl
theorem q635 : (Jvm.Cond.methodLinkNest "KeptLeaves" (15 : Nat) ({ cls := "KeptLeaves$OldLeaf", name := "<init>", desc := "()V" } : Jvm.MethodName) "KeptLeaves") ∈ lw_tbl := lw_at lw_m3 53 rfl
theorem q645 : (Jvm.Cond.fieldLink "KeptLeaves" (296 : Nat) "KeptLeaves$Leaf" "size" "I") ∈ lw_all := lw_g (lw_at lw_m3 63 rfl) rfl
theorem q647 : (Jvm.Cond.fieldLink "KeptLeaves" (299 : Nat) "KeptLeaves$Leaf" "loss" "I") ∈ lw_all := lw_g (lw_at lw_m3 65 rfl) rfl
theorem q651 : (Jvm.Cond.fieldLink "KeptLeaves" (351 : Nat) "KeptLeaves$Leaf" "weight" "I") ∈ lw_all := lw_g (lw_at lw_m3 69 rfl) rfl
theorem q653 : (Jvm.Cond.fieldLink "KeptLeaves" (302 : Nat) "KeptLeaves$Leaf" "leans" "I") ∈ lw_all := lw_g (lw_at lw_m3 71 rfl) rfl
theorem q663 : (Jvm.Cond.classLink "KeptLeaves" (19 : Nat) "KeptLeaves$CopyLeaf") ∈ lw_all := lw_g (lw_at lw_m3 81 rfl) rfl
theorem q665 : (Jvm.Cond.methodLinkNest "KeptLeaves" (21 : Nat) ({ cls := "KeptLeaves$CopyLeaf", name := "<init>", desc := "()V" } : Jvm.MethodName) "KeptLeaves") ∈ lw_tbl := lw_at lw_m3 83 rfl
theorem q674 : (Jvm.Cond.classLink "KeptLeaves" (22 : Nat) "KeptLeaves$TornLeaf") ∈ lw_all := lw_g (lw_at lw_m3 92 rfl) rfl
theorem q676 : (Jvm.Cond.methodLinkNest "KeptLeaves" (24 : Nat) ({ cls := "KeptLeaves$TornLeaf", name := "<init>", desc := "()V" } : Jvm.MethodName) "KeptLeaves") ∈ lw_tbl := lw_at lw_m3 94 rfl
theorem q685 : (Jvm.Cond.classLink "KeptLeaves" (25 : Nat) "KeptLeaves$FadedLeaf") ∈ lw_all := lw_g (lw_at lw_m3 103 rfl) rfl
theorem q687 : (Jvm.Cond.methodLinkNest "KeptLeaves" (27 : Nat) ({ cls := "KeptLeaves$FadedLeaf", name := "<init>", desc := "()V" } : Jvm.MethodName) "KeptLeaves") ∈ lw_tbl := lw_at lw_m3 105 rfl
theorem q696 : (Jvm.Cond.classLink "KeptLeaves" (28 : Nat) "KeptLeaves$ListLeaf") ∈ lw_all := lw_g (lw_at lw_m3 114 rfl) rfl
theorem q698 : (Jvm.Cond.methodLinkNest "KeptLeaves" (30 : Nat) ({ cls := "KeptLeaves$ListLeaf", name := "<init>", desc := "()V" } : Jvm.MethodName) "KeptLeaves") ∈ lw_tbl := lw_at lw_m3 116 rfl
theorem q707 : (Jvm.Cond.classLink "KeptLeaves" (31 : Nat) "KeptLeaves$Leaf") ∈ lw_all := lw_g (lw_at lw_m3 125 rfl) rfl
theorem q709 : (Jvm.Cond.methodLinkNest "KeptLeaves" (33 : Nat) ({ cls := "KeptLeaves$Leaf", name := "<init>", desc := "()V" } : Jvm.MethodName) "KeptLeaves") ∈ lw_tbl := lw_at lw_m3 127 rfl
theorem q716 : (Jvm.Cond.instanceMethod ({ cls := "KeptLeaves", name := "told", desc := "(II)I" } : Jvm.MethodName)) ∈ lw_all := lw_g (lw_at lw_m3 134 rfl) rfl
theorem q717 : (Jvm.Cond.selects "KeptLeaves" ({ cls := "KeptLeaves", name := "told", desc := "(II)I" } : Jvm.MethodName) ({ cls := "KeptLeaves", name := "told", desc := "(II)I" } : Jvm.MethodName)) ∈ lw_all := lw_g (lw_at lw_m3 135 rfl) rfl
theorem q718 : (Jvm.Cond.code ({ cls := "KeptLeaves", name := "told", desc := "(II)I" } : Jvm.MethodName) prog_1_method_42_code (4 : Nat) (Option.some Jvm.ClassFile.FieldType.int)) ∈ lw_all := lw_g (lw_at lw_m3 136 rfl) rfl
theorem q719 : (Jvm.Cond.methodLink "KeptLeaves" (345 : Nat) ({ cls := "KeptLeaves", name := "learns", desc := "()V" } : Jvm.MethodName)) ∈ lw_all := lw_g (lw_at lw_m3 137 rfl) rfl
theorem q720 : (Jvm.Cond.privateMethod ({ cls := "KeptLeaves", name := "learns", desc := "()V" } : Jvm.MethodName)) ∈ lw_tbl := lw_at lw_m3 138 rfl
theorem q721 : (Jvm.Cond.instanceMethod ({ cls := "KeptLeaves", name := "learns", desc := "()V" } : Jvm.MethodName)) ∈ lw_all := lw_g (lw_at lw_m3 139 rfl) rfl
theorem q722 : (Jvm.Cond.code ({ cls := "KeptLeaves", name := "learns", desc := "()V" } : Jvm.MethodName) prog_1_method_40_code (3 : Nat) (Option.none : Option Jvm.ClassFile.FieldType)) ∈ lw_all := lw_g (lw_at lw_m3 140 rfl) rfl
theorem q723 : (Jvm.Cond.methodLink "KeptLeaves" (339 : Nat) ({ cls := "KeptLeaves", name := "roomOf", desc := "(I)I" } : Jvm.MethodName)) ∈ lw_all := lw_g (lw_at lw_m3 141 rfl) rfl
theorem q724 : (Jvm.Cond.privateMethod ({ cls := "KeptLeaves", name := "roomOf", desc := "(I)I" } : Jvm.MethodName)) ∈ lw_tbl := lw_at lw_m3 142 rfl
theorem q725 : (Jvm.Cond.instanceMethod ({ cls := "KeptLeaves", name := "roomOf", desc := "(I)I" } : Jvm.MethodName)) ∈ lw_all := lw_g (lw_at lw_m3 143 rfl) rfl
theorem q726 : (Jvm.Cond.code ({ cls := "KeptLeaves", name := "roomOf", desc := "(I)I" } : Jvm.MethodName) prog_1_method_38_code (5 : Nat) (Option.some Jvm.ClassFile.FieldType.int)) ∈ lw_all := lw_g (lw_at lw_m3 144 rfl) rfl
theorem q727 : (Jvm.Cond.methodLink "KeptLeaves" (325 : Nat) ({ cls := "KeptLeaves", name := "reckon", desc := "(LKeptLeaves$Words;)I" } : Jvm.MethodName)) ∈ lw_all := lw_g (lw_at lw_m3 145 rfl) rfl
theorem q728 : (Jvm.Cond.privateMethod ({ cls := "KeptLeaves", name := "reckon", desc := "(LKeptLeaves$Words;)I" } : Jvm.MethodName)) ∈ lw_tbl := lw_at lw_m3 146 rfl
theorem q729 : (Jvm.Cond.instanceMethod ({ cls := "KeptLeaves", name := "reckon", desc := "(LKeptLeaves$Words;)I" } : Jvm.MethodName)) ∈ lw_all := lw_g (lw_at lw_m3 147 rfl) rfl
theorem q730 : (Jvm.Cond.code ({ cls := "KeptLeaves", name := "reckon", desc := "(LKeptLeaves$Words;)I" } : Jvm.MethodName) prog_1_method_9_code (5 : Nat) (Option.some Jvm.ClassFile.FieldType.int)) ∈ lw_all := lw_g (lw_at lw_m3 148 rfl) rfl
theorem q731 : (Jvm.Cond.methodLink "KeptLeaves" (152 : Nat) ({ cls := "KeptLeaves", name := "both", desc := "(III)I" } : Jvm.MethodName)) ∈ lw_all := lw_g (lw_at lw_m3 149 rfl) rfl
theorem q732 : (Jvm.Cond.static ({ cls := "KeptLeaves", name := "both", desc := "(III)I" } : Jvm.MethodName)) ∈ lw_all := lw_g (lw_at lw_m3 150 rfl) rfl
theorem q733 : (Jvm.Cond.code ({ cls := "KeptLeaves", name := "both", desc := "(III)I" } : Jvm.MethodName) prog_1_method_8_code (3 : Nat) (Option.some Jvm.ClassFile.FieldType.int)) ∈ lw_all := lw_g (lw_at lw_m3 151 rfl) rfl
theorem q734 : (Jvm.Cond.methodLink "KeptLeaves" (329 : Nat) ({ cls := "KeptLeaves", name := "within", desc := "(III)I" } : Jvm.MethodName)) ∈ lw_all := lw_g (lw_at lw_m3 152 rfl) rfl
theorem q735 : (Jvm.Cond.static ({ cls := "KeptLeaves", name := "within", desc := "(III)I" } : Jvm.MethodName)) ∈ lw_all := lw_g (lw_at lw_m3 153 rfl) rfl
theorem q736 : (Jvm.Cond.code ({ cls := "KeptLeaves", name := "within", desc := "(III)I" } : Jvm.MethodName) prog_1_method_3_code (3 : Nat) (Option.some Jvm.ClassFile.FieldType.int)) ∈ lw_all := lw_g (lw_at lw_m3 154 rfl) rfl
theorem q737 : (Jvm.Cond.methodLink "KeptLeaves" (4 : Nat) ({ cls := "java/lang/Math", name := "min", desc := "(II)I" } : Jvm.MethodName)) ∈ lw_all := lw_g (lw_at lw_m3 155 rfl) rfl
theorem q740 : (Jvm.Cond.methodLink "KeptLeaves" (10 : Nat) ({ cls := "java/lang/Math", name := "max", desc := "(II)I" } : Jvm.MethodName)) ∈ lw_all := lw_g (lw_at lw_m3 158 rfl) rfl
theorem q765 : (Jvm.Cond.methodLink "KeptLeaves" (342 : Nat) ({ cls := "KeptLeaves", name := "missOf", desc := "(I)I" } : Jvm.MethodName)) ∈ lw_all := lw_g (lw_at lw_m3 183 rfl) rfl
theorem q766 : (Jvm.Cond.privateMethod ({ cls := "KeptLeaves", name := "missOf", desc := "(I)I" } : Jvm.MethodName)) ∈ lw_tbl := lw_at lw_m3 184 rfl
theorem q767 : (Jvm.Cond.instanceMethod ({ cls := "KeptLeaves", name := "missOf", desc := "(I)I" } : Jvm.MethodName)) ∈ lw_all := lw_g (lw_at lw_m3 185 rfl) rfl
theorem q768 : (Jvm.Cond.code ({ cls := "KeptLeaves", name := "missOf", desc := "(I)I" } : Jvm.MethodName) prog_1_method_39_code (5 : Nat) (Option.some Jvm.ClassFile.FieldType.int)) ∈ lw_all := lw_g (lw_at lw_m3 186 rfl) rfl
theorem q769 : (Jvm.Cond.methodLink "KeptLeaves" (334 : Nat) ({ cls := "KeptLeaves", name := "leaningOn", desc := "(I)I" } : Jvm.MethodName)) ∈ lw_all := lw_g (lw_at lw_m3 187 rfl) rfl
theorem q770 : (Jvm.Cond.privateMethod ({ cls := "KeptLeaves", name := "leaningOn", desc := "(I)I" } : Jvm.MethodName)) ∈ lw_tbl := lw_at lw_m3 188 rfl
theorem q771 : (Jvm.Cond.instanceMethod ({ cls := "KeptLeaves", name := "leaningOn", desc := "(I)I" } : Jvm.MethodName)) ∈ lw_all := lw_g (lw_at lw_m3 189 rfl) rfl
theorem q772 : (Jvm.Cond.code ({ cls := "KeptLeaves", name := "leaningOn", desc := "(I)I" } : Jvm.MethodName) prog_1_method_37_code (4 : Nat) (Option.some Jvm.ClassFile.FieldType.int)) ∈ lw_all := lw_g (lw_at lw_m3 190 rfl) rfl
theorem q795 : (Jvm.Cond.methodLink "KeptLeaves" (348 : Nat) ({ cls := "KeptLeaves$Leaf", name := "kind", desc := "()I" } : Jvm.MethodName)) ∈ lw_all := lw_g (lw_at lw_m3 213 rfl) rfl
theorem q817 : (Jvm.Cond.methodLink "KeptLeaves" (354 : Nat) ({ cls := "KeptLeaves$Shelf", name := "placeOf", desc := "(I)I" } : Jvm.MethodName)) ∈ lw_all := lw_g (lw_at lw_m3 235 rfl) rfl
theorem q821 : (Jvm.Cond.methodLink "KeptLeaves" (360 : Nat) ({ cls := "KeptLeaves", name := "isRead", desc := "(II)Z" } : Jvm.MethodName)) ∈ lw_all := lw_g (lw_at lw_m3 239 rfl) rfl
theorem q822 : (Jvm.Cond.privateMethod ({ cls := "KeptLeaves", name := "isRead", desc := "(II)Z" } : Jvm.MethodName)) ∈ lw_tbl := lw_at lw_m4 0 rfl
theorem q823 : (Jvm.Cond.instanceMethod ({ cls := "KeptLeaves", name := "isRead", desc := "(II)Z" } : Jvm.MethodName)) ∈ lw_all := lw_g (lw_at lw_m4 1 rfl) rfl
theorem q824 : (Jvm.Cond.code ({ cls := "KeptLeaves", name := "isRead", desc := "(II)Z" } : Jvm.MethodName) prog_1_method_41_code (3 : Nat) (Option.some Jvm.ClassFile.FieldType.boolean)) ∈ lw_all := lw_g (lw_at lw_m4 2 rfl) rfl
theorem q825 : (Jvm.Cond.methodLink "KeptLeaves" (364 : Nat) ({ cls := "KeptLeaves$Leaf", name := "worth", desc := "()I" } : Jvm.MethodName)) ∈ lw_all := lw_g (lw_at lw_m4 3 rfl) rfl
theorem q850 : (Jvm.Cond.instanceMethod ({ cls := "KeptLeaves", name := "as", desc := "(II)I" } : Jvm.MethodName)) ∈ lw_all := lw_g (lw_at lw_m4 28 rfl) rfl
theorem q851 : (Jvm.Cond.selects "KeptLeaves" ({ cls := "KeptLeaves", name := "as", desc := "(II)I" } : Jvm.MethodName) ({ cls := "KeptLeaves", name := "as", desc := "(II)I" } : Jvm.MethodName)) ∈ lw_all := lw_g (lw_at lw_m4 29 rfl) rfl
theorem q852 : (Jvm.Cond.codeWith ({ cls := "KeptLeaves", name := "as", desc := "(II)I" } : Jvm.MethodName) prog_1_method_44_code (5 : Nat) (Option.some Jvm.ClassFile.FieldType.int) [((30 : Nat), (38 : Nat), (39 : Nat), (371 : Nat))]) ∈ lw_all := lw_g (lw_at lw_m4 30 rfl) rfl
theorem q853 : (Jvm.Cond.classLink "KeptLeaves" (371 : Nat) "java/lang/ClassCastException") ∈ lw_all := lw_g (lw_at lw_m4 31 rfl) rfl
theorem q880 : (Jvm.Cond.methodLink "KeptLeaves" (367 : Nat) ({ cls := "KeptLeaves", name := "takenFor", desc := "(Ljava/lang/Object;I)LKeptLeaves$Leaf;" } : Jvm.MethodName)) ∈ lw_all := lw_g (lw_at lw_m4 58 rfl) rfl
theorem q881 : (Jvm.Cond.static ({ cls := "KeptLeaves", name := "takenFor", desc := "(Ljava/lang/Object;I)LKeptLeaves$Leaf;" } : Jvm.MethodName)) ∈ lw_all := lw_g (lw_at lw_m4 59 rfl) rfl
theorem q882 : (Jvm.Cond.code ({ cls := "KeptLeaves", name := "takenFor", desc := "(Ljava/lang/Object;I)LKeptLeaves$Leaf;" } : Jvm.MethodName) prog_1_method_43_code (2 : Nat) (Option.some (Jvm.ClassFile.FieldType.object "KeptLeaves$Leaf"))) ∈ lw_all := lw_g (lw_at lw_m4 60 rfl) rfl
theorem q883 : (Jvm.Cond.constant "KeptLeaves" (373 : Nat) (-1000000012 : Int32)) ∈ lw_all := lw_g (lw_at lw_m4 61 rfl) rfl
theorem q885 : (Jvm.Cond.instanceMethod ({ cls := "KeptLeaves", name := "turns", desc := "(II)I" } : Jvm.MethodName)) ∈ lw_all := lw_g (lw_at lw_m4 63 rfl) rfl
theorem q886 : (Jvm.Cond.selects "KeptLeaves" ({ cls := "KeptLeaves", name := "turns", desc := "(II)I" } : Jvm.MethodName) ({ cls := "KeptLeaves", name := "turns", desc := "(II)I" } : Jvm.MethodName)) ∈ lw_all := lw_g (lw_at lw_m4 64 rfl) rfl
theorem q887 : (Jvm.Cond.code ({ cls := "KeptLeaves", name := "turns", desc := "(II)I" } : Jvm.MethodName) prog_1_method_45_code (4 : Nat) (Option.some Jvm.ClassFile.FieldType.int)) ∈ lw_all := lw_g (lw_at lw_m4 65 rfl) rfl
theorem q888 : (Jvm.Cond.methodLink "KeptLeaves" (374 : Nat) ({ cls := "KeptLeaves$Leaf", name := "takes", desc := "(LKeptLeaves$Leaf;)V" } : Jvm.MethodName)) ∈ lw_all := lw_g (lw_at lw_m4 66 rfl) rfl
theorem q899 : (Jvm.Cond.instanceMethod ({ cls := "KeptLeaves", name := "set", desc := "(III)I" } : Jvm.MethodName)) ∈ lw_all := lw_g (lw_at lw_m4 77 rfl) rfl
theorem q900 : (Jvm.Cond.selects "KeptLeaves" ({ cls := "KeptLeaves", name := "set", desc := "(III)I" } : Jvm.MethodName) ({ cls := "KeptLeaves", name := "set", desc := "(III)I" } : Jvm.MethodName)) ∈ lw_all := lw_g (lw_at lw_m4 78 rfl) rfl
theorem q901 : (Jvm.Cond.code ({ cls := "KeptLeaves", name := "set", desc := "(III)I" } : Jvm.MethodName) prog_1_method_47_code (4 : Nat) (Option.some Jvm.ClassFile.FieldType.int)) ∈ lw_all := lw_g (lw_at lw_m4 79 rfl) rfl
theorem q902 : (Jvm.Cond.methodLink "KeptLeaves" (378 : Nat) ({ cls := "KeptLeaves", name := "becomes", desc := "(LKeptLeaves$Leaf;II)I" } : Jvm.MethodName)) ∈ lw_all := lw_g (lw_at lw_m4 80 rfl) rfl
theorem q903 : (Jvm.Cond.static ({ cls := "KeptLeaves", name := "becomes", desc := "(LKeptLeaves$Leaf;II)I" } : Jvm.MethodName)) ∈ lw_all := lw_g (lw_at lw_m4 81 rfl) rfl
theorem q904 : (Jvm.Cond.code ({ cls := "KeptLeaves", name := "becomes", desc := "(LKeptLeaves$Leaf;II)I" } : Jvm.MethodName) prog_1_method_46_code (4 : Nat) (Option.some Jvm.ClassFile.FieldType.int)) ∈ lw_all := lw_g (lw_at lw_m4 82 rfl) rfl
theorem q906 : (Jvm.Cond.instanceMethod ({ cls := "KeptLeaves", name := "leans", desc := "(II)I" } : Jvm.MethodName)) ∈ lw_all := lw_g (lw_at lw_m4 84 rfl) rfl
theorem q907 : (Jvm.Cond.selects "KeptLeaves" ({ cls := "KeptLeaves", name := "leans", desc := "(II)I" } : Jvm.MethodName) ({ cls := "KeptLeaves", name := "leans", desc := "(II)I" } : Jvm.MethodName)) ∈ lw_all := lw_g (lw_at lw_m4 85 rfl) rfl
theorem q908 : (Jvm.Cond.code ({ cls := "KeptLeaves", name := "leans", desc := "(II)I" } : Jvm.MethodName) prog_1_method_48_code (4 : Nat) (Option.some Jvm.ClassFile.FieldType.int)) ∈ lw_all := lw_g (lw_at lw_m4 86 rfl) rfl
theorem q910 : (Jvm.Cond.instanceMethod ({ cls := "KeptLeaves", name := "deal", desc := "(I)I" } : Jvm.MethodName)) ∈ lw_all := lw_g (lw_at lw_m4 88 rfl) rfl
theorem q911 : (Jvm.Cond.selects "KeptLeaves" ({ cls := "KeptLeaves", name := "deal", desc := "(I)I" } : Jvm.MethodName) ({ cls := "KeptLeaves", name := "deal", desc := "(I)I" } : Jvm.MethodName)) ∈ lw_all := lw_g (lw_at lw_m4 89 rfl) rfl
theorem q912 : (Jvm.Cond.code ({ cls := "KeptLeaves", name := "deal", desc := "(I)I" } : Jvm.MethodName) prog_1_method_49_code (7 : Nat) (Option.some Jvm.ClassFile.FieldType.int)) ∈ lw_all := lw_g (lw_at lw_m4 90 rfl) rfl
theorem q913 : (Jvm.Cond.methodLink "KeptLeaves" (382 : Nat) ({ cls := "KeptLeaves$Shelf", name := "draw", desc := "()I" } : Jvm.MethodName)) ∈ lw_all := lw_g (lw_at lw_m4 91 rfl) rfl
theorem q919 : (Jvm.Cond.instanceMethod ({ cls := "KeptLeaves", name := "space", desc := "(I)I" } : Jvm.MethodName)) ∈ lw_all := lw_g (lw_at lw_m4 97 rfl) rfl
theorem q920 : (Jvm.Cond.selects "KeptLeaves" ({ cls := "KeptLeaves", name := "space", desc := "(I)I" } : Jvm.MethodName) ({ cls := "KeptLeaves", name := "space", desc := "(I)I" } : Jvm.MethodName)) ∈ lw_all := lw_g (lw_at lw_m4 98 rfl) rfl
theorem q921 : (Jvm.Cond.code ({ cls := "KeptLeaves", name := "space", desc := "(I)I" } : Jvm.MethodName) prog_1_method_58_code (2 : Nat) (Option.some Jvm.ClassFile.FieldType.int)) ∈ lw_all := lw_g (lw_at lw_m4 99 rfl) rfl
theorem q922 : (Jvm.Cond.methodLink "KeptLeaves" (427 : Nat) ({ cls := "KeptLeaves", name := "throwsDownTo", desc := "(I)I" } : Jvm.MethodName)) ∈ lw_all := lw_g (lw_at lw_m4 100 rfl) rfl
theorem q923 : (Jvm.Cond.privateMethod ({ cls := "KeptLeaves", name := "throwsDownTo", desc := "(I)I" } : Jvm.MethodName)) ∈ lw_tbl := lw_at lw_m4 101 rfl
theorem q924 : (Jvm.Cond.instanceMethod ({ cls := "KeptLeaves", name := "throwsDownTo", desc := "(I)I" } : Jvm.MethodName)) ∈ lw_all := lw_g (lw_at lw_m4 102 rfl) rfl
theorem q925 : (Jvm.Cond.code ({ cls := "KeptLeaves", name := "throwsDownTo", desc := "(I)I" } : Jvm.MethodName) prog_1_method_56_code (3 : Nat) (Option.some Jvm.ClassFile.FieldType.int)) ∈ lw_all := lw_g (lw_at lw_m4 103 rfl) rfl
theorem q926 : (Jvm.Cond.methodLink "KeptLeaves" (410 : Nat) ({ cls := "KeptLeaves", name := "fullness", desc := "()I" } : Jvm.MethodName)) ∈ lw_all := lw_g (lw_at lw_m4 104 rfl) rfl
theorem q927 : (Jvm.Cond.privateMethod ({ cls := "KeptLeaves", name := "fullness", desc := "()I" } : Jvm.MethodName)) ∈ lw_tbl := lw_at lw_m4 105 rfl
theorem q928 : (Jvm.Cond.instanceMethod ({ cls := "KeptLeaves", name := "fullness", desc := "()I" } : Jvm.MethodName)) ∈ lw_all := lw_g (lw_at lw_m4 106 rfl) rfl
theorem q929 : (Jvm.Cond.code ({ cls := "KeptLeaves", name := "fullness", desc := "()I" } : Jvm.MethodName) prog_1_method_50_code (3 : Nat) (Option.some Jvm.ClassFile.FieldType.int)) ∈ lw_all := lw_g (lw_at lw_m4 107 rfl) rfl
theorem q930 : (Jvm.Cond.methodLink "KeptLeaves" (413 : Nat) ({ cls := "KeptLeaves", name := "chosen", desc := "()I" } : Jvm.MethodName)) ∈ lw_all := lw_g (lw_at lw_m4 108 rfl) rfl
theorem q931 : (Jvm.Cond.privateMethod ({ cls := "KeptLeaves", name := "chosen", desc := "()I" } : Jvm.MethodName)) ∈ lw_tbl := lw_at lw_m4 109 rfl
theorem q932 : (Jvm.Cond.instanceMethod ({ cls := "KeptLeaves", name := "chosen", desc := "()I" } : Jvm.MethodName)) ∈ lw_all := lw_g (lw_at lw_m4 110 rfl) rfl
theorem q933 : (Jvm.Cond.code ({ cls := "KeptLeaves", name := "chosen", desc := "()I" } : Jvm.MethodName) prog_1_method_55_code (7 : Nat) (Option.some Jvm.ClassFile.FieldType.int)) ∈ lw_all := lw_g (lw_at lw_m4 111 rfl) rfl
theorem q934 : (Jvm.Cond.methodLink "KeptLeaves" (404 : Nat) ({ cls := "KeptLeaves", name := "byLot", desc := "()I" } : Jvm.MethodName)) ∈ lw_all := lw_g (lw_at lw_m4 112 rfl) rfl
theorem q935 : (Jvm.Cond.privateMethod ({ cls := "KeptLeaves", name := "byLot", desc := "()I" } : Jvm.MethodName)) ∈ lw_tbl := lw_at lw_m4 113 rfl
theorem q936 : (Jvm.Cond.instanceMethod ({ cls := "KeptLeaves", name := "byLot", desc := "()I" } : Jvm.MethodName)) ∈ lw_all := lw_g (lw_at lw_m4 114 rfl) rfl
theorem q937 : (Jvm.Cond.code ({ cls := "KeptLeaves", name := "byLot", desc := "()I" } : Jvm.MethodName) prog_1_method_54_code (4 : Nat) (Option.some Jvm.ClassFile.FieldType.int)) ∈ lw_all := lw_g (lw_at lw_m4 115 rfl) rfl
theorem q938 : (Jvm.Cond.methodLink "KeptLeaves" (401 : Nat) ({ cls := "KeptLeaves", name := "isLooked", desc := "(I)Z" } : Jvm.MethodName)) ∈ lw_all := lw_g (lw_at lw_m4 116 rfl) rfl
theorem q939 : (Jvm.Cond.privateMethod ({ cls := "KeptLeaves", name := "isLooked", desc := "(I)Z" } : Jvm.MethodName)) ∈ lw_tbl := lw_at lw_m4 117 rfl
theorem q940 : (Jvm.Cond.instanceMethod ({ cls := "KeptLeaves", name := "isLooked", desc := "(I)Z" } : Jvm.MethodName)) ∈ lw_all := lw_g (lw_at lw_m4 118 rfl) rfl
theorem q941 : (Jvm.Cond.code ({ cls := "KeptLeaves", name := "isLooked", desc := "(I)Z" } : Jvm.MethodName) prog_1_method_53_code (2 : Nat) (Option.some Jvm.ClassFile.FieldType.boolean)) ∈ lw_all := lw_g (lw_at lw_m4 119 rfl) rfl
theorem q942 : (Jvm.Cond.methodLink "KeptLeaves" (398 : Nat) ({ cls := "KeptLeaves", name := "isLeaned", desc := "(I)Z" } : Jvm.MethodName)) ∈ lw_all := lw_g (lw_at lw_m4 120 rfl) rfl
theorem q943 : (Jvm.Cond.privateMethod ({ cls := "KeptLeaves", name := "isLeaned", desc := "(I)Z" } : Jvm.MethodName)) ∈ lw_tbl := lw_at lw_m4 121 rfl
theorem q944 : (Jvm.Cond.instanceMethod ({ cls := "KeptLeaves", name := "isLeaned", desc := "(I)Z" } : Jvm.MethodName)) ∈ lw_all := lw_g (lw_at lw_m4 122 rfl) rfl
theorem q945 : (Jvm.Cond.code ({ cls := "KeptLeaves", name := "isLeaned", desc := "(I)Z" } : Jvm.MethodName) prog_1_method_51_code (3 : Nat) (Option.some Jvm.ClassFile.FieldType.boolean)) ∈ lw_all := lw_g (lw_at lw_m4 123 rfl) rfl
theorem q946 : (Jvm.Cond.methodLink "KeptLeaves" (407 : Nat) ({ cls := "KeptLeaves", name := "goesBy", desc := "(II)I" } : Jvm.MethodName)) ∈ lw_all := lw_g (lw_at lw_m4 124 rfl) rfl
theorem q947 : (Jvm.Cond.privateMethod ({ cls := "KeptLeaves", name := "goesBy", desc := "(II)I" } : Jvm.MethodName)) ∈ lw_tbl := lw_at lw_m4 125 rfl
theorem q948 : (Jvm.Cond.instanceMethod ({ cls := "KeptLeaves", name := "goesBy", desc := "(II)I" } : Jvm.MethodName)) ∈ lw_all := lw_g (lw_at lw_m4 126 rfl) rfl
theorem q949 : (Jvm.Cond.code ({ cls := "KeptLeaves", name := "goesBy", desc := "(II)I" } : Jvm.MethodName) prog_1_method_52_code (3 : Nat) (Option.some Jvm.ClassFile.FieldType.int)) ∈ lw_all := lw_g (lw_at lw_m4 127 rfl) rfl
theorem q950 : (Jvm.Cond.methodLink "KeptLeaves" (416 : Nat) ({ cls := "KeptLeaves$Shelf", name := "goes", desc := "(I)V" } : Jvm.MethodName)) ∈ lw_all := lw_g (lw_at lw_m4 128 rfl) rfl
theorem q956 : (Jvm.Cond.instanceMethod ({ cls := "KeptLeaves", name := "rule", desc := "(I)I" } : Jvm.MethodName)) ∈ lw_all := lw_g (lw_at lw_m4 134 rfl) rfl
theorem q957 : (Jvm.Cond.selects "KeptLeaves" ({ cls := "KeptLeaves", name := "rule", desc := "(I)I" } : Jvm.MethodName) ({ cls := "KeptLeaves", name := "rule", desc := "(I)I" } : Jvm.MethodName)) ∈ lw_all := lw_g (lw_at lw_m4 135 rfl) rfl
theorem q958 : (Jvm.Cond.code ({ cls := "KeptLeaves", name := "rule", desc := "(I)I" } : Jvm.MethodName) prog_1_method_59_code (3 : Nat) (Option.some Jvm.ClassFile.FieldType.int)) ∈ lw_all := lw_g (lw_at lw_m4 136 rfl) rfl
theorem q960 : (Jvm.Cond.instanceMethod ({ cls := "KeptLeaves", name := "care", desc := "(I)I" } : Jvm.MethodName)) ∈ lw_all := lw_g (lw_at lw_m4 138 rfl) rfl
theorem q961 : (Jvm.Cond.selects "KeptLeaves" ({ cls := "KeptLeaves", name := "care", desc := "(I)I" } : Jvm.MethodName) ({ cls := "KeptLeaves", name := "care", desc := "(I)I" } : Jvm.MethodName)) ∈ lw_all := lw_g (lw_at lw_m4 139 rfl) rfl
theorem q962 : (Jvm.Cond.code ({ cls := "KeptLeaves", name := "care", desc := "(I)I" } : Jvm.MethodName) prog_1_method_60_code (3 : Nat) (Option.some Jvm.ClassFile.FieldType.int)) ∈ lw_all := lw_g (lw_at lw_m4 140 rfl) rfl
theorem q964 : (Jvm.Cond.instanceMethod ({ cls := "KeptLeaves", name := "want", desc := "(I)I" } : Jvm.MethodName)) ∈ lw_all := lw_g (lw_at lw_m4 142 rfl) rfl
theorem q965 : (Jvm.Cond.selects "KeptLeaves" ({ cls := "KeptLeaves", name := "want", desc := "(I)I" } : Jvm.MethodName) ({ cls := "KeptLeaves", name := "want", desc := "(I)I" } : Jvm.MethodName)) ∈ lw_all := lw_g (lw_at lw_m4 143 rfl) rfl
theorem q966 : (Jvm.Cond.code ({ cls := "KeptLeaves", name := "want", desc := "(I)I" } : Jvm.MethodName) prog_1_method_61_code (2 : Nat) (Option.some Jvm.ClassFile.FieldType.int)) ∈ lw_all := lw_g (lw_at lw_m4 144 rfl) rfl
theorem q967 : (Jvm.Cond.methodLink "KeptLeaves" (432 : Nat) ({ cls := "KeptLeaves", name := "isFound", desc := "(I)Z" } : Jvm.MethodName)) ∈ lw_all := lw_g (lw_at lw_m4 145 rfl) rfl
theorem q968 : (Jvm.Cond.privateMethod ({ cls := "KeptLeaves", name := "isFound", desc := "(I)Z" } : Jvm.MethodName)) ∈ lw_tbl := lw_at lw_m4 146 rfl
theorem q969 : (Jvm.Cond.instanceMethod ({ cls := "KeptLeaves", name := "isFound", desc := "(I)Z" } : Jvm.MethodName)) ∈ lw_all := lw_g (lw_at lw_m4 147 rfl) rfl
theorem q970 : (Jvm.Cond.code ({ cls := "KeptLeaves", name := "isFound", desc := "(I)Z" } : Jvm.MethodName) prog_1_method_57_code (3 : Nat) (Option.some Jvm.ClassFile.FieldType.boolean)) ∈ lw_all := lw_g (lw_at lw_m4 148 rfl) rfl
theorem q971 : (Jvm.Cond.methodLink "KeptLeaves" (421 : Nat) ({ cls := "KeptLeaves$Shelf", name := "has", desc := "(I)Z" } : Jvm.MethodName)) ∈ lw_all := lw_g (lw_at lw_m4 149 rfl) rfl
theorem q975 : (Jvm.Cond.methodLink "KeptLeaves" (430 : Nat) ({ cls := "KeptLeaves$Shelf", name := "comes", desc := "(I)V" } : Jvm.MethodName)) ∈ lw_all := lw_g (lw_at lw_m4 153 rfl) rfl
theorem q980 : (Jvm.Cond.instanceMethod ({ cls := "KeptLeaves", name := "next", desc := "()I" } : Jvm.MethodName)) ∈ lw_all := lw_g (lw_at lw_m4 158 rfl) rfl
theorem q981 : (Jvm.Cond.selects "KeptLeaves" ({ cls := "KeptLeaves", name := "next", desc := "()I" } : Jvm.MethodName) ({ cls := "KeptLeaves", name := "next", desc := "()I" } : Jvm.MethodName)) ∈ lw_all := lw_g (lw_at lw_m4 159 rfl) rfl
theorem q982 : (Jvm.Cond.code ({ cls := "KeptLeaves", name := "next", desc := "()I" } : Jvm.MethodName) prog_1_method_62_code (3 : Nat) (Option.some Jvm.ClassFile.FieldType.int)) ∈ lw_all := lw_g (lw_at lw_m4 160 rfl) rfl
theorem q984 : (Jvm.Cond.instanceMethod ({ cls := "KeptLeaves", name := "out", desc := "(I)I" } : Jvm.MethodName)) ∈ lw_all := lw_g (lw_at lw_m4 162 rfl) rfl
theorem q985 : (Jvm.Cond.selects "KeptLeaves" ({ cls := "KeptLeaves", name := "out", desc := "(I)I" } : Jvm.MethodName) ({ cls := "KeptLeaves", name := "out", desc := "(I)I" } : Jvm.MethodName)) ∈ lw_all := lw_g (lw_at lw_m4 163 rfl) rfl
theorem q986 : (Jvm.Cond.code ({ cls := "KeptLeaves", name := "out", desc := "(I)I" } : Jvm.MethodName) prog_1_method_63_code (2 : Nat) (Option.some Jvm.ClassFile.FieldType.int)) ∈ lw_all := lw_g (lw_at lw_m4 164 rfl) rfl
theorem q988 : (Jvm.Cond.instanceMethod ({ cls := "KeptLeaves", name := "at", desc := "(I)I" } : Jvm.MethodName)) ∈ lw_all := lw_g (lw_at lw_m4 166 rfl) rfl
theorem q989 : (Jvm.Cond.selects "KeptLeaves" ({ cls := "KeptLeaves", name := "at", desc := "(I)I" } : Jvm.MethodName) ({ cls := "KeptLeaves", name := "at", desc := "(I)I" } : Jvm.MethodName)) ∈ lw_all := lw_g (lw_at lw_m4 167 rfl) rfl
theorem q990 : (Jvm.Cond.code ({ cls := "KeptLeaves", name := "at", desc := "(I)I" } : Jvm.MethodName) prog_1_method_64_code (2 : Nat) (Option.some Jvm.ClassFile.FieldType.int)) ∈ lw_all := lw_g (lw_at lw_m4 168 rfl) rfl
theorem q992 : (Jvm.Cond.instanceMethod ({ cls := "KeptLeaves", name := "fire", desc := "(I)I" } : Jvm.MethodName)) ∈ lw_all := lw_g (lw_at lw_m4 170 rfl) rfl
theorem q993 : (Jvm.Cond.selects "KeptLeaves" ({ cls := "KeptLeaves", name := "fire", desc := "(I)I" } : Jvm.MethodName) ({ cls := "KeptLeaves", name := "fire", desc := "(I)I" } : Jvm.MethodName)) ∈ lw_all := lw_g (lw_at lw_m4 171 rfl) rfl
theorem q994 : (Jvm.Cond.code ({ cls := "KeptLeaves", name := "fire", desc := "(I)I" } : Jvm.MethodName) prog_1_method_65_code (5 : Nat) (Option.some Jvm.ClassFile.FieldType.int)) ∈ lw_all := lw_g (lw_at lw_m4 172 rfl) rfl
theorem q996 : (Jvm.Cond.instanceMethod ({ cls := "KeptLeaves", name := "seed", desc := "(I)I" } : Jvm.MethodName)) ∈ lw_all := lw_g (lw_at lw_m4 174 rfl) rfl
theorem q997 : (Jvm.Cond.selects "KeptLeaves" ({ cls := "KeptLeaves", name := "seed", desc := "(I)I" } : Jvm.MethodName) ({ cls := "KeptLeaves", name := "seed", desc := "(I)I" } : Jvm.MethodName)) ∈ lw_all := lw_g (lw_at lw_m4 175 rfl) rfl
theorem q998 : (Jvm.Cond.code ({ cls := "KeptLeaves", name := "seed", desc := "(I)I" } : Jvm.MethodName) prog_1_method_66_code (3 : Nat) (Option.some Jvm.ClassFile.FieldType.int)) ∈ lw_all := lw_g (lw_at lw_m4 176 rfl) rfl
theorem q1000 : (Jvm.Cond.instanceMethod ({ cls := "KeptLeaves", name := "plan", desc := "(I)I" } : Jvm.MethodName)) ∈ lw_all := lw_g (lw_at lw_m4 178 rfl) rfl
theorem q1001 : (Jvm.Cond.selects "KeptLeaves" ({ cls := "KeptLeaves", name := "plan", desc := "(I)I" } : Jvm.MethodName) ({ cls := "KeptLeaves", name := "plan", desc := "(I)I" } : Jvm.MethodName)) ∈ lw_all := lw_g (lw_at lw_m4 179 rfl) rfl
theorem q1002 : (Jvm.Cond.code ({ cls := "KeptLeaves", name := "plan", desc := "(I)I" } : Jvm.MethodName) prog_1_method_67_code (2 : Nat) (Option.some Jvm.ClassFile.FieldType.int)) ∈ lw_all := lw_g (lw_at lw_m4 180 rfl) rfl
theorem q1004 : (Jvm.Cond.instanceMethod ({ cls := "KeptLeaves", name := "clear", desc := "()I" } : Jvm.MethodName)) ∈ lw_all := lw_g (lw_at lw_m4 182 rfl) rfl
theorem q1005 : (Jvm.Cond.selects "KeptLeaves" ({ cls := "KeptLeaves", name := "clear", desc := "()I" } : Jvm.MethodName) ({ cls := "KeptLeaves", name := "clear", desc := "()I" } : Jvm.MethodName)) ∈ lw_all := lw_g (lw_at lw_m4 183 rfl) rfl
theorem q1006 : (Jvm.Cond.code ({ cls := "KeptLeaves", name := "clear", desc := "()I" } : Jvm.MethodName) prog_1_method_68_code (2 : Nat) (Option.some Jvm.ClassFile.FieldType.int)) ∈ lw_all := lw_g (lw_at lw_m4 184 rfl) rfl
theorem q1008 : (Jvm.Cond.instanceMethod ({ cls := "KeptLeaves", name := "run", desc := "(I)I" } : Jvm.MethodName)) ∈ lw_all := lw_g (lw_at lw_m4 186 rfl) rfl
theorem q1009 : (Jvm.Cond.selects "KeptLeaves" ({ cls := "KeptLeaves", name := "run", desc := "(I)I" } : Jvm.MethodName) ({ cls := "KeptLeaves", name := "run", desc := "(I)I" } : Jvm.MethodName)) ∈ lw_all := lw_g (lw_at lw_m4 187 rfl) rfl
theorem q1010 : (Jvm.Cond.code ({ cls := "KeptLeaves", name := "run", desc := "(I)I" } : Jvm.MethodName) prog_1_method_71_code (2 : Nat) (Option.some Jvm.ClassFile.FieldType.int)) ∈ lw_all := lw_g (lw_at lw_m4 188 rfl) rfl
theorem q1011 : (Jvm.Cond.constant "KeptLeaves" (452 : Nat) (-1000000002 : Int32)) ∈ lw_all := lw_g (lw_at lw_m4 189 rfl) rfl
theorem q1012 : (Jvm.Cond.methodLink "KeptLeaves" (448 : Nat) ({ cls := "KeptLeaves", name := "goesThrough", desc := "([II)I" } : Jvm.MethodName)) ∈ lw_all := lw_g (lw_at lw_m4 190 rfl) rfl
theorem q1013 : (Jvm.Cond.privateMethod ({ cls := "KeptLeaves", name := "goesThrough", desc := "([II)I" } : Jvm.MethodName)) ∈ lw_tbl := lw_at lw_m4 191 rfl
theorem q1014 : (Jvm.Cond.instanceMethod ({ cls := "KeptLeaves", name := "goesThrough", desc := "([II)I" } : Jvm.MethodName)) ∈ lw_all := lw_g (lw_at lw_m4 192 rfl) rfl
theorem q1015 : (Jvm.Cond.code ({ cls := "KeptLeaves", name := "goesThrough", desc := "([II)I" } : Jvm.MethodName) prog_1_method_69_code (6 : Nat) (Option.some Jvm.ClassFile.FieldType.int)) ∈ lw_all := lw_g (lw_at lw_m4 193 rfl) rfl
theorem q1017 : (Jvm.Cond.instanceMethod ({ cls := "KeptLeaves", name := "would", desc := "()I" } : Jvm.MethodName)) ∈ lw_all := lw_g (lw_at lw_m4 195 rfl) rfl
theorem q1018 : (Jvm.Cond.selects "KeptLeaves" ({ cls := "KeptLeaves", name := "would", desc := "()I" } : Jvm.MethodName) ({ cls := "KeptLeaves", name := "would", desc := "()I" } : Jvm.MethodName)) ∈ lw_all := lw_g (lw_at lw_m4 196 rfl) rfl
theorem q1019 : (Jvm.Cond.code ({ cls := "KeptLeaves", name := "would", desc := "()I" } : Jvm.MethodName) prog_1_method_72_code (1 : Nat) (Option.some Jvm.ClassFile.FieldType.int)) ∈ lw_all := lw_g (lw_at lw_m4 197 rfl) rfl
theorem q1020 : (Jvm.Cond.methodLink "KeptLeaves" (453 : Nat) ({ cls := "KeptLeaves", name := "thought", desc := "([II)I" } : Jvm.MethodName)) ∈ lw_all := lw_g (lw_at lw_m4 198 rfl) rfl
theorem q1021 : (Jvm.Cond.privateMethod ({ cls := "KeptLeaves", name := "thought", desc := "([II)I" } : Jvm.MethodName)) ∈ lw_tbl := lw_at lw_m4 199 rfl
theorem q1022 : (Jvm.Cond.instanceMethod ({ cls := "KeptLeaves", name := "thought", desc := "([II)I" } : Jvm.MethodName)) ∈ lw_all := lw_g (lw_at lw_m4 200 rfl) rfl
theorem q1023 : (Jvm.Cond.code ({ cls := "KeptLeaves", name := "thought", desc := "([II)I" } : Jvm.MethodName) prog_1_method_70_code (4 : Nat) (Option.some Jvm.ClassFile.FieldType.int)) ∈ lw_all := lw_g (lw_at lw_m4 201 rfl) rfl
theorem q1024 : (Jvm.Cond.methodLink "KeptLeaves" (444 : Nat) ({ cls := "KeptLeaves$Shelf", name := "copyOf", desc := "(LKeptLeaves$Shelf;)V" } : Jvm.MethodName)) ∈ lw_all := lw_g (lw_at lw_m4 202 rfl) rfl
theorem q1029 : (Jvm.Cond.static ({ cls := "KeptLeaves", name := "copyRow", desc := "([I[I)V" } : Jvm.MethodName)) ∈ lw_all := lw_g (lw_at lw_m4 207 rfl) rfl
theorem q1030 : (Jvm.Cond.code ({ cls := "KeptLeaves", name := "copyRow", desc := "([I[I)V" } : Jvm.MethodName) prog_1_method_5_code (2 : Nat) (Option.none : Option Jvm.ClassFile.FieldType)) ∈ lw_all := lw_g (lw_at lw_m4 208 rfl) rfl
theorem q1031 : (Jvm.Cond.methodLink "KeptLeaves" (34 : Nat) ({ cls := "java/lang/System", name := "arraycopy", desc := "(Ljava/lang/Object;ILjava/lang/Object;II)V" } : Jvm.MethodName)) ∈ lw_all := lw_g (lw_at lw_m4 209 rfl) rfl
theorem q1035 : (Jvm.Cond.instanceMethod ({ cls := "KeptLeaves", name := "least", desc := "(I)I" } : Jvm.MethodName)) ∈ lw_all := lw_g (lw_at lw_m4 213 rfl) rfl
theorem q1036 : (Jvm.Cond.selects "KeptLeaves" ({ cls := "KeptLeaves", name := "least", desc := "(I)I" } : Jvm.MethodName) ({ cls := "KeptLeaves", name := "least", desc := "(I)I" } : Jvm.MethodName)) ∈ lw_all := lw_g (lw_at lw_m4 214 rfl) rfl
theorem q1037 : (Jvm.Cond.code ({ cls := "KeptLeaves", name := "least", desc := "(I)I" } : Jvm.MethodName) prog_1_method_79_code (3 : Nat) (Option.some Jvm.ClassFile.FieldType.int)) ∈ lw_all := lw_g (lw_at lw_m4 215 rfl) rfl
theorem q1038 : (Jvm.Cond.methodLink "KeptLeaves" (466 : Nat) ({ cls := "KeptLeaves", name := "findFits", desc := "()V" } : Jvm.MethodName)) ∈ lw_all := lw_g (lw_at lw_m4 216 rfl) rfl
theorem q1039 : (Jvm.Cond.privateMethod ({ cls := "KeptLeaves", name := "findFits", desc := "()V" } : Jvm.MethodName)) ∈ lw_tbl := lw_at lw_m4 217 rfl
theorem q1040 : (Jvm.Cond.instanceMethod ({ cls := "KeptLeaves", name := "findFits", desc := "()V" } : Jvm.MethodName)) ∈ lw_all := lw_g (lw_at lw_m4 218 rfl) rfl
theorem q1041 : (Jvm.Cond.code ({ cls := "KeptLeaves", name := "findFits", desc := "()V" } : Jvm.MethodName) prog_1_method_74_code (4 : Nat) (Option.none : Option Jvm.ClassFile.FieldType)) ∈ lw_all := lw_g (lw_at lw_m4 219 rfl) rfl
theorem q1042 : (Jvm.Cond.methodLink "KeptLeaves" (456 : Nat) ({ cls := "KeptLeaves", name := "sets", desc := "()I" } : Jvm.MethodName)) ∈ lw_all := lw_g (lw_at lw_m4 220 rfl) rfl
theorem q1043 : (Jvm.Cond.privateMethod ({ cls := "KeptLeaves", name := "sets", desc := "()I" } : Jvm.MethodName)) ∈ lw_tbl := lw_at lw_m4 221 rfl
theorem q1044 : (Jvm.Cond.instanceMethod ({ cls := "KeptLeaves", name := "sets", desc := "()I" } : Jvm.MethodName)) ∈ lw_all := lw_g (lw_at lw_m4 222 rfl) rfl
theorem q1045 : (Jvm.Cond.code ({ cls := "KeptLeaves", name := "sets", desc := "()I" } : Jvm.MethodName) prog_1_method_73_code (1 : Nat) (Option.some Jvm.ClassFile.FieldType.int)) ∈ lw_all := lw_g (lw_at lw_m4 223 rfl) rfl
theorem q1046 : (Jvm.Cond.methodLink "KeptLeaves" (469 : Nat) ({ cls := "KeptLeaves", name := "leastOf", desc := "([II)I" } : Jvm.MethodName)) ∈ lw_all := lw_g (lw_at lw_m4 224 rfl) rfl
theorem q1047 : (Jvm.Cond.privateMethod ({ cls := "KeptLeaves", name := "leastOf", desc := "([II)I" } : Jvm.MethodName)) ∈ lw_tbl := lw_at lw_m4 225 rfl
theorem q1048 : (Jvm.Cond.instanceMethod ({ cls := "KeptLeaves", name := "leastOf", desc := "([II)I" } : Jvm.MethodName)) ∈ lw_all := lw_g (lw_at lw_m4 226 rfl) rfl
theorem q1049 : (Jvm.Cond.code ({ cls := "KeptLeaves", name := "leastOf", desc := "([II)I" } : Jvm.MethodName) prog_1_method_77_code (5 : Nat) (Option.some Jvm.ClassFile.FieldType.int)) ∈ lw_all := lw_g (lw_at lw_m4 227 rfl) rfl
theorem q1050 : (Jvm.Cond.methodLink "KeptLeaves" (460 : Nat) ({ cls := "KeptLeaves", name := "findInside", desc := "()V" } : Jvm.MethodName)) ∈ lw_all := lw_g (lw_at lw_m4 228 rfl) rfl
theorem q1051 : (Jvm.Cond.privateMethod ({ cls := "KeptLeaves", name := "findInside", desc := "()V" } : Jvm.MethodName)) ∈ lw_tbl := lw_at lw_m4 229 rfl
theorem q1052 : (Jvm.Cond.instanceMethod ({ cls := "KeptLeaves", name := "findInside", desc := "()V" } : Jvm.MethodName)) ∈ lw_all := lw_g (lw_at lw_m4 230 rfl) rfl
theorem q1053 : (Jvm.Cond.code ({ cls := "KeptLeaves", name := "findInside", desc := "()V" } : Jvm.MethodName) prog_1_method_75_code (3 : Nat) (Option.none : Option Jvm.ClassFile.FieldType)) ∈ lw_all := lw_g (lw_at lw_m4 231 rfl) rfl
theorem q1054 : (Jvm.Cond.constant "KeptLeaves" (459 : Nat) (1000000 : Int32)) ∈ lw_all := lw_g (lw_at lw_m4 232 rfl) rfl
theorem q1055 : (Jvm.Cond.methodLink "KeptLeaves" (463 : Nat) ({ cls := "KeptLeaves", name := "missedOf", desc := "(II)I" } : Jvm.MethodName)) ∈ lw_all := lw_g (lw_at lw_m4 233 rfl) rfl
theorem q1056 : (Jvm.Cond.privateMethod ({ cls := "KeptLeaves", name := "missedOf", desc := "(II)I" } : Jvm.MethodName)) ∈ lw_tbl := lw_at lw_m4 234 rfl
theorem q1057 : (Jvm.Cond.instanceMethod ({ cls := "KeptLeaves", name := "missedOf", desc := "(II)I" } : Jvm.MethodName)) ∈ lw_all := lw_g (lw_at lw_m4 235 rfl) rfl
theorem q1058 : (Jvm.Cond.code ({ cls := "KeptLeaves", name := "missedOf", desc := "(II)I" } : Jvm.MethodName) prog_1_method_76_code (3 : Nat) (Option.some Jvm.ClassFile.FieldType.int)) ∈ lw_all := lw_g (lw_at lw_m4 236 rfl) rfl
theorem q1059 : (Jvm.Cond.methodLink "KeptLeaves" (472 : Nat) ({ cls := "KeptLeaves", name := "keptBehind", desc := "(I)I" } : Jvm.MethodName)) ∈ lw_all := lw_g (lw_at lw_m4 237 rfl) rfl
theorem q1060 : (Jvm.Cond.privateMethod ({ cls := "KeptLeaves", name := "keptBehind", desc := "(I)I" } : Jvm.MethodName)) ∈ lw_tbl := lw_at lw_m4 238 rfl
theorem q1061 : (Jvm.Cond.instanceMethod ({ cls := "KeptLeaves", name := "keptBehind", desc := "(I)I" } : Jvm.MethodName)) ∈ lw_all := lw_g (lw_at lw_m4 239 rfl) rfl
theorem q1062 : (Jvm.Cond.code ({ cls := "KeptLeaves", name := "keptBehind", desc := "(I)I" } : Jvm.MethodName) prog_1_method_78_code (4 : Nat) (Option.some Jvm.ClassFile.FieldType.int)) ∈ lw_all := lw_g (lw_at lw_m5 0 rfl) rfl
theorem q1064 : (Jvm.Cond.instanceMethod ({ cls := "KeptLeaves", name := "hold", desc := "(I)I" } : Jvm.MethodName)) ∈ lw_all := lw_g (lw_at lw_m5 2 rfl) rfl
theorem q1065 : (Jvm.Cond.selects "KeptLeaves" ({ cls := "KeptLeaves", name := "hold", desc := "(I)I" } : Jvm.MethodName) ({ cls := "KeptLeaves", name := "hold", desc := "(I)I" } : Jvm.MethodName)) ∈ lw_all := lw_g (lw_at lw_m5 3 rfl) rfl
theorem q1066 : (Jvm.Cond.code ({ cls := "KeptLeaves", name := "hold", desc := "(I)I" } : Jvm.MethodName) prog_1_method_81_code (2 : Nat) (Option.some Jvm.ClassFile.FieldType.int)) ∈ lw_all := lw_g (lw_at lw_m5 4 rfl) rfl
theorem q1067 : (Jvm.Cond.methodLink "KeptLeaves" (475 : Nat) ({ cls := "KeptLeaves", name := "heldOf", desc := "(I)I" } : Jvm.MethodName)) ∈ lw_all := lw_g (lw_at lw_m5 5 rfl) rfl
theorem q1068 : (Jvm.Cond.privateMethod ({ cls := "KeptLeaves", name := "heldOf", desc := "(I)I" } : Jvm.MethodName)) ∈ lw_tbl := lw_at lw_m5 6 rfl
theorem q1069 : (Jvm.Cond.instanceMethod ({ cls := "KeptLeaves", name := "heldOf", desc := "(I)I" } : Jvm.MethodName)) ∈ lw_all := lw_g (lw_at lw_m5 7 rfl) rfl
theorem q1070 : (Jvm.Cond.code ({ cls := "KeptLeaves", name := "heldOf", desc := "(I)I" } : Jvm.MethodName) prog_1_method_80_code (4 : Nat) (Option.some Jvm.ClassFile.FieldType.int)) ∈ lw_all := lw_g (lw_at lw_m5 8 rfl) rfl
theorem q1072 : (Jvm.Cond.instanceMethod ({ cls := "KeptLeaves", name := "best", desc := "(I)I" } : Jvm.MethodName)) ∈ lw_all := lw_g (lw_at lw_m5 10 rfl) rfl
theorem q1073 : (Jvm.Cond.selects "KeptLeaves" ({ cls := "KeptLeaves", name := "best", desc := "(I)I" } : Jvm.MethodName) ({ cls := "KeptLeaves", name := "best", desc := "(I)I" } : Jvm.MethodName)) ∈ lw_all := lw_g (lw_at lw_m5 11 rfl) rfl
theorem q1074 : (Jvm.Cond.code ({ cls := "KeptLeaves", name := "best", desc := "(I)I" } : Jvm.MethodName) prog_1_method_83_code (3 : Nat) (Option.some Jvm.ClassFile.FieldType.int)) ∈ lw_all := lw_g (lw_at lw_m5 12 rfl) rfl
theorem q1075 : (Jvm.Cond.methodLink "KeptLeaves" (478 : Nat) ({ cls := "KeptLeaves", name := "bestWithout", desc := "(I)I" } : Jvm.MethodName)) ∈ lw_all := lw_g (lw_at lw_m5 13 rfl) rfl
theorem q1076 : (Jvm.Cond.privateMethod ({ cls := "KeptLeaves", name := "bestWithout", desc := "(I)I" } : Jvm.MethodName)) ∈ lw_tbl := lw_at lw_m5 14 rfl
theorem q1077 : (Jvm.Cond.instanceMethod ({ cls := "KeptLeaves", name := "bestWithout", desc := "(I)I" } : Jvm.MethodName)) ∈ lw_all := lw_g (lw_at lw_m5 15 rfl) rfl
theorem q1078 : (Jvm.Cond.code ({ cls := "KeptLeaves", name := "bestWithout", desc := "(I)I" } : Jvm.MethodName) prog_1_method_82_code (4 : Nat) (Option.some Jvm.ClassFile.FieldType.int)) ∈ lw_all := lw_g (lw_at lw_m5 16 rfl) rfl
theorem q1080 : (Jvm.Cond.instanceMethod ({ cls := "KeptLeaves", name := "price", desc := "(I)I" } : Jvm.MethodName)) ∈ lw_all := lw_g (lw_at lw_m5 18 rfl) rfl
theorem q1081 : (Jvm.Cond.selects "KeptLeaves" ({ cls := "KeptLeaves", name := "price", desc := "(I)I" } : Jvm.MethodName) ({ cls := "KeptLeaves", name := "price", desc := "(I)I" } : Jvm.MethodName)) ∈ lw_all := lw_g (lw_at lw_m5 19 rfl) rfl
theorem q1082 : (Jvm.Cond.code ({ cls := "KeptLeaves", name := "price", desc := "(I)I" } : Jvm.MethodName) prog_1_method_84_code (2 : Nat) (Option.some Jvm.ClassFile.FieldType.int)) ∈ lw_all := lw_g (lw_at lw_m5 20 rfl) rfl
theorem q1084 : (Jvm.Cond.instanceMethod ({ cls := "KeptLeaves", name := "means", desc := "(I)J" } : Jvm.MethodName)) ∈ lw_all := lw_g (lw_at lw_m5 22 rfl) rfl
theorem q1085 : (Jvm.Cond.selects "KeptLeaves" ({ cls := "KeptLeaves", name := "means", desc := "(I)J" } : Jvm.MethodName) ({ cls := "KeptLeaves", name := "means", desc := "(I)J" } : Jvm.MethodName)) ∈ lw_all := lw_g (lw_at lw_m5 23 rfl) rfl
theorem q1086 : (Jvm.Cond.code ({ cls := "KeptLeaves", name := "means", desc := "(I)J" } : Jvm.MethodName) prog_1_method_86_code (2 : Nat) (Option.some Jvm.ClassFile.FieldType.long)) ∈ lw_all := lw_g (lw_at lw_m5 24 rfl) rfl
theorem q1087 : (Jvm.Cond.constantLong "KeptLeaves" (485 : Nat) (-1000000001 : Int64)) ∈ lw_all := lw_g (lw_at lw_m5 25 rfl) rfl
theorem q1088 : (Jvm.Cond.methodLink "KeptLeaves" (481 : Nat) ({ cls := "KeptLeaves", name := "meansFrom", desc := "(IIJ)J" } : Jvm.MethodName)) ∈ lw_all := lw_g (lw_at lw_m5 26 rfl) rfl
theorem q1089 : (Jvm.Cond.privateMethod ({ cls := "KeptLeaves", name := "meansFrom", desc := "(IIJ)J" } : Jvm.MethodName)) ∈ lw_tbl := lw_at lw_m5 27 rfl
theorem q1090 : (Jvm.Cond.instanceMethod ({ cls := "KeptLeaves", name := "meansFrom", desc := "(IIJ)J" } : Jvm.MethodName)) ∈ lw_all := lw_g (lw_at lw_m5 28 rfl) rfl
theorem q1091 : (Jvm.Cond.code ({ cls := "KeptLeaves", name := "meansFrom", desc := "(IIJ)J" } : Jvm.MethodName) prog_1_method_85_code (8 : Nat) (Option.some Jvm.ClassFile.FieldType.long)) ∈ lw_all := lw_g (lw_at lw_m5 29 rfl) rfl
theorem q1093 : (Jvm.Cond.instanceMethod ({ cls := "KeptLeaves", name := "gap", desc := "(II)I" } : Jvm.MethodName)) ∈ lw_all := lw_g (lw_at lw_m5 31 rfl) rfl
theorem q1094 : (Jvm.Cond.selects "KeptLeaves" ({ cls := "KeptLeaves", name := "gap", desc := "(II)I" } : Jvm.MethodName) ({ cls := "KeptLeaves", name := "gap", desc := "(II)I" } : Jvm.MethodName)) ∈ lw_all := lw_g (lw_at lw_m5 32 rfl) rfl
theorem q1095 : (Jvm.Cond.code ({ cls := "KeptLeaves", name := "gap", desc := "(II)I" } : Jvm.MethodName) prog_1_method_87_code (8 : Nat) (Option.some Jvm.ClassFile.FieldType.int)) ∈ lw_all := lw_g (lw_at lw_m5 33 rfl) rfl
theorem q1097 : (Jvm.Cond.instanceMethod ({ cls := "KeptLeaves", name := "sheet", desc := "(III)I" } : Jvm.MethodName)) ∈ lw_all := lw_g (lw_at lw_m5 35 rfl) rfl
theorem q1098 : (Jvm.Cond.selects "KeptLeaves" ({ cls := "KeptLeaves", name := "sheet", desc := "(III)I" } : Jvm.MethodName) ({ cls := "KeptLeaves", name := "sheet", desc := "(III)I" } : Jvm.MethodName)) ∈ lw_all := lw_g (lw_at lw_m5 36 rfl) rfl
theorem q1099 : (Jvm.Cond.codeWith ({ cls := "KeptLeaves", name := "sheet", desc := "(III)I" } : Jvm.MethodName) prog_1_method_91_code (5 : Nat) (Option.some Jvm.ClassFile.FieldType.int) [((45 : Nat), (69 : Nat), (70 : Nat), (498 : Nat))]) ∈ lw_all := lw_g (lw_at lw_m5 37 rfl) rfl
theorem q1100 : (Jvm.Cond.classLink "KeptLeaves" (498 : Nat) "java/lang/NegativeArraySizeException") ∈ lw_all := lw_g (lw_at lw_m5 38 rfl) rfl
theorem q1114 : (Jvm.Cond.methodLink "KeptLeaves" (487 : Nat) ({ cls := "KeptLeaves", name := "isSheet", desc := "(I)Z" } : Jvm.MethodName)) ∈ lw_all := lw_g (lw_at lw_m5 52 rfl) rfl
theorem q1115 : (Jvm.Cond.static ({ cls := "KeptLeaves", name := "isSheet", desc := "(I)Z" } : Jvm.MethodName)) ∈ lw_all := lw_g (lw_at lw_m5 53 rfl) rfl
theorem q1116 : (Jvm.Cond.code ({ cls := "KeptLeaves", name := "isSheet", desc := "(I)Z" } : Jvm.MethodName) prog_1_method_88_code (1 : Nat) (Option.some Jvm.ClassFile.FieldType.boolean)) ∈ lw_all := lw_g (lw_at lw_m5 54 rfl) rfl
theorem q1117 : (Jvm.Cond.methodLink "KeptLeaves" (494 : Nat) ({ cls := "KeptLeaves", name := "rowOf", desc := "(ZI)Ljava/lang/Object;" } : Jvm.MethodName)) ∈ lw_all := lw_g (lw_at lw_m5 55 rfl) rfl
theorem q1118 : (Jvm.Cond.static ({ cls := "KeptLeaves", name := "rowOf", desc := "(ZI)Ljava/lang/Object;" } : Jvm.MethodName)) ∈ lw_all := lw_g (lw_at lw_m5 56 rfl) rfl
theorem q1119 : (Jvm.Cond.code ({ cls := "KeptLeaves", name := "rowOf", desc := "(ZI)Ljava/lang/Object;" } : Jvm.MethodName) prog_1_method_90_code (2 : Nat) (Option.some (Jvm.ClassFile.FieldType.object "java/lang/Object"))) ∈ lw_all := lw_g (lw_at lw_m5 57 rfl) rfl
theorem q1120 : (Jvm.Cond.constant "KeptLeaves" (500 : Nat) (-1000000014 : Int32)) ∈ lw_all := lw_g (lw_at lw_m5 58 rfl) rfl
theorem q1123 : (Jvm.Cond.instanceMethod ({ cls := "KeptLeaves", name := "mark", desc := "(III)I" } : Jvm.MethodName)) ∈ lw_all := lw_g (lw_at lw_m5 61 rfl) rfl
theorem q1124 : (Jvm.Cond.selects "KeptLeaves" ({ cls := "KeptLeaves", name := "mark", desc := "(III)I" } : Jvm.MethodName) ({ cls := "KeptLeaves", name := "mark", desc := "(III)I" } : Jvm.MethodName)) ∈ lw_all := lw_g (lw_at lw_m5 62 rfl) rfl
theorem q1125 : (Jvm.Cond.code ({ cls := "KeptLeaves", name := "mark", desc := "(III)I" } : Jvm.MethodName) prog_1_method_93_code (5 : Nat) (Option.some Jvm.ClassFile.FieldType.int)) ∈ lw_all := lw_g (lw_at lw_m5 63 rfl) rfl
theorem q1126 : (Jvm.Cond.methodLink "KeptLeaves" (514 : Nat) ({ cls := "KeptLeaves$Sheet", name := "isThere", desc := "()Z" } : Jvm.MethodName)) ∈ lw_all := lw_g (lw_at lw_m5 64 rfl) rfl
theorem q1130 : (Jvm.Cond.constant "KeptLeaves" (517 : Nat) (-1000000011 : Int32)) ∈ lw_all := lw_g (lw_at lw_m5 68 rfl) rfl
theorem q1131 : (Jvm.Cond.methodLink "KeptLeaves" (518 : Nat) ({ cls := "KeptLeaves$Sheet", name := "size", desc := "()I" } : Jvm.MethodName)) ∈ lw_all := lw_g (lw_at lw_m5 69 rfl) rfl
theorem q1141 : (Jvm.Cond.methodLink "KeptLeaves" (520 : Nat) ({ cls := "KeptLeaves", name := "markIn", desc := "(LKeptLeaves$Sheet;II)I" } : Jvm.MethodName)) ∈ lw_all := lw_g (lw_at lw_m5 79 rfl) rfl
theorem q1142 : (Jvm.Cond.static ({ cls := "KeptLeaves", name := "markIn", desc := "(LKeptLeaves$Sheet;II)I" } : Jvm.MethodName)) ∈ lw_all := lw_g (lw_at lw_m5 80 rfl) rfl
theorem q1143 : (Jvm.Cond.code ({ cls := "KeptLeaves", name := "markIn", desc := "(LKeptLeaves$Sheet;II)I" } : Jvm.MethodName) prog_1_method_92_code (3 : Nat) (Option.some Jvm.ClassFile.FieldType.int)) ∈ lw_all := lw_g (lw_at lw_m5 81 rfl) rfl
theorem q1144 : (Jvm.Cond.methodLink "KeptLeaves" (501 : Nat) ({ cls := "KeptLeaves$Sheet", name := "isFloats", desc := "()Z" } : Jvm.MethodName)) ∈ lw_all := lw_g (lw_at lw_m5 82 rfl) rfl
theorem q1145 : (Jvm.Cond.classLink "KeptLeaves" (505 : Nat) "[F") ∈ lw_all := lw_g (lw_at lw_m5 83 rfl) rfl
theorem q1146 : (Jvm.Cond.constantFloat "KeptLeaves" (508 : Nat) (2143289344 : UInt32)) ∈ lw_all := lw_g (lw_at lw_m5 84 rfl) rfl
theorem q1147 : (Jvm.Cond.constant "KeptLeaves" (509 : Nat) (-99999 : Int32)) ∈ lw_all := lw_g (lw_at lw_m5 85 rfl) rfl
theorem q1148 : (Jvm.Cond.constant "KeptLeaves" (510 : Nat) (99999 : Int32)) ∈ lw_all := lw_g (lw_at lw_m5 86 rfl) rfl
theorem q1149 : (Jvm.Cond.methodLink "KeptLeaves" (511 : Nat) ({ cls := "KeptLeaves$Sheet", name := "put", desc := "(II)V" } : Jvm.MethodName)) ∈ lw_all := lw_g (lw_at lw_m5 87 rfl) rfl
theorem q1153 : (Jvm.Cond.constant "KeptLeaves" (524 : Nat) (-1000000013 : Int32)) ∈ lw_all := lw_g (lw_at lw_m5 91 rfl) rfl
theorem q1155 : (Jvm.Cond.instanceMethod ({ cls := "KeptLeaves", name := "pour", desc := "(I)I" } : Jvm.MethodName)) ∈ lw_all := lw_g (lw_at lw_m5 93 rfl) rfl
theorem q1156 : (Jvm.Cond.selects "KeptLeaves" ({ cls := "KeptLeaves", name := "pour", desc := "(I)I" } : Jvm.MethodName) ({ cls := "KeptLeaves", name := "pour", desc := "(I)I" } : Jvm.MethodName)) ∈ lw_all := lw_g (lw_at lw_m5 94 rfl) rfl
theorem q1157 : (Jvm.Cond.code ({ cls := "KeptLeaves", name := "pour", desc := "(I)I" } : Jvm.MethodName) prog_1_method_94_code (4 : Nat) (Option.some Jvm.ClassFile.FieldType.int)) ∈ lw_all := lw_g (lw_at lw_m5 95 rfl) rfl
theorem q1158 : (Jvm.Cond.methodLink "KeptLeaves" (525 : Nat) ({ cls := "KeptLeaves$Sheet", name := "isNumber", desc := "(I)Z" } : Jvm.MethodName)) ∈ lw_all := lw_g (lw_at lw_m5 96 rfl) rfl
theorem q1162 : (Jvm.Cond.methodLink "KeptLeaves" (528 : Nat) ({ cls := "KeptLeaves$Sheet", name := "at", desc := "(I)I" } : Jvm.MethodName)) ∈ lw_all := lw_g (lw_at lw_m5 100 rfl) rfl
theorem q1167 : (Jvm.Cond.instanceMethod ({ cls := "KeptLeaves", name := "reads", desc := "(I)I" } : Jvm.MethodName)) ∈ lw_all := lw_g (lw_at lw_m5 105 rfl) rfl
theorem q1168 : (Jvm.Cond.selects "KeptLeaves" ({ cls := "KeptLeaves", name := "reads", desc := "(I)I" } : Jvm.MethodName) ({ cls := "KeptLeaves", name := "reads", desc := "(I)I" } : Jvm.MethodName)) ∈ lw_all := lw_g (lw_at lw_m5 106 rfl) rfl
theorem q1169 : (Jvm.Cond.code ({ cls := "KeptLeaves", name := "reads", desc := "(I)I" } : Jvm.MethodName) prog_1_method_95_code (4 : Nat) (Option.some Jvm.ClassFile.FieldType.int)) ∈ lw_all := lw_g (lw_at lw_m5 107 rfl) rfl
theorem q1171 : (Jvm.Cond.instanceMethod ({ cls := "KeptLeaves", name := "copy", desc := "(IIIII)I" } : Jvm.MethodName)) ∈ lw_all := lw_g (lw_at lw_m5 109 rfl) rfl
theorem q1172 : (Jvm.Cond.selects "KeptLeaves" ({ cls := "KeptLeaves", name := "copy", desc := "(IIIII)I" } : Jvm.MethodName) ({ cls := "KeptLeaves", name := "copy", desc := "(IIIII)I" } : Jvm.MethodName)) ∈ lw_all := lw_g (lw_at lw_m5 110 rfl) rfl
theorem q1173 : (Jvm.Cond.code ({ cls := "KeptLeaves", name := "copy", desc := "(IIIII)I" } : Jvm.MethodName) prog_1_method_97_code (8 : Nat) (Option.some Jvm.ClassFile.FieldType.int)) ∈ lw_all := lw_g (lw_at lw_m5 111 rfl) rfl
theorem q1174 : (Jvm.Cond.methodLink "KeptLeaves" (533 : Nat) ({ cls := "KeptLeaves", name := "carries", desc := "(LKeptLeaves$Sheet;ILKeptLeaves$Sheet;II)V" } : Jvm.MethodName)) ∈ lw_all := lw_g (lw_at lw_m5 112 rfl) rfl
theorem q1175 : (Jvm.Cond.privateMethod ({ cls := "KeptLeaves", name := "carries", desc := "(LKeptLeaves$Sheet;ILKeptLeaves$Sheet;II)V" } : Jvm.MethodName)) ∈ lw_tbl := lw_at lw_m5 113 rfl
theorem q1176 : (Jvm.Cond.instanceMethod ({ cls := "KeptLeaves", name := "carries", desc := "(LKeptLeaves$Sheet;ILKeptLeaves$Sheet;II)V" } : Jvm.MethodName)) ∈ lw_all := lw_g (lw_at lw_m5 114 rfl) rfl
theorem q1177 : (Jvm.Cond.code ({ cls := "KeptLeaves", name := "carries", desc := "(LKeptLeaves$Sheet;ILKeptLeaves$Sheet;II)V" } : Jvm.MethodName) prog_1_method_96_code (9 : Nat) (Option.none : Option Jvm.ClassFile.FieldType)) ∈ lw_all := lw_g (lw_at lw_m5 115 rfl) rfl
theorem q1178 : (Jvm.Cond.classLink "KeptLeaves" (531 : Nat) "[S") ∈ lw_all := lw_g (lw_at lw_m5 116 rfl) rfl
theorem q1180 : (Jvm.Cond.instanceMethod ({ cls := "KeptLeaves", name := "lay", desc := "(III)I" } : Jvm.MethodName)) ∈ lw_all := lw_g (lw_at lw_m5 118 rfl) rfl
theorem q1181 : (Jvm.Cond.selects "KeptLeaves" ({ cls := "KeptLeaves", name := "lay", desc := "(III)I" } : Jvm.MethodName) ({ cls := "KeptLeaves", name := "lay", desc := "(III)I" } : Jvm.MethodName)) ∈ lw_all := lw_g (lw_at lw_m5 119 rfl) rfl
theorem q1182 : (Jvm.Cond.code ({ cls := "KeptLeaves", name := "lay", desc := "(III)I" } : Jvm.MethodName) prog_1_method_99_code (5 : Nat) (Option.some Jvm.ClassFile.FieldType.int)) ∈ lw_all := lw_g (lw_at lw_m5 120 rfl) rfl
theorem q1183 : (Jvm.Cond.methodLink "KeptLeaves" (537 : Nat) ({ cls := "KeptLeaves", name := "isSlot", desc := "(I)Z" } : Jvm.MethodName)) ∈ lw_all := lw_g (lw_at lw_m5 121 rfl) rfl
theorem q1184 : (Jvm.Cond.static ({ cls := "KeptLeaves", name := "isSlot", desc := "(I)Z" } : Jvm.MethodName)) ∈ lw_all := lw_g (lw_at lw_m5 122 rfl) rfl
theorem q1185 : (Jvm.Cond.code ({ cls := "KeptLeaves", name := "isSlot", desc := "(I)Z" } : Jvm.MethodName) prog_1_method_89_code (1 : Nat) (Option.some Jvm.ClassFile.FieldType.boolean)) ∈ lw_all := lw_g (lw_at lw_m5 123 rfl) rfl
theorem q1186 : (Jvm.Cond.methodLink "KeptLeaves" (540 : Nat) ({ cls := "KeptLeaves$Slot", name := "thing", desc := "()I" } : Jvm.MethodName)) ∈ lw_all := lw_g (lw_at lw_m5 124 rfl) rfl
theorem q1192 : (Jvm.Cond.methodLink "KeptLeaves" (543 : Nat) ({ cls := "KeptLeaves$Leaf", name := "copy", desc := "()LKeptLeaves$Leaf;" } : Jvm.MethodName)) ∈ lw_all := lw_g (lw_at lw_m5 130 rfl) rfl
theorem q1235 : (Jvm.Cond.methodLink "KeptLeaves" (547 : Nat) ({ cls := "KeptLeaves", name := "own", desc := "(LKeptLeaves$Sheet;)LKeptLeaves$Sheet;" } : Jvm.MethodName)) ∈ lw_all := lw_g (lw_at lw_m5 173 rfl) rfl
theorem q1236 : (Jvm.Cond.privateMethod ({ cls := "KeptLeaves", name := "own", desc := "(LKeptLeaves$Sheet;)LKeptLeaves$Sheet;" } : Jvm.MethodName)) ∈ lw_tbl := lw_at lw_m5 174 rfl
theorem q1237 : (Jvm.Cond.instanceMethod ({ cls := "KeptLeaves", name := "own", desc := "(LKeptLeaves$Sheet;)LKeptLeaves$Sheet;" } : Jvm.MethodName)) ∈ lw_all := lw_g (lw_at lw_m5 175 rfl) rfl
theorem q1238 : (Jvm.Cond.code ({ cls := "KeptLeaves", name := "own", desc := "(LKeptLeaves$Sheet;)LKeptLeaves$Sheet;" } : Jvm.MethodName) prog_1_method_98_code (3 : Nat) (Option.some (Jvm.ClassFile.FieldType.object "KeptLeaves$Sheet"))) ∈ lw_all := lw_g (lw_at lw_m5 176 rfl) rfl
theorem q1239 : (Jvm.Cond.classLink "KeptLeaves" (551 : Nat) "KeptLeaves$Figure") ∈ lw_all := lw_g (lw_at lw_m5 177 rfl) rfl
theorem q1241 : (Jvm.Cond.methodLink "KeptLeaves" (553 : Nat) ({ cls := "KeptLeaves$Figure", name := "<init>", desc := "(I)V" } : Jvm.MethodName)) ∈ lw_all := lw_g (lw_at lw_m5 179 rfl) rfl
theorem q1246 : (Jvm.Cond.fieldLinkNest "KeptLeaves" (561 : Nat) "KeptLeaves$Figure" "v" "I" "KeptLeaves") ∈ lw_tbl := lw_at lw_m5 184 rfl
theorem q1251 : (Jvm.Cond.instanceMethod ({ cls := "KeptLeaves", name := "ask", desc := "(II)I" } : Jvm.MethodName)) ∈ lw_all := lw_g (lw_at lw_m5 189 rfl) rfl
theorem q1252 : (Jvm.Cond.selects "KeptLeaves" ({ cls := "KeptLeaves", name := "ask", desc := "(II)I" } : Jvm.MethodName) ({ cls := "KeptLeaves", name := "ask", desc := "(II)I" } : Jvm.MethodName)) ∈ lw_all := lw_g (lw_at lw_m5 190 rfl) rfl
theorem q1253 : (Jvm.Cond.codeWith ({ cls := "KeptLeaves", name := "ask", desc := "(II)I" } : Jvm.MethodName) prog_1_method_100_code (5 : Nat) (Option.some Jvm.ClassFile.FieldType.int) [((37 : Nat), (51 : Nat), (52 : Nat), (371 : Nat))]) ∈ lw_all := lw_g (lw_at lw_m5 191 rfl) rfl
theorem q1254 : (Jvm.Cond.interfaceEntry "KeptLeaves" (558 : Nat)) ∈ lw_tbl := lw_at lw_m5 192 rfl
theorem q1255 : (Jvm.Cond.methodLink "KeptLeaves" (558 : Nat) ({ cls := "KeptLeaves$Missed", name := "worth", desc := "()I" } : Jvm.MethodName)) ∈ lw_all := lw_g (lw_at lw_m5 193 rfl) rfl
theorem q1283 : (Jvm.Cond.instanceMethod ({ cls := "KeptLeaves", name := "item", desc := "(II)I" } : Jvm.MethodName)) ∈ lw_all := lw_g (lw_at lw_m5 221 rfl) rfl
theorem q1284 : (Jvm.Cond.selects "KeptLeaves" ({ cls := "KeptLeaves", name := "item", desc := "(II)I" } : Jvm.MethodName) ({ cls := "KeptLeaves", name := "item", desc := "(II)I" } : Jvm.MethodName)) ∈ lw_all := lw_g (lw_at lw_m5 222 rfl) rfl
theorem q1285 : (Jvm.Cond.codeWith ({ cls := "KeptLeaves", name := "item", desc := "(II)I" } : Jvm.MethodName) prog_1_method_101_code (5 : Nat) (Option.some Jvm.ClassFile.FieldType.int) [((28 : Nat), (52 : Nat), (75 : Nat), (371 : Nat)), ((53 : Nat), (74 : Nat), (75 : Nat), (371 : Nat))]) ∈ lw_all := lw_g (lw_at lw_m5 223 rfl) rfl
theorem q1287 : (Jvm.Cond.instanceMethod ({ cls := "KeptLeaves", name := "rest", desc := "(II)I" } : Jvm.MethodName)) ∈ lw_all := lw_g (lw_at lw_m5 225 rfl) rfl
theorem q1288 : (Jvm.Cond.selects "KeptLeaves" ({ cls := "KeptLeaves", name := "rest", desc := "(II)I" } : Jvm.MethodName) ({ cls := "KeptLeaves", name := "rest", desc := "(II)I" } : Jvm.MethodName)) ∈ lw_all := lw_g (lw_at lw_m5 226 rfl) rfl
theorem q1289 : (Jvm.Cond.code ({ cls := "KeptLeaves", name := "rest", desc := "(II)I" } : Jvm.MethodName) prog_1_method_102_code (5 : Nat) (Option.some Jvm.ClassFile.FieldType.int)) ∈ lw_all := lw_g (lw_at lw_m5 227 rfl) rfl
theorem q1291 : (Jvm.Cond.instanceMethod ({ cls := "KeptLeaves", name := "tell", desc := "(I)I" } : Jvm.MethodName)) ∈ lw_all := lw_g (lw_at lw_m5 229 rfl) rfl
theorem q1292 : (Jvm.Cond.selects "KeptLeaves" ({ cls := "KeptLeaves", name := "tell", desc := "(I)I" } : Jvm.MethodName) ({ cls := "KeptLeaves", name := "tell", desc := "(I)I" } : Jvm.MethodName)) ∈ lw_all := lw_g (lw_at lw_m5 230 rfl) rfl
theorem q1293 : (Jvm.Cond.code ({ cls := "KeptLeaves", name := "tell", desc := "(I)I" } : Jvm.MethodName) prog_1_method_103_code (2 : Nat) (Option.some Jvm.ClassFile.FieldType.int)) ∈ lw_all := lw_g (lw_at lw_m5 231 rfl) rfl
theorem q1295 : (Jvm.Cond.instanceMethod ({ cls := "KeptLeaves", name := "check", desc := "(I)I" } : Jvm.MethodName)) ∈ lw_all := lw_g (lw_at lw_m5 233 rfl) rfl
theorem q1296 : (Jvm.Cond.selects "KeptLeaves" ({ cls := "KeptLeaves", name := "check", desc := "(I)I" } : Jvm.MethodName) ({ cls := "KeptLeaves", name := "check", desc := "(I)I" } : Jvm.MethodName)) ∈ lw_all := lw_g (lw_at lw_m5 234 rfl) rfl
theorem q1297 : (Jvm.Cond.code ({ cls := "KeptLeaves", name := "check", desc := "(I)I" } : Jvm.MethodName) prog_1_method_105_code (5 : Nat) (Option.some Jvm.ClassFile.FieldType.int)) ∈ lw_all := lw_g (lw_at lw_m5 235 rfl) rfl
theorem q1298 : (Jvm.Cond.methodLink "KeptLeaves" (574 : Nat) ({ cls := "KeptLeaves", name := "rowsOfTurns", desc := "(I)I" } : Jvm.MethodName)) ∈ lw_all := lw_g (lw_at lw_m5 236 rfl) rfl
theorem q1299 : (Jvm.Cond.privateMethod ({ cls := "KeptLeaves", name := "rowsOfTurns", desc := "(I)I" } : Jvm.MethodName)) ∈ lw_tbl := lw_at lw_m5 237 rfl
theorem q1300 : (Jvm.Cond.instanceMethod ({ cls := "KeptLeaves", name := "rowsOfTurns", desc := "(I)I" } : Jvm.MethodName)) ∈ lw_all := lw_g (lw_at lw_m5 238 rfl) rfl
theorem q1301 : (Jvm.Cond.code ({ cls := "KeptLeaves", name := "rowsOfTurns", desc := "(I)I" } : Jvm.MethodName) prog_1_method_104_code (4 : Nat) (Option.some Jvm.ClassFile.FieldType.int)) ∈ lw_all := lw_g (lw_at lw_m5 239 rfl) rfl
theorem q1302 : (Jvm.Cond.methodLink "KeptLeaves" (567 : Nat) ({ cls := "KeptLeaves$State", name := "copyOf", desc := "(LKeptLeaves$State;)V" } : Jvm.MethodName)) ∈ lw_all := lw_g (lw_at lw_m6 0 rfl) rfl
theorem q1317 : (Jvm.Cond.instanceMethod ({ cls := "KeptLeaves", name := "keep", desc := "()I" } : Jvm.MethodName)) ∈ lw_all := lw_g (lw_at lw_m6 15 rfl) rfl
theorem q1318 : (Jvm.Cond.selects "KeptLeaves" ({ cls := "KeptLeaves", name := "keep", desc := "()I" } : Jvm.MethodName) ({ cls := "KeptLeaves", name := "keep", desc := "()I" } : Jvm.MethodName)) ∈ lw_all := lw_g (lw_at lw_m6 16 rfl) rfl
theorem q1319 : (Jvm.Cond.code ({ cls := "KeptLeaves", name := "keep", desc := "()I" } : Jvm.MethodName) prog_1_method_106_code (1 : Nat) (Option.some Jvm.ClassFile.FieldType.int)) ∈ lw_all := lw_g (lw_at lw_m6 17 rfl) rfl
theorem q1321 : (Jvm.Cond.instanceMethod ({ cls := "KeptLeaves", name := "back", desc := "()I" } : Jvm.MethodName)) ∈ lw_all := lw_g (lw_at lw_m6 19 rfl) rfl
theorem q1322 : (Jvm.Cond.selects "KeptLeaves" ({ cls := "KeptLeaves", name := "back", desc := "()I" } : Jvm.MethodName) ({ cls := "KeptLeaves", name := "back", desc := "()I" } : Jvm.MethodName)) ∈ lw_all := lw_g (lw_at lw_m6 20 rfl) rfl
theorem q1323 : (Jvm.Cond.code ({ cls := "KeptLeaves", name := "back", desc := "()I" } : Jvm.MethodName) prog_1_method_107_code (1 : Nat) (Option.some Jvm.ClassFile.FieldType.int)) ∈ lw_all := lw_g (lw_at lw_m6 21 rfl) rfl
theorem q1325 : (Jvm.Cond.instanceMethod ({ cls := "KeptLeaves", name := "count", desc := "(I)I" } : Jvm.MethodName)) ∈ lw_all := lw_g (lw_at lw_m6 23 rfl) rfl
theorem q1326 : (Jvm.Cond.selects "KeptLeaves" ({ cls := "KeptLeaves", name := "count", desc := "(I)I" } : Jvm.MethodName) ({ cls := "KeptLeaves", name := "count", desc := "(I)I" } : Jvm.MethodName)) ∈ lw_all := lw_g (lw_at lw_m6 24 rfl) rfl
theorem q1327 : (Jvm.Cond.code ({ cls := "KeptLeaves", name := "count", desc := "(I)I" } : Jvm.MethodName) prog_1_method_109_code (2 : Nat) (Option.some Jvm.ClassFile.FieldType.int)) ∈ lw_all := lw_g (lw_at lw_m6 25 rfl) rfl
theorem q1328 : (Jvm.Cond.methodLink "KeptLeaves" (577 : Nat) ({ cls := "KeptLeaves", name := "fullnessNow", desc := "()I" } : Jvm.MethodName)) ∈ lw_all := lw_g (lw_at lw_m6 26 rfl) rfl
theorem q1329 : (Jvm.Cond.privateMethod ({ cls := "KeptLeaves", name := "fullnessNow", desc := "()I" } : Jvm.MethodName)) ∈ lw_tbl := lw_at lw_m6 27 rfl
theorem q1330 : (Jvm.Cond.instanceMethod ({ cls := "KeptLeaves", name := "fullnessNow", desc := "()I" } : Jvm.MethodName)) ∈ lw_all := lw_g (lw_at lw_m6 28 rfl) rfl
theorem q1331 : (Jvm.Cond.code ({ cls := "KeptLeaves", name := "fullnessNow", desc := "()I" } : Jvm.MethodName) prog_1_method_108_code (1 : Nat) (Option.some Jvm.ClassFile.FieldType.int)) ∈ lw_all := lw_g (lw_at lw_m6 29 rfl) rfl
theorem in_X0 : ∀ w ∈ wsX00, w ∈ lw_all := lw_in wsX00 [355, 357, 359, 361, 363, 365, 367, 369, 371, 373, 375, 377, 379, 381, 383, 385, 387, 389, 391, 393, 395, 397, 399, 401, 403, 405, 407, 409, 411, 413, 415] (by decide +kernel) (by decide +kernel)

