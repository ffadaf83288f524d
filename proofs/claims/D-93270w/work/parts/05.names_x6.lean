/-! KeptLeavesModel -/
set_option maxRecDepth 100000
def RX6 : String := "KeptLeavesModel"
def TX6 : u_T := fun k => match k with
  | 0 => ("KeptLeavesModel", "s", "[I", true)
  | 1 => ("KeptLeavesModel", "image", "[I", true)
  | 2 => ("KeptLeavesModel", "aside", "[I", true)
  | 3 => ("KeptLeavesModel", "hasImage", "Z", false)
  | 4 => ("KeptLeavesModel", "tSort", "[I", true)
  | 5 => ("KeptLeavesModel", "tSize", "[I", true)
  | 6 => ("KeptLeavesModel", "tNumber", "[I", true)
  | 7 => ("KeptLeavesModel", "held", "[I", true)
  | 8 => ("KeptLeavesModel", "heldNumber", "[I", true)
  | 9 => ("KeptLeavesModel", "heldWorth", "[I", true)
  | 10 => ("KeptLeavesModel", "heldSize", "[I", true)
  | 11 => ("KeptLeavesModel", "heldRow", "[I", true)
  | 12 => ("KeptLeavesModel", "roomOf", "[I", true)
  | 13 => ("KeptLeavesModel", "missOf", "[I", true)
  | 14 => ("KeptLeavesModel", "roomsOf", "[I", true)
  | 15 => ("KeptLeavesModel", "near", "[I", true)
  | 16 => ("KeptLeavesModel", "tries", "[I", true)
  | 17 => ("KeptLeavesModel", "behindOf", "[I", true)
  | 18 => ("KeptLeavesModel", "withinOf", "[I", true)
  | 19 => ("KeptLeavesModel", "keptBest", "I", false)
  | 20 => ("KeptLeavesModel", "tape", "[I", true)
  | 21 => ("KeptLeavesModel", "taped", "I", false)
  | 22 => ("KeptLeavesModel", "begin", "I", false)
  | 23 => ("KeptLeavesModel", "behind", "I", false)
  | 24 => ("KeptLeavesModel", "token", "I", false)
  | 25 => ("KeptLeavesModel", "number", "I", false)
  | 26 => ("KeptLeavesModel", "letter", "I", false)
  | 27 => ("KeptLeavesModel", "deep", "I", false)
  | 28 => ("KeptLeavesModel", "turned", "I", false)
  | 29 => ("KeptLeavesModel", "laid", "I", false)
  | 30 => ("KeptLeavesModel", "laidAt", "I", false)
  | 31 => ("KeptLeavesModel", "said", "I", false)
  | 32 => ("KeptLeavesModel", "named", "[I", true)
  | 33 => ("KeptLeavesModel", "pile", "[I", true)
  | 34 => ("KeptLeavesModel", "carried", "[I", true)
  | 35 => ("KeptLeavesModel", "waits", "[I", true)
  | 36 => ("KeptLeavesModel", "waiting", "I", false)
  | _ => ("KeptLeavesModel", "row", "[I", true)
def tyX6 : Nat → FieldType := fun k => match k with
  | 0 => .array .int
  | 1 => .array .int
  | 2 => .array .int
  | 3 => .boolean
  | 4 => .array .int
  | 5 => .array .int
  | 6 => .array .int
  | 7 => .array .int
  | 8 => .array .int
  | 9 => .array .int
  | 10 => .array .int
  | 11 => .array .int
  | 12 => .array .int
  | 13 => .array .int
  | 14 => .array .int
  | 15 => .array .int
  | 16 => .array .int
  | 17 => .array .int
  | 18 => .array .int
  | 19 => .int
  | 20 => .array .int
  | 21 => .int
  | 22 => .int
  | 23 => .int
  | 24 => .int
  | 25 => .int
  | 26 => .int
  | 27 => .int
  | 28 => .int
  | 29 => .int
  | 30 => .int
  | 31 => .int
  | 32 => .array .int
  | 33 => .array .int
  | 34 => .array .int
  | 35 => .array .int
  | 36 => .int
  | _ => .array .int
abbrev wsX60 : List Cond := u_ws RX6 TX6 38
set_option maxRecDepth 100000 in
theorem nmX6 : ∀ a, a < 38 → ∀ b, b < 38 → a ≠ b → (TX6 a).2.1 ≠ (TX6 b).2.1 := by decide +kernel
set_option maxRecDepth 100000 in
theorem tyX6_ok : ∀ k, k < 38 → parseFieldDescriptor (TX6 k).2.2.1 = some (tyX6 k) := by decide +kernel
abbrev cX6_init : ByteArray := prog_19_method_1_code
def yX6_init : MethodName := ⟨RX6, "<init>", "()V"⟩
def dkwX6_init_10 : List UInt8 := [177]
abbrev dktX6_init_10 : List UInt8 := dkwX6_init_10 ++ []
def dkwX6_init_9 : List UInt8 := [16, 9, 4, 79, 3, 60, 27, 7, 162, 0, 16, 42, 180, 0, 19, 27, 2, 79, 132, 1, 1, 167, 255, 241]
abbrev dktX6_init_9 : List UInt8 := dkwX6_init_9 ++ dktX6_init_10
def dkwX6_init_8 : List UInt8 := [181, 0, 76, 42, 16, 60, 188, 10, 181, 0, 79, 42, 180, 0, 7, 6, 16, 12, 79, 42, 180, 0, 7]
abbrev dktX6_init_8 : List UInt8 := dkwX6_init_8 ++ dktX6_init_9
def dkwX6_init_7 : List UInt8 := [181, 0, 67, 42, 16, 100, 188, 10, 181, 0, 70, 42, 16, 24, 188, 10, 181, 0, 73, 42, 16, 60, 188, 10]
abbrev dktX6_init_7 : List UInt8 := dkwX6_init_7 ++ dktX6_init_8
def dkwX6_init_6 : List UInt8 := [42, 17, 1, 0, 188, 10, 181, 0, 61, 42, 16, 96, 188, 10, 181, 0, 64, 42, 17, 0, 128, 188, 10]
abbrev dktX6_init_6 : List UInt8 := dkwX6_init_6 ++ dktX6_init_7
def dkwX6_init_5 : List UInt8 := [16, 98, 188, 10, 181, 0, 52, 42, 16, 24, 188, 10, 181, 0, 55, 42, 17, 1, 0, 188, 10, 181, 0, 58]
abbrev dktX6_init_5 : List UInt8 := dkwX6_init_5 ++ dktX6_init_6
def dkwX6_init_4 : List UInt8 := [188, 10, 181, 0, 43, 42, 16, 8, 188, 10, 181, 0, 46, 42, 17, 1, 0, 188, 10, 181, 0, 49, 42]
abbrev dktX6_init_4 : List UInt8 := dkwX6_init_4 ++ dktX6_init_5
def dkwX6_init_3 : List UInt8 := [188, 10, 181, 0, 34, 42, 8, 188, 10, 181, 0, 37, 42, 16, 120, 188, 10, 181, 0, 40, 42, 16, 8]
abbrev dktX6_init_3 : List UInt8 := dkwX6_init_3 ++ dktX6_init_4
def dkwX6_init_2 : List UInt8 := [16, 96, 188, 10, 181, 0, 25, 42, 8, 188, 10, 181, 0, 28, 42, 8, 188, 10, 181, 0, 31, 42, 8]
abbrev dktX6_init_2 : List UInt8 := dkwX6_init_2 ++ dktX6_init_3
def dkwX6_init_1 : List UInt8 := [17, 12, 26, 188, 10, 181, 0, 16, 42, 7, 188, 10, 181, 0, 19, 42, 7, 188, 10, 181, 0, 22, 42]
abbrev dktX6_init_1 : List UInt8 := dkwX6_init_1 ++ dktX6_init_2
def dkwX6_init_0 : List UInt8 := [42, 183, 0, 1, 42, 17, 12, 26, 188, 10, 181, 0, 7, 42, 17, 12, 26, 188, 10, 181, 0, 13, 42]
abbrev dktX6_init_0 : List UInt8 := dkwX6_init_0 ++ dktX6_init_1
theorem dksX6_init_0 : cX6_init.data.toList.drop 0 = dktX6_init_0 := by decide +kernel
theorem dksX6_init_1 : cX6_init.data.toList.drop 23 = dktX6_init_1 := dk_seg dksX6_init_0 23 rfl rfl
theorem dksX6_init_2 : cX6_init.data.toList.drop 46 = dktX6_init_2 := dk_seg dksX6_init_1 23 rfl rfl
theorem dksX6_init_3 : cX6_init.data.toList.drop 69 = dktX6_init_3 := dk_seg dksX6_init_2 23 rfl rfl
theorem dksX6_init_4 : cX6_init.data.toList.drop 92 = dktX6_init_4 := dk_seg dksX6_init_3 23 rfl rfl
theorem dksX6_init_5 : cX6_init.data.toList.drop 115 = dktX6_init_5 := dk_seg dksX6_init_4 23 rfl rfl
theorem dksX6_init_6 : cX6_init.data.toList.drop 139 = dktX6_init_6 := dk_seg dksX6_init_5 24 rfl rfl
theorem dksX6_init_7 : cX6_init.data.toList.drop 162 = dktX6_init_7 := dk_seg dksX6_init_6 23 rfl rfl
theorem dksX6_init_8 : cX6_init.data.toList.drop 186 = dktX6_init_8 := dk_seg dksX6_init_7 24 rfl rfl
theorem dksX6_init_9 : cX6_init.data.toList.drop 209 = dktX6_init_9 := dk_seg dksX6_init_8 23 rfl rfl
theorem dksX6_init_10 : cX6_init.data.toList.drop 233 = dktX6_init_10 := dk_seg dksX6_init_9 24 rfl rfl
theorem dX6_init_0 : decode cX6_init 0 = .ok (.aload_n 0, 1) := dk_42 (dk_at dksX6_init_0 0 rfl rfl)
theorem dX6_init_1 : decode cX6_init 1 = .ok (.invokespecial 1, 3) := dk_183 0 1 (dk_at dksX6_init_0 1 rfl rfl)
theorem dX6_init_4 : decode cX6_init 4 = .ok (.aload_n 0, 1) := dk_42 (dk_at dksX6_init_0 4 rfl rfl)
theorem dX6_init_5 : decode cX6_init 5 = .ok (.sipush 3098, 3) := dk_17 12 26 (dk_at dksX6_init_0 5 rfl rfl)
theorem dX6_init_8 : decode cX6_init 8 = .ok (.newarray .int, 2) := dk_188_10 (dk_at dksX6_init_0 8 rfl rfl)
theorem dX6_init_10 : decode cX6_init 10 = .ok (.putfield 7, 3) := dk_181 0 7 (dk_at dksX6_init_0 10 rfl rfl)
theorem dX6_init_13 : decode cX6_init 13 = .ok (.aload_n 0, 1) := dk_42 (dk_at dksX6_init_0 13 rfl rfl)
theorem dX6_init_14 : decode cX6_init 14 = .ok (.sipush 3098, 3) := dk_17 12 26 (dk_at dksX6_init_0 14 rfl rfl)
theorem dX6_init_17 : decode cX6_init 17 = .ok (.newarray .int, 2) := dk_188_10 (dk_at dksX6_init_0 17 rfl rfl)
theorem dX6_init_19 : decode cX6_init 19 = .ok (.putfield 13, 3) := dk_181 0 13 (dk_at dksX6_init_0 19 rfl rfl)
theorem dX6_init_22 : decode cX6_init 22 = .ok (.aload_n 0, 1) := dk_42 (dk_at dksX6_init_0 22 rfl rfl)
theorem dX6_init_23 : decode cX6_init 23 = .ok (.sipush 3098, 3) := dk_17 12 26 (dk_at dksX6_init_1 0 rfl rfl)
theorem dX6_init_26 : decode cX6_init 26 = .ok (.newarray .int, 2) := dk_188_10 (dk_at dksX6_init_1 3 rfl rfl)
theorem dX6_init_28 : decode cX6_init 28 = .ok (.putfield 16, 3) := dk_181 0 16 (dk_at dksX6_init_1 5 rfl rfl)
theorem dX6_init_31 : decode cX6_init 31 = .ok (.aload_n 0, 1) := dk_42 (dk_at dksX6_init_1 8 rfl rfl)
theorem dX6_init_32 : decode cX6_init 32 = .ok (.iconst 4, 1) := dk_7 (dk_at dksX6_init_1 9 rfl rfl)
theorem dX6_init_33 : decode cX6_init 33 = .ok (.newarray .int, 2) := dk_188_10 (dk_at dksX6_init_1 10 rfl rfl)
theorem dX6_init_35 : decode cX6_init 35 = .ok (.putfield 19, 3) := dk_181 0 19 (dk_at dksX6_init_1 12 rfl rfl)
theorem dX6_init_38 : decode cX6_init 38 = .ok (.aload_n 0, 1) := dk_42 (dk_at dksX6_init_1 15 rfl rfl)
theorem dX6_init_39 : decode cX6_init 39 = .ok (.iconst 4, 1) := dk_7 (dk_at dksX6_init_1 16 rfl rfl)
theorem dX6_init_40 : decode cX6_init 40 = .ok (.newarray .int, 2) := dk_188_10 (dk_at dksX6_init_1 17 rfl rfl)
theorem dX6_init_42 : decode cX6_init 42 = .ok (.putfield 22, 3) := dk_181 0 22 (dk_at dksX6_init_1 19 rfl rfl)
theorem dX6_init_45 : decode cX6_init 45 = .ok (.aload_n 0, 1) := dk_42 (dk_at dksX6_init_1 22 rfl rfl)
theorem dX6_init_46 : decode cX6_init 46 = .ok (.bipush 96, 2) := dk_16 96 (dk_at dksX6_init_2 0 rfl rfl)
theorem dX6_init_48 : decode cX6_init 48 = .ok (.newarray .int, 2) := dk_188_10 (dk_at dksX6_init_2 2 rfl rfl)
theorem dX6_init_50 : decode cX6_init 50 = .ok (.putfield 25, 3) := dk_181 0 25 (dk_at dksX6_init_2 4 rfl rfl)
theorem dX6_init_53 : decode cX6_init 53 = .ok (.aload_n 0, 1) := dk_42 (dk_at dksX6_init_2 7 rfl rfl)
theorem dX6_init_54 : decode cX6_init 54 = .ok (.iconst 5, 1) := dk_8 (dk_at dksX6_init_2 8 rfl rfl)
theorem dX6_init_55 : decode cX6_init 55 = .ok (.newarray .int, 2) := dk_188_10 (dk_at dksX6_init_2 9 rfl rfl)
theorem dX6_init_57 : decode cX6_init 57 = .ok (.putfield 28, 3) := dk_181 0 28 (dk_at dksX6_init_2 11 rfl rfl)
theorem dX6_init_60 : decode cX6_init 60 = .ok (.aload_n 0, 1) := dk_42 (dk_at dksX6_init_2 14 rfl rfl)
theorem dX6_init_61 : decode cX6_init 61 = .ok (.iconst 5, 1) := dk_8 (dk_at dksX6_init_2 15 rfl rfl)
theorem dX6_init_62 : decode cX6_init 62 = .ok (.newarray .int, 2) := dk_188_10 (dk_at dksX6_init_2 16 rfl rfl)
theorem dX6_init_64 : decode cX6_init 64 = .ok (.putfield 31, 3) := dk_181 0 31 (dk_at dksX6_init_2 18 rfl rfl)
theorem dX6_init_67 : decode cX6_init 67 = .ok (.aload_n 0, 1) := dk_42 (dk_at dksX6_init_2 21 rfl rfl)
theorem dX6_init_68 : decode cX6_init 68 = .ok (.iconst 5, 1) := dk_8 (dk_at dksX6_init_2 22 rfl rfl)
theorem dX6_init_69 : decode cX6_init 69 = .ok (.newarray .int, 2) := dk_188_10 (dk_at dksX6_init_3 0 rfl rfl)
theorem dX6_init_71 : decode cX6_init 71 = .ok (.putfield 34, 3) := dk_181 0 34 (dk_at dksX6_init_3 2 rfl rfl)
theorem dX6_init_74 : decode cX6_init 74 = .ok (.aload_n 0, 1) := dk_42 (dk_at dksX6_init_3 5 rfl rfl)
theorem dX6_init_75 : decode cX6_init 75 = .ok (.iconst 5, 1) := dk_8 (dk_at dksX6_init_3 6 rfl rfl)
theorem dX6_init_76 : decode cX6_init 76 = .ok (.newarray .int, 2) := dk_188_10 (dk_at dksX6_init_3 7 rfl rfl)
theorem dX6_init_78 : decode cX6_init 78 = .ok (.putfield 37, 3) := dk_181 0 37 (dk_at dksX6_init_3 9 rfl rfl)
theorem dX6_init_81 : decode cX6_init 81 = .ok (.aload_n 0, 1) := dk_42 (dk_at dksX6_init_3 12 rfl rfl)
theorem dX6_init_82 : decode cX6_init 82 = .ok (.bipush 120, 2) := dk_16 120 (dk_at dksX6_init_3 13 rfl rfl)
theorem dX6_init_84 : decode cX6_init 84 = .ok (.newarray .int, 2) := dk_188_10 (dk_at dksX6_init_3 15 rfl rfl)
theorem dX6_init_86 : decode cX6_init 86 = .ok (.putfield 40, 3) := dk_181 0 40 (dk_at dksX6_init_3 17 rfl rfl)
theorem dX6_init_89 : decode cX6_init 89 = .ok (.aload_n 0, 1) := dk_42 (dk_at dksX6_init_3 20 rfl rfl)
theorem dX6_init_90 : decode cX6_init 90 = .ok (.bipush 8, 2) := dk_16 8 (dk_at dksX6_init_3 21 rfl rfl)
theorem dX6_init_92 : decode cX6_init 92 = .ok (.newarray .int, 2) := dk_188_10 (dk_at dksX6_init_4 0 rfl rfl)
theorem dX6_init_94 : decode cX6_init 94 = .ok (.putfield 43, 3) := dk_181 0 43 (dk_at dksX6_init_4 2 rfl rfl)
theorem dX6_init_97 : decode cX6_init 97 = .ok (.aload_n 0, 1) := dk_42 (dk_at dksX6_init_4 5 rfl rfl)
theorem dX6_init_98 : decode cX6_init 98 = .ok (.bipush 8, 2) := dk_16 8 (dk_at dksX6_init_4 6 rfl rfl)
theorem dX6_init_100 : decode cX6_init 100 = .ok (.newarray .int, 2) := dk_188_10 (dk_at dksX6_init_4 8 rfl rfl)
theorem dX6_init_102 : decode cX6_init 102 = .ok (.putfield 46, 3) := dk_181 0 46 (dk_at dksX6_init_4 10 rfl rfl)
theorem dX6_init_105 : decode cX6_init 105 = .ok (.aload_n 0, 1) := dk_42 (dk_at dksX6_init_4 13 rfl rfl)
theorem dX6_init_106 : decode cX6_init 106 = .ok (.sipush 256, 3) := dk_17 1 0 (dk_at dksX6_init_4 14 rfl rfl)
theorem dX6_init_109 : decode cX6_init 109 = .ok (.newarray .int, 2) := dk_188_10 (dk_at dksX6_init_4 17 rfl rfl)
theorem dX6_init_111 : decode cX6_init 111 = .ok (.putfield 49, 3) := dk_181 0 49 (dk_at dksX6_init_4 19 rfl rfl)
theorem dX6_init_114 : decode cX6_init 114 = .ok (.aload_n 0, 1) := dk_42 (dk_at dksX6_init_4 22 rfl rfl)
theorem dX6_init_115 : decode cX6_init 115 = .ok (.bipush 98, 2) := dk_16 98 (dk_at dksX6_init_5 0 rfl rfl)
theorem dX6_init_117 : decode cX6_init 117 = .ok (.newarray .int, 2) := dk_188_10 (dk_at dksX6_init_5 2 rfl rfl)
theorem dX6_init_119 : decode cX6_init 119 = .ok (.putfield 52, 3) := dk_181 0 52 (dk_at dksX6_init_5 4 rfl rfl)
theorem dX6_init_122 : decode cX6_init 122 = .ok (.aload_n 0, 1) := dk_42 (dk_at dksX6_init_5 7 rfl rfl)
theorem dX6_init_123 : decode cX6_init 123 = .ok (.bipush 24, 2) := dk_16 24 (dk_at dksX6_init_5 8 rfl rfl)
theorem dX6_init_125 : decode cX6_init 125 = .ok (.newarray .int, 2) := dk_188_10 (dk_at dksX6_init_5 10 rfl rfl)
theorem dX6_init_127 : decode cX6_init 127 = .ok (.putfield 55, 3) := dk_181 0 55 (dk_at dksX6_init_5 12 rfl rfl)
theorem dX6_init_130 : decode cX6_init 130 = .ok (.aload_n 0, 1) := dk_42 (dk_at dksX6_init_5 15 rfl rfl)
theorem dX6_init_131 : decode cX6_init 131 = .ok (.sipush 256, 3) := dk_17 1 0 (dk_at dksX6_init_5 16 rfl rfl)
theorem dX6_init_134 : decode cX6_init 134 = .ok (.newarray .int, 2) := dk_188_10 (dk_at dksX6_init_5 19 rfl rfl)
theorem dX6_init_136 : decode cX6_init 136 = .ok (.putfield 58, 3) := dk_181 0 58 (dk_at dksX6_init_5 21 rfl rfl)
theorem dX6_init_139 : decode cX6_init 139 = .ok (.aload_n 0, 1) := dk_42 (dk_at dksX6_init_6 0 rfl rfl)
theorem dX6_init_140 : decode cX6_init 140 = .ok (.sipush 256, 3) := dk_17 1 0 (dk_at dksX6_init_6 1 rfl rfl)
theorem dX6_init_143 : decode cX6_init 143 = .ok (.newarray .int, 2) := dk_188_10 (dk_at dksX6_init_6 4 rfl rfl)
theorem dX6_init_145 : decode cX6_init 145 = .ok (.putfield 61, 3) := dk_181 0 61 (dk_at dksX6_init_6 6 rfl rfl)
theorem dX6_init_148 : decode cX6_init 148 = .ok (.aload_n 0, 1) := dk_42 (dk_at dksX6_init_6 9 rfl rfl)
theorem dX6_init_149 : decode cX6_init 149 = .ok (.bipush 96, 2) := dk_16 96 (dk_at dksX6_init_6 10 rfl rfl)
theorem dX6_init_151 : decode cX6_init 151 = .ok (.newarray .int, 2) := dk_188_10 (dk_at dksX6_init_6 12 rfl rfl)
theorem dX6_init_153 : decode cX6_init 153 = .ok (.putfield 64, 3) := dk_181 0 64 (dk_at dksX6_init_6 14 rfl rfl)
theorem dX6_init_156 : decode cX6_init 156 = .ok (.aload_n 0, 1) := dk_42 (dk_at dksX6_init_6 17 rfl rfl)
theorem dX6_init_157 : decode cX6_init 157 = .ok (.sipush 128, 3) := dk_17 0 128 (dk_at dksX6_init_6 18 rfl rfl)
theorem dX6_init_160 : decode cX6_init 160 = .ok (.newarray .int, 2) := dk_188_10 (dk_at dksX6_init_6 21 rfl rfl)
theorem dX6_init_162 : decode cX6_init 162 = .ok (.putfield 67, 3) := dk_181 0 67 (dk_at dksX6_init_7 0 rfl rfl)
theorem dX6_init_165 : decode cX6_init 165 = .ok (.aload_n 0, 1) := dk_42 (dk_at dksX6_init_7 3 rfl rfl)
theorem dX6_init_166 : decode cX6_init 166 = .ok (.bipush 100, 2) := dk_16 100 (dk_at dksX6_init_7 4 rfl rfl)
theorem dX6_init_168 : decode cX6_init 168 = .ok (.newarray .int, 2) := dk_188_10 (dk_at dksX6_init_7 6 rfl rfl)
theorem dX6_init_170 : decode cX6_init 170 = .ok (.putfield 70, 3) := dk_181 0 70 (dk_at dksX6_init_7 8 rfl rfl)
theorem dX6_init_173 : decode cX6_init 173 = .ok (.aload_n 0, 1) := dk_42 (dk_at dksX6_init_7 11 rfl rfl)
theorem dX6_init_174 : decode cX6_init 174 = .ok (.bipush 24, 2) := dk_16 24 (dk_at dksX6_init_7 12 rfl rfl)
theorem dX6_init_176 : decode cX6_init 176 = .ok (.newarray .int, 2) := dk_188_10 (dk_at dksX6_init_7 14 rfl rfl)
theorem dX6_init_178 : decode cX6_init 178 = .ok (.putfield 73, 3) := dk_181 0 73 (dk_at dksX6_init_7 16 rfl rfl)
theorem dX6_init_181 : decode cX6_init 181 = .ok (.aload_n 0, 1) := dk_42 (dk_at dksX6_init_7 19 rfl rfl)
theorem dX6_init_182 : decode cX6_init 182 = .ok (.bipush 60, 2) := dk_16 60 (dk_at dksX6_init_7 20 rfl rfl)
theorem dX6_init_184 : decode cX6_init 184 = .ok (.newarray .int, 2) := dk_188_10 (dk_at dksX6_init_7 22 rfl rfl)
theorem dX6_init_186 : decode cX6_init 186 = .ok (.putfield 76, 3) := dk_181 0 76 (dk_at dksX6_init_8 0 rfl rfl)
theorem dX6_init_189 : decode cX6_init 189 = .ok (.aload_n 0, 1) := dk_42 (dk_at dksX6_init_8 3 rfl rfl)
theorem dX6_init_190 : decode cX6_init 190 = .ok (.bipush 60, 2) := dk_16 60 (dk_at dksX6_init_8 4 rfl rfl)
theorem dX6_init_192 : decode cX6_init 192 = .ok (.newarray .int, 2) := dk_188_10 (dk_at dksX6_init_8 6 rfl rfl)
theorem dX6_init_194 : decode cX6_init 194 = .ok (.putfield 79, 3) := dk_181 0 79 (dk_at dksX6_init_8 8 rfl rfl)
theorem dX6_init_197 : decode cX6_init 197 = .ok (.aload_n 0, 1) := dk_42 (dk_at dksX6_init_8 11 rfl rfl)
theorem dX6_init_198 : decode cX6_init 198 = .ok (.getfield 7, 3) := dk_180 0 7 (dk_at dksX6_init_8 12 rfl rfl)
theorem dX6_init_201 : decode cX6_init 201 = .ok (.iconst 3, 1) := dk_6 (dk_at dksX6_init_8 15 rfl rfl)
theorem dX6_init_202 : decode cX6_init 202 = .ok (.bipush 12, 2) := dk_16 12 (dk_at dksX6_init_8 16 rfl rfl)
theorem dX6_init_204 : decode cX6_init 204 = .ok (.iastore, 1) := dk_79 (dk_at dksX6_init_8 18 rfl rfl)
theorem dX6_init_205 : decode cX6_init 205 = .ok (.aload_n 0, 1) := dk_42 (dk_at dksX6_init_8 19 rfl rfl)
theorem dX6_init_206 : decode cX6_init 206 = .ok (.getfield 7, 3) := dk_180 0 7 (dk_at dksX6_init_8 20 rfl rfl)
theorem dX6_init_209 : decode cX6_init 209 = .ok (.bipush 9, 2) := dk_16 9 (dk_at dksX6_init_9 0 rfl rfl)
theorem dX6_init_211 : decode cX6_init 211 = .ok (.iconst 1, 1) := dk_4 (dk_at dksX6_init_9 2 rfl rfl)
theorem dX6_init_212 : decode cX6_init 212 = .ok (.iastore, 1) := dk_79 (dk_at dksX6_init_9 3 rfl rfl)
theorem dX6_init_213 : decode cX6_init 213 = .ok (.iconst 0, 1) := dk_3 (dk_at dksX6_init_9 4 rfl rfl)
theorem dX6_init_214 : decode cX6_init 214 = .ok (.istore_n 1, 1) := dk_60 (dk_at dksX6_init_9 5 rfl rfl)
theorem dX6_init_215 : decode cX6_init 215 = .ok (.iload_n 1, 1) := dk_27 (dk_at dksX6_init_9 6 rfl rfl)
theorem dX6_init_216 : decode cX6_init 216 = .ok (.iconst 4, 1) := dk_7 (dk_at dksX6_init_9 7 rfl rfl)
theorem dX6_init_217 : decode cX6_init 217 = .ok (.if_icmp .ge 16, 3) := dk_162 0 16 (dk_at dksX6_init_9 8 rfl rfl)
theorem dX6_init_220 : decode cX6_init 220 = .ok (.aload_n 0, 1) := dk_42 (dk_at dksX6_init_9 11 rfl rfl)
theorem dX6_init_221 : decode cX6_init 221 = .ok (.getfield 19, 3) := dk_180 0 19 (dk_at dksX6_init_9 12 rfl rfl)
theorem dX6_init_224 : decode cX6_init 224 = .ok (.iload_n 1, 1) := dk_27 (dk_at dksX6_init_9 15 rfl rfl)
theorem dX6_init_225 : decode cX6_init 225 = .ok (.iconst (-1), 1) := dk_2 (dk_at dksX6_init_9 16 rfl rfl)
theorem dX6_init_226 : decode cX6_init 226 = .ok (.iastore, 1) := dk_79 (dk_at dksX6_init_9 17 rfl rfl)
theorem dX6_init_227 : decode cX6_init 227 = .ok (.iinc 1 1, 3) := dk_132 1 1 (dk_at dksX6_init_9 18 rfl rfl)
theorem dX6_init_230 : decode cX6_init 230 = .ok (.goto (-15), 3) := dk_167 255 241 (dk_at dksX6_init_9 21 rfl rfl)
theorem dX6_init_233 : decode cX6_init 233 = .ok (.return_, 1) := dk_177 (dk_at dksX6_init_10 0 rfl rfl)
abbrev cX6_leaf : ByteArray := prog_19_method_17_code
def yX6_leaf : MethodName := ⟨RX6, "leaf", "(IIII)I"⟩
def dkwX6_leaf_4 : List UInt8 := [46, 4, 100, 172]
abbrev dktX6_leaf_4 : List UInt8 := dkwX6_leaf_4 ++ []
def dkwX6_leaf_3 : List UInt8 := [27, 28, 29, 21, 4, 18, 82, 160, 0, 7, 2, 167, 0, 5, 21, 4, 182, 0, 122, 42, 180, 0, 7, 3]
abbrev dktX6_leaf_3 : List UInt8 := dkwX6_leaf_3 ++ dktX6_leaf_4
def dkwX6_leaf_2 : List UInt8 := [182, 0, 116, 154, 0, 6, 18, 120, 172, 42, 180, 0, 7, 3, 46, 16, 8, 160, 0, 6, 18, 121, 172, 42]
abbrev dktX6_leaf_2 : List UInt8 := dkwX6_leaf_2 ++ dktX6_leaf_3
def dkwX6_leaf_1 : List UInt8 := [29, 133, 9, 20, 0, 114, 184, 0, 83, 153, 0, 19, 21, 4, 18, 82, 159, 0, 15, 42, 21, 4]
abbrev dktX6_leaf_1 : List UInt8 := dkwX6_leaf_1 ++ dktX6_leaf_2
def dkwX6_leaf_0 : List UInt8 := [27, 133, 9, 20, 0, 110, 184, 0, 83, 153, 0, 43, 28, 133, 10, 20, 0, 112, 184, 0, 83, 153, 0, 31]
abbrev dktX6_leaf_0 : List UInt8 := dkwX6_leaf_0 ++ dktX6_leaf_1
theorem dksX6_leaf_0 : cX6_leaf.data.toList.drop 0 = dktX6_leaf_0 := by decide +kernel
theorem dksX6_leaf_1 : cX6_leaf.data.toList.drop 24 = dktX6_leaf_1 := dk_seg dksX6_leaf_0 24 rfl rfl
theorem dksX6_leaf_2 : cX6_leaf.data.toList.drop 46 = dktX6_leaf_2 := dk_seg dksX6_leaf_1 22 rfl rfl
theorem dksX6_leaf_3 : cX6_leaf.data.toList.drop 70 = dktX6_leaf_3 := dk_seg dksX6_leaf_2 24 rfl rfl
theorem dksX6_leaf_4 : cX6_leaf.data.toList.drop 94 = dktX6_leaf_4 := dk_seg dksX6_leaf_3 24 rfl rfl
theorem dX6_leaf_0 : decode cX6_leaf 0 = .ok (.iload_n 1, 1) := dk_27 (dk_at dksX6_leaf_0 0 rfl rfl)
theorem dX6_leaf_1 : decode cX6_leaf 1 = .ok (.i2l, 1) := dk_133 (dk_at dksX6_leaf_0 1 rfl rfl)
theorem dX6_leaf_2 : decode cX6_leaf 2 = .ok (.lconst 0, 1) := dk_9 (dk_at dksX6_leaf_0 2 rfl rfl)
theorem dX6_leaf_3 : decode cX6_leaf 3 = .ok (.ldc2_w 110, 3) := dk_20 0 110 (dk_at dksX6_leaf_0 3 rfl rfl)
theorem dX6_leaf_6 : decode cX6_leaf 6 = .ok (.invokestatic 83, 3) := dk_184 0 83 (dk_at dksX6_leaf_0 6 rfl rfl)
theorem dX6_leaf_9 : decode cX6_leaf 9 = .ok (.ifCond .eq 43, 3) := dk_153 0 43 (dk_at dksX6_leaf_0 9 rfl rfl)
theorem dX6_leaf_12 : decode cX6_leaf 12 = .ok (.iload_n 2, 1) := dk_28 (dk_at dksX6_leaf_0 12 rfl rfl)
theorem dX6_leaf_13 : decode cX6_leaf 13 = .ok (.i2l, 1) := dk_133 (dk_at dksX6_leaf_0 13 rfl rfl)
theorem dX6_leaf_14 : decode cX6_leaf 14 = .ok (.lconst 1, 1) := dk_10 (dk_at dksX6_leaf_0 14 rfl rfl)
theorem dX6_leaf_15 : decode cX6_leaf 15 = .ok (.ldc2_w 112, 3) := dk_20 0 112 (dk_at dksX6_leaf_0 15 rfl rfl)
theorem dX6_leaf_18 : decode cX6_leaf 18 = .ok (.invokestatic 83, 3) := dk_184 0 83 (dk_at dksX6_leaf_0 18 rfl rfl)
theorem dX6_leaf_21 : decode cX6_leaf 21 = .ok (.ifCond .eq 31, 3) := dk_153 0 31 (dk_at dksX6_leaf_0 21 rfl rfl)
theorem dX6_leaf_24 : decode cX6_leaf 24 = .ok (.iload_n 3, 1) := dk_29 (dk_at dksX6_leaf_1 0 rfl rfl)
theorem dX6_leaf_25 : decode cX6_leaf 25 = .ok (.i2l, 1) := dk_133 (dk_at dksX6_leaf_1 1 rfl rfl)
theorem dX6_leaf_26 : decode cX6_leaf 26 = .ok (.lconst 0, 1) := dk_9 (dk_at dksX6_leaf_1 2 rfl rfl)
theorem dX6_leaf_27 : decode cX6_leaf 27 = .ok (.ldc2_w 114, 3) := dk_20 0 114 (dk_at dksX6_leaf_1 3 rfl rfl)
theorem dX6_leaf_30 : decode cX6_leaf 30 = .ok (.invokestatic 83, 3) := dk_184 0 83 (dk_at dksX6_leaf_1 6 rfl rfl)
theorem dX6_leaf_33 : decode cX6_leaf 33 = .ok (.ifCond .eq 19, 3) := dk_153 0 19 (dk_at dksX6_leaf_1 9 rfl rfl)
theorem dX6_leaf_36 : decode cX6_leaf 36 = .ok (.iload 4, 2) := dk_21 4 (dk_at dksX6_leaf_1 12 rfl rfl)
theorem dX6_leaf_38 : decode cX6_leaf 38 = .ok (.ldc 82, 2) := dk_18 82 (dk_at dksX6_leaf_1 14 rfl rfl)
theorem dX6_leaf_40 : decode cX6_leaf 40 = .ok (.if_icmp .eq 15, 3) := dk_159 0 15 (dk_at dksX6_leaf_1 16 rfl rfl)
theorem dX6_leaf_43 : decode cX6_leaf 43 = .ok (.aload_n 0, 1) := dk_42 (dk_at dksX6_leaf_1 19 rfl rfl)
theorem dX6_leaf_44 : decode cX6_leaf 44 = .ok (.iload 4, 2) := dk_21 4 (dk_at dksX6_leaf_1 20 rfl rfl)
theorem dX6_leaf_46 : decode cX6_leaf 46 = .ok (.invokevirtual 116, 3) := dk_182 0 116 (dk_at dksX6_leaf_2 0 rfl rfl)
theorem dX6_leaf_49 : decode cX6_leaf 49 = .ok (.ifCond .ne 6, 3) := dk_154 0 6 (dk_at dksX6_leaf_2 3 rfl rfl)
theorem dX6_leaf_52 : decode cX6_leaf 52 = .ok (.ldc 120, 2) := dk_18 120 (dk_at dksX6_leaf_2 6 rfl rfl)
theorem dX6_leaf_54 : decode cX6_leaf 54 = .ok (.ireturn, 1) := dk_172 (dk_at dksX6_leaf_2 8 rfl rfl)
theorem dX6_leaf_55 : decode cX6_leaf 55 = .ok (.aload_n 0, 1) := dk_42 (dk_at dksX6_leaf_2 9 rfl rfl)
theorem dX6_leaf_56 : decode cX6_leaf 56 = .ok (.getfield 7, 3) := dk_180 0 7 (dk_at dksX6_leaf_2 10 rfl rfl)
theorem dX6_leaf_59 : decode cX6_leaf 59 = .ok (.iconst 0, 1) := dk_3 (dk_at dksX6_leaf_2 13 rfl rfl)
theorem dX6_leaf_60 : decode cX6_leaf 60 = .ok (.iaload, 1) := dk_46 (dk_at dksX6_leaf_2 14 rfl rfl)
theorem dX6_leaf_61 : decode cX6_leaf 61 = .ok (.bipush 8, 2) := dk_16 8 (dk_at dksX6_leaf_2 15 rfl rfl)
theorem dX6_leaf_63 : decode cX6_leaf 63 = .ok (.if_icmp .ne 6, 3) := dk_160 0 6 (dk_at dksX6_leaf_2 17 rfl rfl)
theorem dX6_leaf_66 : decode cX6_leaf 66 = .ok (.ldc 121, 2) := dk_18 121 (dk_at dksX6_leaf_2 20 rfl rfl)
theorem dX6_leaf_68 : decode cX6_leaf 68 = .ok (.ireturn, 1) := dk_172 (dk_at dksX6_leaf_2 22 rfl rfl)
theorem dX6_leaf_69 : decode cX6_leaf 69 = .ok (.aload_n 0, 1) := dk_42 (dk_at dksX6_leaf_2 23 rfl rfl)
theorem dX6_leaf_70 : decode cX6_leaf 70 = .ok (.iload_n 1, 1) := dk_27 (dk_at dksX6_leaf_3 0 rfl rfl)
theorem dX6_leaf_71 : decode cX6_leaf 71 = .ok (.iload_n 2, 1) := dk_28 (dk_at dksX6_leaf_3 1 rfl rfl)
theorem dX6_leaf_72 : decode cX6_leaf 72 = .ok (.iload_n 3, 1) := dk_29 (dk_at dksX6_leaf_3 2 rfl rfl)
theorem dX6_leaf_73 : decode cX6_leaf 73 = .ok (.iload 4, 2) := dk_21 4 (dk_at dksX6_leaf_3 3 rfl rfl)
theorem dX6_leaf_75 : decode cX6_leaf 75 = .ok (.ldc 82, 2) := dk_18 82 (dk_at dksX6_leaf_3 5 rfl rfl)
theorem dX6_leaf_77 : decode cX6_leaf 77 = .ok (.if_icmp .ne 7, 3) := dk_160 0 7 (dk_at dksX6_leaf_3 7 rfl rfl)
theorem dX6_leaf_80 : decode cX6_leaf 80 = .ok (.iconst (-1), 1) := dk_2 (dk_at dksX6_leaf_3 10 rfl rfl)
theorem dX6_leaf_81 : decode cX6_leaf 81 = .ok (.goto 5, 3) := dk_167 0 5 (dk_at dksX6_leaf_3 11 rfl rfl)
theorem dX6_leaf_84 : decode cX6_leaf 84 = .ok (.iload 4, 2) := dk_21 4 (dk_at dksX6_leaf_3 14 rfl rfl)
theorem dX6_leaf_86 : decode cX6_leaf 86 = .ok (.invokevirtual 122, 3) := dk_182 0 122 (dk_at dksX6_leaf_3 16 rfl rfl)
theorem dX6_leaf_89 : decode cX6_leaf 89 = .ok (.aload_n 0, 1) := dk_42 (dk_at dksX6_leaf_3 19 rfl rfl)
theorem dX6_leaf_90 : decode cX6_leaf 90 = .ok (.getfield 7, 3) := dk_180 0 7 (dk_at dksX6_leaf_3 20 rfl rfl)
theorem dX6_leaf_93 : decode cX6_leaf 93 = .ok (.iconst 0, 1) := dk_3 (dk_at dksX6_leaf_3 23 rfl rfl)
theorem dX6_leaf_94 : decode cX6_leaf 94 = .ok (.iaload, 1) := dk_46 (dk_at dksX6_leaf_4 0 rfl rfl)
theorem dX6_leaf_95 : decode cX6_leaf 95 = .ok (.iconst 1, 1) := dk_4 (dk_at dksX6_leaf_4 1 rfl rfl)
theorem dX6_leaf_96 : decode cX6_leaf 96 = .ok (.isub, 1) := dk_100 (dk_at dksX6_leaf_4 2 rfl rfl)
theorem dX6_leaf_97 : decode cX6_leaf 97 = .ok (.ireturn, 1) := dk_172 (dk_at dksX6_leaf_4 3 rfl rfl)
abbrev cX6_isIn : ByteArray := prog_19_method_2_code
def yX6_isIn : MethodName := ⟨RX6, "isIn", "(JJJ)Z"⟩
def dkwX6_isIn_0 : List UInt8 := [30, 32, 148, 155, 0, 14, 30, 22, 4, 148, 157, 0, 7, 4, 167, 0, 4, 3, 172]
abbrev dktX6_isIn_0 : List UInt8 := dkwX6_isIn_0 ++ []
theorem dksX6_isIn_0 : cX6_isIn.data.toList.drop 0 = dktX6_isIn_0 := by decide +kernel
theorem dX6_isIn_0 : decode cX6_isIn 0 = .ok (.lload_n 0, 1) := dk_30 (dk_at dksX6_isIn_0 0 rfl rfl)
theorem dX6_isIn_1 : decode cX6_isIn 1 = .ok (.lload_n 2, 1) := dk_32 (dk_at dksX6_isIn_0 1 rfl rfl)
theorem dX6_isIn_2 : decode cX6_isIn 2 = .ok (.lcmp, 1) := dk_148 (dk_at dksX6_isIn_0 2 rfl rfl)
theorem dX6_isIn_3 : decode cX6_isIn 3 = .ok (.ifCond .lt 14, 3) := dk_155 0 14 (dk_at dksX6_isIn_0 3 rfl rfl)
theorem dX6_isIn_6 : decode cX6_isIn 6 = .ok (.lload_n 0, 1) := dk_30 (dk_at dksX6_isIn_0 6 rfl rfl)
theorem dX6_isIn_7 : decode cX6_isIn 7 = .ok (.lload 4, 2) := dk_22 4 (dk_at dksX6_isIn_0 7 rfl rfl)
theorem dX6_isIn_9 : decode cX6_isIn 9 = .ok (.lcmp, 1) := dk_148 (dk_at dksX6_isIn_0 9 rfl rfl)
theorem dX6_isIn_10 : decode cX6_isIn 10 = .ok (.ifCond .gt 7, 3) := dk_157 0 7 (dk_at dksX6_isIn_0 10 rfl rfl)
theorem dX6_isIn_13 : decode cX6_isIn 13 = .ok (.iconst 1, 1) := dk_4 (dk_at dksX6_isIn_0 13 rfl rfl)
theorem dX6_isIn_14 : decode cX6_isIn 14 = .ok (.goto 4, 3) := dk_167 0 4 (dk_at dksX6_isIn_0 14 rfl rfl)
theorem dX6_isIn_17 : decode cX6_isIn 17 = .ok (.iconst 0, 1) := dk_3 (dk_at dksX6_isIn_0 17 rfl rfl)
theorem dX6_isIn_18 : decode cX6_isIn 18 = .ok (.ireturn, 1) := dk_172 (dk_at dksX6_isIn_0 18 rfl rfl)
abbrev cX6_isLeaf : ByteArray := prog_19_method_7_code
def yX6_isLeaf : MethodName := ⟨RX6, "isLeaf", "(I)Z"⟩
def dkwX6_isLeaf_0 : List UInt8 := [27, 133, 9, 42, 180, 0, 7, 3, 46, 4, 100, 133, 184, 0, 83, 172]
abbrev dktX6_isLeaf_0 : List UInt8 := dkwX6_isLeaf_0 ++ []
theorem dksX6_isLeaf_0 : cX6_isLeaf.data.toList.drop 0 = dktX6_isLeaf_0 := by decide +kernel
theorem dX6_isLeaf_0 : decode cX6_isLeaf 0 = .ok (.iload_n 1, 1) := dk_27 (dk_at dksX6_isLeaf_0 0 rfl rfl)
theorem dX6_isLeaf_1 : decode cX6_isLeaf 1 = .ok (.i2l, 1) := dk_133 (dk_at dksX6_isLeaf_0 1 rfl rfl)
theorem dX6_isLeaf_2 : decode cX6_isLeaf 2 = .ok (.lconst 0, 1) := dk_9 (dk_at dksX6_isLeaf_0 2 rfl rfl)
theorem dX6_isLeaf_3 : decode cX6_isLeaf 3 = .ok (.aload_n 0, 1) := dk_42 (dk_at dksX6_isLeaf_0 3 rfl rfl)
theorem dX6_isLeaf_4 : decode cX6_isLeaf 4 = .ok (.getfield 7, 3) := dk_180 0 7 (dk_at dksX6_isLeaf_0 4 rfl rfl)
theorem dX6_isLeaf_7 : decode cX6_isLeaf 7 = .ok (.iconst 0, 1) := dk_3 (dk_at dksX6_isLeaf_0 7 rfl rfl)
theorem dX6_isLeaf_8 : decode cX6_isLeaf 8 = .ok (.iaload, 1) := dk_46 (dk_at dksX6_isLeaf_0 8 rfl rfl)
theorem dX6_isLeaf_9 : decode cX6_isLeaf 9 = .ok (.iconst 1, 1) := dk_4 (dk_at dksX6_isLeaf_0 9 rfl rfl)
theorem dX6_isLeaf_10 : decode cX6_isLeaf 10 = .ok (.isub, 1) := dk_100 (dk_at dksX6_isLeaf_0 10 rfl rfl)
theorem dX6_isLeaf_11 : decode cX6_isLeaf 11 = .ok (.i2l, 1) := dk_133 (dk_at dksX6_isLeaf_0 11 rfl rfl)
theorem dX6_isLeaf_12 : decode cX6_isLeaf 12 = .ok (.invokestatic 83, 3) := dk_184 0 83 (dk_at dksX6_isLeaf_0 12 rfl rfl)
theorem dX6_isLeaf_15 : decode cX6_isLeaf 15 = .ok (.ireturn, 1) := dk_172 (dk_at dksX6_isLeaf_0 15 rfl rfl)
abbrev cX6_comes : ByteArray := prog_19_method_16_code
def yX6_comes : MethodName := ⟨RX6, "comes", "(IIII)V"⟩
def dkwX6_comes_3 : List UInt8 := [180, 0, 7, 21, 5, 16, 6, 96, 3, 79, 42, 180, 0, 7, 3, 92, 46, 4, 96, 79, 177]
abbrev dktX6_comes_3 : List UInt8 := dkwX6_comes_3 ++ []
def dkwX6_comes_2 : List UInt8 := [4, 79, 42, 180, 0, 7, 21, 5, 7, 96, 21, 4, 79, 42, 180, 0, 7, 21, 5, 8, 96, 3, 79, 42]
abbrev dktX6_comes_2 : List UInt8 := dkwX6_comes_2 ++ dktX6_comes_3
def dkwX6_comes_1 : List UInt8 := [21, 5, 4, 96, 28, 79, 42, 180, 0, 7, 21, 5, 5, 96, 29, 79, 42, 180, 0, 7, 21, 5, 6, 96]
abbrev dktX6_comes_1 : List UInt8 := dkwX6_comes_1 ++ dktX6_comes_2
def dkwX6_comes_0 : List UInt8 := [42, 42, 180, 0, 7, 3, 46, 182, 0, 92, 54, 5, 42, 180, 0, 7, 21, 5, 27, 79, 42, 180, 0, 7]
abbrev dktX6_comes_0 : List UInt8 := dkwX6_comes_0 ++ dktX6_comes_1
theorem dksX6_comes_0 : cX6_comes.data.toList.drop 0 = dktX6_comes_0 := by decide +kernel
theorem dksX6_comes_1 : cX6_comes.data.toList.drop 24 = dktX6_comes_1 := dk_seg dksX6_comes_0 24 rfl rfl
theorem dksX6_comes_2 : cX6_comes.data.toList.drop 48 = dktX6_comes_2 := dk_seg dksX6_comes_1 24 rfl rfl
theorem dksX6_comes_3 : cX6_comes.data.toList.drop 72 = dktX6_comes_3 := dk_seg dksX6_comes_2 24 rfl rfl
theorem dX6_comes_0 : decode cX6_comes 0 = .ok (.aload_n 0, 1) := dk_42 (dk_at dksX6_comes_0 0 rfl rfl)
theorem dX6_comes_1 : decode cX6_comes 1 = .ok (.aload_n 0, 1) := dk_42 (dk_at dksX6_comes_0 1 rfl rfl)
theorem dX6_comes_2 : decode cX6_comes 2 = .ok (.getfield 7, 3) := dk_180 0 7 (dk_at dksX6_comes_0 2 rfl rfl)
theorem dX6_comes_5 : decode cX6_comes 5 = .ok (.iconst 0, 1) := dk_3 (dk_at dksX6_comes_0 5 rfl rfl)
theorem dX6_comes_6 : decode cX6_comes 6 = .ok (.iaload, 1) := dk_46 (dk_at dksX6_comes_0 6 rfl rfl)
theorem dX6_comes_7 : decode cX6_comes 7 = .ok (.invokevirtual 92, 3) := dk_182 0 92 (dk_at dksX6_comes_0 7 rfl rfl)
theorem dX6_comes_10 : decode cX6_comes 10 = .ok (.istore 5, 2) := dk_54 5 (dk_at dksX6_comes_0 10 rfl rfl)
theorem dX6_comes_12 : decode cX6_comes 12 = .ok (.aload_n 0, 1) := dk_42 (dk_at dksX6_comes_0 12 rfl rfl)
theorem dX6_comes_13 : decode cX6_comes 13 = .ok (.getfield 7, 3) := dk_180 0 7 (dk_at dksX6_comes_0 13 rfl rfl)
theorem dX6_comes_16 : decode cX6_comes 16 = .ok (.iload 5, 2) := dk_21 5 (dk_at dksX6_comes_0 16 rfl rfl)
theorem dX6_comes_18 : decode cX6_comes 18 = .ok (.iload_n 1, 1) := dk_27 (dk_at dksX6_comes_0 18 rfl rfl)
theorem dX6_comes_19 : decode cX6_comes 19 = .ok (.iastore, 1) := dk_79 (dk_at dksX6_comes_0 19 rfl rfl)
theorem dX6_comes_20 : decode cX6_comes 20 = .ok (.aload_n 0, 1) := dk_42 (dk_at dksX6_comes_0 20 rfl rfl)
theorem dX6_comes_21 : decode cX6_comes 21 = .ok (.getfield 7, 3) := dk_180 0 7 (dk_at dksX6_comes_0 21 rfl rfl)
theorem dX6_comes_24 : decode cX6_comes 24 = .ok (.iload 5, 2) := dk_21 5 (dk_at dksX6_comes_1 0 rfl rfl)
theorem dX6_comes_26 : decode cX6_comes 26 = .ok (.iconst 1, 1) := dk_4 (dk_at dksX6_comes_1 2 rfl rfl)
theorem dX6_comes_27 : decode cX6_comes 27 = .ok (.iadd, 1) := dk_96 (dk_at dksX6_comes_1 3 rfl rfl)
theorem dX6_comes_28 : decode cX6_comes 28 = .ok (.iload_n 2, 1) := dk_28 (dk_at dksX6_comes_1 4 rfl rfl)
theorem dX6_comes_29 : decode cX6_comes 29 = .ok (.iastore, 1) := dk_79 (dk_at dksX6_comes_1 5 rfl rfl)
theorem dX6_comes_30 : decode cX6_comes 30 = .ok (.aload_n 0, 1) := dk_42 (dk_at dksX6_comes_1 6 rfl rfl)
theorem dX6_comes_31 : decode cX6_comes 31 = .ok (.getfield 7, 3) := dk_180 0 7 (dk_at dksX6_comes_1 7 rfl rfl)
theorem dX6_comes_34 : decode cX6_comes 34 = .ok (.iload 5, 2) := dk_21 5 (dk_at dksX6_comes_1 10 rfl rfl)
theorem dX6_comes_36 : decode cX6_comes 36 = .ok (.iconst 2, 1) := dk_5 (dk_at dksX6_comes_1 12 rfl rfl)
theorem dX6_comes_37 : decode cX6_comes 37 = .ok (.iadd, 1) := dk_96 (dk_at dksX6_comes_1 13 rfl rfl)
theorem dX6_comes_38 : decode cX6_comes 38 = .ok (.iload_n 3, 1) := dk_29 (dk_at dksX6_comes_1 14 rfl rfl)
theorem dX6_comes_39 : decode cX6_comes 39 = .ok (.iastore, 1) := dk_79 (dk_at dksX6_comes_1 15 rfl rfl)
theorem dX6_comes_40 : decode cX6_comes 40 = .ok (.aload_n 0, 1) := dk_42 (dk_at dksX6_comes_1 16 rfl rfl)
theorem dX6_comes_41 : decode cX6_comes 41 = .ok (.getfield 7, 3) := dk_180 0 7 (dk_at dksX6_comes_1 17 rfl rfl)
theorem dX6_comes_44 : decode cX6_comes 44 = .ok (.iload 5, 2) := dk_21 5 (dk_at dksX6_comes_1 20 rfl rfl)
theorem dX6_comes_46 : decode cX6_comes 46 = .ok (.iconst 3, 1) := dk_6 (dk_at dksX6_comes_1 22 rfl rfl)
theorem dX6_comes_47 : decode cX6_comes 47 = .ok (.iadd, 1) := dk_96 (dk_at dksX6_comes_1 23 rfl rfl)
theorem dX6_comes_48 : decode cX6_comes 48 = .ok (.iconst 1, 1) := dk_4 (dk_at dksX6_comes_2 0 rfl rfl)
theorem dX6_comes_49 : decode cX6_comes 49 = .ok (.iastore, 1) := dk_79 (dk_at dksX6_comes_2 1 rfl rfl)
theorem dX6_comes_50 : decode cX6_comes 50 = .ok (.aload_n 0, 1) := dk_42 (dk_at dksX6_comes_2 2 rfl rfl)
theorem dX6_comes_51 : decode cX6_comes 51 = .ok (.getfield 7, 3) := dk_180 0 7 (dk_at dksX6_comes_2 3 rfl rfl)
theorem dX6_comes_54 : decode cX6_comes 54 = .ok (.iload 5, 2) := dk_21 5 (dk_at dksX6_comes_2 6 rfl rfl)
theorem dX6_comes_56 : decode cX6_comes 56 = .ok (.iconst 4, 1) := dk_7 (dk_at dksX6_comes_2 8 rfl rfl)
theorem dX6_comes_57 : decode cX6_comes 57 = .ok (.iadd, 1) := dk_96 (dk_at dksX6_comes_2 9 rfl rfl)
theorem dX6_comes_58 : decode cX6_comes 58 = .ok (.iload 4, 2) := dk_21 4 (dk_at dksX6_comes_2 10 rfl rfl)
theorem dX6_comes_60 : decode cX6_comes 60 = .ok (.iastore, 1) := dk_79 (dk_at dksX6_comes_2 12 rfl rfl)
theorem dX6_comes_61 : decode cX6_comes 61 = .ok (.aload_n 0, 1) := dk_42 (dk_at dksX6_comes_2 13 rfl rfl)
theorem dX6_comes_62 : decode cX6_comes 62 = .ok (.getfield 7, 3) := dk_180 0 7 (dk_at dksX6_comes_2 14 rfl rfl)
theorem dX6_comes_65 : decode cX6_comes 65 = .ok (.iload 5, 2) := dk_21 5 (dk_at dksX6_comes_2 17 rfl rfl)
theorem dX6_comes_67 : decode cX6_comes 67 = .ok (.iconst 5, 1) := dk_8 (dk_at dksX6_comes_2 19 rfl rfl)
theorem dX6_comes_68 : decode cX6_comes 68 = .ok (.iadd, 1) := dk_96 (dk_at dksX6_comes_2 20 rfl rfl)
theorem dX6_comes_69 : decode cX6_comes 69 = .ok (.iconst 0, 1) := dk_3 (dk_at dksX6_comes_2 21 rfl rfl)
theorem dX6_comes_70 : decode cX6_comes 70 = .ok (.iastore, 1) := dk_79 (dk_at dksX6_comes_2 22 rfl rfl)
theorem dX6_comes_71 : decode cX6_comes 71 = .ok (.aload_n 0, 1) := dk_42 (dk_at dksX6_comes_2 23 rfl rfl)
theorem dX6_comes_72 : decode cX6_comes 72 = .ok (.getfield 7, 3) := dk_180 0 7 (dk_at dksX6_comes_3 0 rfl rfl)
theorem dX6_comes_75 : decode cX6_comes 75 = .ok (.iload 5, 2) := dk_21 5 (dk_at dksX6_comes_3 3 rfl rfl)
theorem dX6_comes_77 : decode cX6_comes 77 = .ok (.bipush 6, 2) := dk_16 6 (dk_at dksX6_comes_3 5 rfl rfl)
theorem dX6_comes_79 : decode cX6_comes 79 = .ok (.iadd, 1) := dk_96 (dk_at dksX6_comes_3 7 rfl rfl)
theorem dX6_comes_80 : decode cX6_comes 80 = .ok (.iconst 0, 1) := dk_3 (dk_at dksX6_comes_3 8 rfl rfl)
theorem dX6_comes_81 : decode cX6_comes 81 = .ok (.iastore, 1) := dk_79 (dk_at dksX6_comes_3 9 rfl rfl)
theorem dX6_comes_82 : decode cX6_comes 82 = .ok (.aload_n 0, 1) := dk_42 (dk_at dksX6_comes_3 10 rfl rfl)
theorem dX6_comes_83 : decode cX6_comes 83 = .ok (.getfield 7, 3) := dk_180 0 7 (dk_at dksX6_comes_3 11 rfl rfl)
theorem dX6_comes_86 : decode cX6_comes 86 = .ok (.iconst 0, 1) := dk_3 (dk_at dksX6_comes_3 14 rfl rfl)
theorem dX6_comes_87 : decode cX6_comes 87 = .ok (.dup2, 1) := dk_92 (dk_at dksX6_comes_3 15 rfl rfl)
theorem dX6_comes_88 : decode cX6_comes 88 = .ok (.iaload, 1) := dk_46 (dk_at dksX6_comes_3 16 rfl rfl)
theorem dX6_comes_89 : decode cX6_comes 89 = .ok (.iconst 1, 1) := dk_4 (dk_at dksX6_comes_3 17 rfl rfl)
theorem dX6_comes_90 : decode cX6_comes 90 = .ok (.iadd, 1) := dk_96 (dk_at dksX6_comes_3 18 rfl rfl)
theorem dX6_comes_91 : decode cX6_comes 91 = .ok (.iastore, 1) := dk_79 (dk_at dksX6_comes_3 19 rfl rfl)
theorem dX6_comes_92 : decode cX6_comes 92 = .ok (.return_, 1) := dk_177 (dk_at dksX6_comes_3 20 rfl rfl)
abbrev cX6_leafAt : ByteArray := prog_19_method_5_code
def yX6_leafAt : MethodName := ⟨RX6, "leafAt", "(I)I"⟩
def dkwX6_leafAt_0 : List UInt8 := [16, 10, 16, 7, 27, 104, 96, 172]
abbrev dktX6_leafAt_0 : List UInt8 := dkwX6_leafAt_0 ++ []
theorem dksX6_leafAt_0 : cX6_leafAt.data.toList.drop 0 = dktX6_leafAt_0 := by decide +kernel
theorem dX6_leafAt_0 : decode cX6_leafAt 0 = .ok (.bipush 10, 2) := dk_16 10 (dk_at dksX6_leafAt_0 0 rfl rfl)
theorem dX6_leafAt_2 : decode cX6_leafAt 2 = .ok (.bipush 7, 2) := dk_16 7 (dk_at dksX6_leafAt_0 2 rfl rfl)
theorem dX6_leafAt_4 : decode cX6_leafAt 4 = .ok (.iload_n 1, 1) := dk_27 (dk_at dksX6_leafAt_0 4 rfl rfl)
theorem dX6_leafAt_5 : decode cX6_leafAt 5 = .ok (.imul, 1) := dk_104 (dk_at dksX6_leafAt_0 5 rfl rfl)
theorem dX6_leafAt_6 : decode cX6_leafAt 6 = .ok (.iadd, 1) := dk_96 (dk_at dksX6_leafAt_0 6 rfl rfl)
theorem dX6_leafAt_7 : decode cX6_leafAt 7 = .ok (.ireturn, 1) := dk_172 (dk_at dksX6_leafAt_0 7 rfl rfl)
abbrev cX6_told : ByteArray := prog_19_method_21_code
def yX6_told : MethodName := ⟨RX6, "told", "(II)I"⟩
def dkwX6_told_6 : List UInt8 := [153, 0, 7, 4, 167, 0, 4, 3, 172, 42, 27, 182, 0, 140, 172, 18, 120, 172]
abbrev dktX6_told_6 : List UInt8 := dkwX6_told_6 ++ []
def dkwX6_told_5 : List UInt8 := [29, 8, 96, 46, 172, 42, 27, 182, 0, 129, 184, 0, 126, 172, 42, 42, 182, 0, 132, 27, 182, 0, 136]
abbrev dktX6_told_5 : List UInt8 := dkwX6_told_5 ++ dktX6_told_6
def dkwX6_told_4 : List UInt8 := [182, 0, 104, 172, 42, 27, 182, 0, 107, 172, 42, 180, 0, 7, 29, 16, 6, 96, 46, 172, 42, 180, 0, 7]
abbrev dktX6_told_4 : List UInt8 := dkwX6_told_4 ++ dktX6_told_5
def dkwX6_told_3 : List UInt8 := [172, 42, 180, 0, 7, 29, 6, 96, 46, 172, 42, 180, 0, 7, 29, 7, 96, 46, 184, 0, 126, 172, 42, 27]
abbrev dktX6_told_3 : List UInt8 := dkwX6_told_3 ++ dktX6_told_4
def dkwX6_told_2 : List UInt8 := [42, 180, 0, 7, 29, 46, 172, 42, 180, 0, 7, 29, 4, 96, 46, 172, 42, 180, 0, 7, 29, 5, 96, 46]
abbrev dktX6_told_2 : List UInt8 := dkwX6_told_2 ++ dktX6_told_3
def dkwX6_told_1 : List UInt8 := [170, 0, 0, 0, 0, 172, 0, 0, 0, 0, 0, 0, 0, 11, 0, 0, 0, 62, 0, 0, 0, 69, 0, 0, 0, 78, 0, 0, 0, 87, 0, 0, 0, 96, 0, 0, 0, 108, 0, 0, 0, 114, 0, 0, 0, 120, 0, 0, 0, 130, 0, 0, 0, 139, 0, 0, 0, 148, 0, 0, 0, 166]
abbrev dktX6_told_1 : List UInt8 := dkwX6_told_1 ++ dktX6_told_2
def dkwX6_told_0 : List UInt8 := [42, 27, 182, 0, 116, 154, 0, 6, 18, 120, 172, 42, 27, 182, 0, 92, 62, 28]
abbrev dktX6_told_0 : List UInt8 := dkwX6_told_0 ++ dktX6_told_1
theorem dksX6_told_0 : cX6_told.data.toList.drop 0 = dktX6_told_0 := by decide +kernel
theorem dksX6_told_1 : cX6_told.data.toList.drop 18 = dktX6_told_1 := dk_seg dksX6_told_0 18 rfl rfl
theorem dksX6_told_2 : cX6_told.data.toList.drop 80 = dktX6_told_2 := dk_seg dksX6_told_1 62 rfl rfl
theorem dksX6_told_3 : cX6_told.data.toList.drop 104 = dktX6_told_3 := dk_seg dksX6_told_2 24 rfl rfl
theorem dksX6_told_4 : cX6_told.data.toList.drop 128 = dktX6_told_4 := dk_seg dksX6_told_3 24 rfl rfl
theorem dksX6_told_5 : cX6_told.data.toList.drop 152 = dktX6_told_5 := dk_seg dksX6_told_4 24 rfl rfl
theorem dksX6_told_6 : cX6_told.data.toList.drop 175 = dktX6_told_6 := dk_seg dksX6_told_5 23 rfl rfl
theorem dX6_told_0 : decode cX6_told 0 = .ok (.aload_n 0, 1) := dk_42 (dk_at dksX6_told_0 0 rfl rfl)
theorem dX6_told_1 : decode cX6_told 1 = .ok (.iload_n 1, 1) := dk_27 (dk_at dksX6_told_0 1 rfl rfl)
theorem dX6_told_2 : decode cX6_told 2 = .ok (.invokevirtual 116, 3) := dk_182 0 116 (dk_at dksX6_told_0 2 rfl rfl)
theorem dX6_told_5 : decode cX6_told 5 = .ok (.ifCond .ne 6, 3) := dk_154 0 6 (dk_at dksX6_told_0 5 rfl rfl)
theorem dX6_told_8 : decode cX6_told 8 = .ok (.ldc 120, 2) := dk_18 120 (dk_at dksX6_told_0 8 rfl rfl)
theorem dX6_told_10 : decode cX6_told 10 = .ok (.ireturn, 1) := dk_172 (dk_at dksX6_told_0 10 rfl rfl)
theorem dX6_told_11 : decode cX6_told 11 = .ok (.aload_n 0, 1) := dk_42 (dk_at dksX6_told_0 11 rfl rfl)
theorem dX6_told_12 : decode cX6_told 12 = .ok (.iload_n 1, 1) := dk_27 (dk_at dksX6_told_0 12 rfl rfl)
theorem dX6_told_13 : decode cX6_told 13 = .ok (.invokevirtual 92, 3) := dk_182 0 92 (dk_at dksX6_told_0 13 rfl rfl)
theorem dX6_told_16 : decode cX6_told 16 = .ok (.istore_n 3, 1) := dk_62 (dk_at dksX6_told_0 16 rfl rfl)
theorem dX6_told_17 : decode cX6_told 17 = .ok (.iload_n 2, 1) := dk_28 (dk_at dksX6_told_0 17 rfl rfl)
theorem dX6_told_18 : decode cX6_told 18 = .ok (.tableswitch 172 0 11 #[62, 69, 78, 87, 96, 108, 114, 120, 130, 139, 148, 166], 62) := by decide +kernel
theorem dX6_told_80 : decode cX6_told 80 = .ok (.aload_n 0, 1) := dk_42 (dk_at dksX6_told_2 0 rfl rfl)
theorem dX6_told_81 : decode cX6_told 81 = .ok (.getfield 7, 3) := dk_180 0 7 (dk_at dksX6_told_2 1 rfl rfl)
theorem dX6_told_84 : decode cX6_told 84 = .ok (.iload_n 3, 1) := dk_29 (dk_at dksX6_told_2 4 rfl rfl)
theorem dX6_told_85 : decode cX6_told 85 = .ok (.iaload, 1) := dk_46 (dk_at dksX6_told_2 5 rfl rfl)
theorem dX6_told_86 : decode cX6_told 86 = .ok (.ireturn, 1) := dk_172 (dk_at dksX6_told_2 6 rfl rfl)
theorem dX6_told_87 : decode cX6_told 87 = .ok (.aload_n 0, 1) := dk_42 (dk_at dksX6_told_2 7 rfl rfl)
theorem dX6_told_88 : decode cX6_told 88 = .ok (.getfield 7, 3) := dk_180 0 7 (dk_at dksX6_told_2 8 rfl rfl)
theorem dX6_told_91 : decode cX6_told 91 = .ok (.iload_n 3, 1) := dk_29 (dk_at dksX6_told_2 11 rfl rfl)
theorem dX6_told_92 : decode cX6_told 92 = .ok (.iconst 1, 1) := dk_4 (dk_at dksX6_told_2 12 rfl rfl)
theorem dX6_told_93 : decode cX6_told 93 = .ok (.iadd, 1) := dk_96 (dk_at dksX6_told_2 13 rfl rfl)
theorem dX6_told_94 : decode cX6_told 94 = .ok (.iaload, 1) := dk_46 (dk_at dksX6_told_2 14 rfl rfl)
theorem dX6_told_95 : decode cX6_told 95 = .ok (.ireturn, 1) := dk_172 (dk_at dksX6_told_2 15 rfl rfl)
theorem dX6_told_96 : decode cX6_told 96 = .ok (.aload_n 0, 1) := dk_42 (dk_at dksX6_told_2 16 rfl rfl)
theorem dX6_told_97 : decode cX6_told 97 = .ok (.getfield 7, 3) := dk_180 0 7 (dk_at dksX6_told_2 17 rfl rfl)
theorem dX6_told_100 : decode cX6_told 100 = .ok (.iload_n 3, 1) := dk_29 (dk_at dksX6_told_2 20 rfl rfl)
theorem dX6_told_101 : decode cX6_told 101 = .ok (.iconst 2, 1) := dk_5 (dk_at dksX6_told_2 21 rfl rfl)
theorem dX6_told_102 : decode cX6_told 102 = .ok (.iadd, 1) := dk_96 (dk_at dksX6_told_2 22 rfl rfl)
theorem dX6_told_103 : decode cX6_told 103 = .ok (.iaload, 1) := dk_46 (dk_at dksX6_told_2 23 rfl rfl)
theorem dX6_told_104 : decode cX6_told 104 = .ok (.ireturn, 1) := dk_172 (dk_at dksX6_told_3 0 rfl rfl)
theorem dX6_told_105 : decode cX6_told 105 = .ok (.aload_n 0, 1) := dk_42 (dk_at dksX6_told_3 1 rfl rfl)
theorem dX6_told_106 : decode cX6_told 106 = .ok (.getfield 7, 3) := dk_180 0 7 (dk_at dksX6_told_3 2 rfl rfl)
theorem dX6_told_109 : decode cX6_told 109 = .ok (.iload_n 3, 1) := dk_29 (dk_at dksX6_told_3 5 rfl rfl)
theorem dX6_told_110 : decode cX6_told 110 = .ok (.iconst 3, 1) := dk_6 (dk_at dksX6_told_3 6 rfl rfl)
theorem dX6_told_111 : decode cX6_told 111 = .ok (.iadd, 1) := dk_96 (dk_at dksX6_told_3 7 rfl rfl)
theorem dX6_told_112 : decode cX6_told 112 = .ok (.iaload, 1) := dk_46 (dk_at dksX6_told_3 8 rfl rfl)
theorem dX6_told_113 : decode cX6_told 113 = .ok (.ireturn, 1) := dk_172 (dk_at dksX6_told_3 9 rfl rfl)
theorem dX6_told_114 : decode cX6_told 114 = .ok (.aload_n 0, 1) := dk_42 (dk_at dksX6_told_3 10 rfl rfl)
theorem dX6_told_115 : decode cX6_told 115 = .ok (.getfield 7, 3) := dk_180 0 7 (dk_at dksX6_told_3 11 rfl rfl)
theorem dX6_told_118 : decode cX6_told 118 = .ok (.iload_n 3, 1) := dk_29 (dk_at dksX6_told_3 14 rfl rfl)
theorem dX6_told_119 : decode cX6_told 119 = .ok (.iconst 4, 1) := dk_7 (dk_at dksX6_told_3 15 rfl rfl)
theorem dX6_told_120 : decode cX6_told 120 = .ok (.iadd, 1) := dk_96 (dk_at dksX6_told_3 16 rfl rfl)
theorem dX6_told_121 : decode cX6_told 121 = .ok (.iaload, 1) := dk_46 (dk_at dksX6_told_3 17 rfl rfl)
theorem dX6_told_122 : decode cX6_told 122 = .ok (.invokestatic 126, 3) := dk_184 0 126 (dk_at dksX6_told_3 18 rfl rfl)
theorem dX6_told_125 : decode cX6_told 125 = .ok (.ireturn, 1) := dk_172 (dk_at dksX6_told_3 21 rfl rfl)
theorem dX6_told_126 : decode cX6_told 126 = .ok (.aload_n 0, 1) := dk_42 (dk_at dksX6_told_3 22 rfl rfl)
theorem dX6_told_127 : decode cX6_told 127 = .ok (.iload_n 1, 1) := dk_27 (dk_at dksX6_told_3 23 rfl rfl)
theorem dX6_told_128 : decode cX6_told 128 = .ok (.invokevirtual 104, 3) := dk_182 0 104 (dk_at dksX6_told_4 0 rfl rfl)
theorem dX6_told_131 : decode cX6_told 131 = .ok (.ireturn, 1) := dk_172 (dk_at dksX6_told_4 3 rfl rfl)
theorem dX6_told_132 : decode cX6_told 132 = .ok (.aload_n 0, 1) := dk_42 (dk_at dksX6_told_4 4 rfl rfl)
theorem dX6_told_133 : decode cX6_told 133 = .ok (.iload_n 1, 1) := dk_27 (dk_at dksX6_told_4 5 rfl rfl)
theorem dX6_told_134 : decode cX6_told 134 = .ok (.invokevirtual 107, 3) := dk_182 0 107 (dk_at dksX6_told_4 6 rfl rfl)
theorem dX6_told_137 : decode cX6_told 137 = .ok (.ireturn, 1) := dk_172 (dk_at dksX6_told_4 9 rfl rfl)
theorem dX6_told_138 : decode cX6_told 138 = .ok (.aload_n 0, 1) := dk_42 (dk_at dksX6_told_4 10 rfl rfl)
theorem dX6_told_139 : decode cX6_told 139 = .ok (.getfield 7, 3) := dk_180 0 7 (dk_at dksX6_told_4 11 rfl rfl)
theorem dX6_told_142 : decode cX6_told 142 = .ok (.iload_n 3, 1) := dk_29 (dk_at dksX6_told_4 14 rfl rfl)
theorem dX6_told_143 : decode cX6_told 143 = .ok (.bipush 6, 2) := dk_16 6 (dk_at dksX6_told_4 15 rfl rfl)
theorem dX6_told_145 : decode cX6_told 145 = .ok (.iadd, 1) := dk_96 (dk_at dksX6_told_4 17 rfl rfl)
theorem dX6_told_146 : decode cX6_told 146 = .ok (.iaload, 1) := dk_46 (dk_at dksX6_told_4 18 rfl rfl)
theorem dX6_told_147 : decode cX6_told 147 = .ok (.ireturn, 1) := dk_172 (dk_at dksX6_told_4 19 rfl rfl)
theorem dX6_told_148 : decode cX6_told 148 = .ok (.aload_n 0, 1) := dk_42 (dk_at dksX6_told_4 20 rfl rfl)
theorem dX6_told_149 : decode cX6_told 149 = .ok (.getfield 7, 3) := dk_180 0 7 (dk_at dksX6_told_4 21 rfl rfl)
theorem dX6_told_152 : decode cX6_told 152 = .ok (.iload_n 3, 1) := dk_29 (dk_at dksX6_told_5 0 rfl rfl)
theorem dX6_told_153 : decode cX6_told 153 = .ok (.iconst 5, 1) := dk_8 (dk_at dksX6_told_5 1 rfl rfl)
theorem dX6_told_154 : decode cX6_told 154 = .ok (.iadd, 1) := dk_96 (dk_at dksX6_told_5 2 rfl rfl)
theorem dX6_told_155 : decode cX6_told 155 = .ok (.iaload, 1) := dk_46 (dk_at dksX6_told_5 3 rfl rfl)
theorem dX6_told_156 : decode cX6_told 156 = .ok (.ireturn, 1) := dk_172 (dk_at dksX6_told_5 4 rfl rfl)
theorem dX6_told_157 : decode cX6_told 157 = .ok (.aload_n 0, 1) := dk_42 (dk_at dksX6_told_5 5 rfl rfl)
theorem dX6_told_158 : decode cX6_told 158 = .ok (.iload_n 1, 1) := dk_27 (dk_at dksX6_told_5 6 rfl rfl)
theorem dX6_told_159 : decode cX6_told 159 = .ok (.invokevirtual 129, 3) := dk_182 0 129 (dk_at dksX6_told_5 7 rfl rfl)
theorem dX6_told_162 : decode cX6_told 162 = .ok (.invokestatic 126, 3) := dk_184 0 126 (dk_at dksX6_told_5 10 rfl rfl)
theorem dX6_told_165 : decode cX6_told 165 = .ok (.ireturn, 1) := dk_172 (dk_at dksX6_told_5 13 rfl rfl)
theorem dX6_told_166 : decode cX6_told 166 = .ok (.aload_n 0, 1) := dk_42 (dk_at dksX6_told_5 14 rfl rfl)
theorem dX6_told_167 : decode cX6_told 167 = .ok (.aload_n 0, 1) := dk_42 (dk_at dksX6_told_5 15 rfl rfl)
theorem dX6_told_168 : decode cX6_told 168 = .ok (.invokevirtual 132, 3) := dk_182 0 132 (dk_at dksX6_told_5 16 rfl rfl)
theorem dX6_told_171 : decode cX6_told 171 = .ok (.iload_n 1, 1) := dk_27 (dk_at dksX6_told_5 19 rfl rfl)
theorem dX6_told_172 : decode cX6_told 172 = .ok (.invokevirtual 136, 3) := dk_182 0 136 (dk_at dksX6_told_5 20 rfl rfl)
theorem dX6_told_175 : decode cX6_told 175 = .ok (.ifCond .eq 7, 3) := dk_153 0 7 (dk_at dksX6_told_6 0 rfl rfl)
theorem dX6_told_178 : decode cX6_told 178 = .ok (.iconst 1, 1) := dk_4 (dk_at dksX6_told_6 3 rfl rfl)
theorem dX6_told_179 : decode cX6_told 179 = .ok (.goto 4, 3) := dk_167 0 4 (dk_at dksX6_told_6 4 rfl rfl)
theorem dX6_told_182 : decode cX6_told 182 = .ok (.iconst 0, 1) := dk_3 (dk_at dksX6_told_6 7 rfl rfl)
theorem dX6_told_183 : decode cX6_told 183 = .ok (.ireturn, 1) := dk_172 (dk_at dksX6_told_6 8 rfl rfl)
theorem dX6_told_184 : decode cX6_told 184 = .ok (.aload_n 0, 1) := dk_42 (dk_at dksX6_told_6 9 rfl rfl)
theorem dX6_told_185 : decode cX6_told 185 = .ok (.iload_n 1, 1) := dk_27 (dk_at dksX6_told_6 10 rfl rfl)
theorem dX6_told_186 : decode cX6_told 186 = .ok (.invokevirtual 140, 3) := dk_182 0 140 (dk_at dksX6_told_6 11 rfl rfl)
theorem dX6_told_189 : decode cX6_told 189 = .ok (.ireturn, 1) := dk_172 (dk_at dksX6_told_6 14 rfl rfl)
theorem dX6_told_190 : decode cX6_told 190 = .ok (.ldc 120, 2) := dk_18 120 (dk_at dksX6_told_6 15 rfl rfl)
theorem dX6_told_192 : decode cX6_told 192 = .ok (.ireturn, 1) := dk_172 (dk_at dksX6_told_6 17 rfl rfl)
abbrev cX6_orNone : ByteArray := prog_19_method_3_code
def yX6_orNone : MethodName := ⟨RX6, "orNone", "(I)I"⟩
def dkwX6_orNone_0 : List UInt8 := [26, 156, 0, 8, 18, 82, 167, 0, 4, 26, 172]
abbrev dktX6_orNone_0 : List UInt8 := dkwX6_orNone_0 ++ []
theorem dksX6_orNone_0 : cX6_orNone.data.toList.drop 0 = dktX6_orNone_0 := by decide +kernel
theorem dX6_orNone_0 : decode cX6_orNone 0 = .ok (.iload_n 0, 1) := dk_26 (dk_at dksX6_orNone_0 0 rfl rfl)
theorem dX6_orNone_1 : decode cX6_orNone 1 = .ok (.ifCond .ge 8, 3) := dk_156 0 8 (dk_at dksX6_orNone_0 1 rfl rfl)
theorem dX6_orNone_4 : decode cX6_orNone 4 = .ok (.ldc 82, 2) := dk_18 82 (dk_at dksX6_orNone_0 4 rfl rfl)
theorem dX6_orNone_6 : decode cX6_orNone 6 = .ok (.goto 4, 3) := dk_167 0 4 (dk_at dksX6_orNone_0 6 rfl rfl)
theorem dX6_orNone_9 : decode cX6_orNone 9 = .ok (.iload_n 0, 1) := dk_26 (dk_at dksX6_orNone_0 9 rfl rfl)
theorem dX6_orNone_10 : decode cX6_orNone 10 = .ok (.ireturn, 1) := dk_172 (dk_at dksX6_orNone_0 10 rfl rfl)
abbrev cX6_room : ByteArray := prog_19_method_11_code
def yX6_room : MethodName := ⟨RX6, "room", "(I)I"⟩
def dkwX6_room_3 : List UInt8 := [96, 167, 0, 4, 29, 172]
abbrev dktX6_room_3 : List UInt8 := dkwX6_room_3 ++ []
def dkwX6_room_2 : List UInt8 := [28, 5, 160, 0, 11, 29, 4, 96, 5, 108, 167, 0, 19, 28, 7, 160, 0, 13, 29, 4, 96, 5, 108, 4]
abbrev dktX6_room_2 : List UInt8 := dkwX6_room_2 ++ dktX6_room_3
def dkwX6_room_1 : List UInt8 := [28, 4, 160, 0, 9, 29, 4, 96, 167, 0, 45, 28, 6, 160, 0, 11, 29, 5, 96, 5, 108, 167, 0, 32]
abbrev dktX6_room_1 : List UInt8 := dkwX6_room_1 ++ dktX6_room_2
def dkwX6_room_0 : List UInt8 := [42, 180, 0, 7, 42, 27, 182, 0, 92, 46, 61, 28, 8, 160, 0, 5, 4, 172, 42, 27, 182, 0, 98, 62]
abbrev dktX6_room_0 : List UInt8 := dkwX6_room_0 ++ dktX6_room_1
theorem dksX6_room_0 : cX6_room.data.toList.drop 0 = dktX6_room_0 := by decide +kernel
theorem dksX6_room_1 : cX6_room.data.toList.drop 24 = dktX6_room_1 := dk_seg dksX6_room_0 24 rfl rfl
theorem dksX6_room_2 : cX6_room.data.toList.drop 48 = dktX6_room_2 := dk_seg dksX6_room_1 24 rfl rfl
theorem dksX6_room_3 : cX6_room.data.toList.drop 72 = dktX6_room_3 := dk_seg dksX6_room_2 24 rfl rfl
theorem dX6_room_0 : decode cX6_room 0 = .ok (.aload_n 0, 1) := dk_42 (dk_at dksX6_room_0 0 rfl rfl)
theorem dX6_room_1 : decode cX6_room 1 = .ok (.getfield 7, 3) := dk_180 0 7 (dk_at dksX6_room_0 1 rfl rfl)
theorem dX6_room_4 : decode cX6_room 4 = .ok (.aload_n 0, 1) := dk_42 (dk_at dksX6_room_0 4 rfl rfl)
theorem dX6_room_5 : decode cX6_room 5 = .ok (.iload_n 1, 1) := dk_27 (dk_at dksX6_room_0 5 rfl rfl)
theorem dX6_room_6 : decode cX6_room 6 = .ok (.invokevirtual 92, 3) := dk_182 0 92 (dk_at dksX6_room_0 6 rfl rfl)
theorem dX6_room_9 : decode cX6_room 9 = .ok (.iaload, 1) := dk_46 (dk_at dksX6_room_0 9 rfl rfl)
theorem dX6_room_10 : decode cX6_room 10 = .ok (.istore_n 2, 1) := dk_61 (dk_at dksX6_room_0 10 rfl rfl)
theorem dX6_room_11 : decode cX6_room 11 = .ok (.iload_n 2, 1) := dk_28 (dk_at dksX6_room_0 11 rfl rfl)
theorem dX6_room_12 : decode cX6_room 12 = .ok (.iconst 5, 1) := dk_8 (dk_at dksX6_room_0 12 rfl rfl)
theorem dX6_room_13 : decode cX6_room 13 = .ok (.if_icmp .ne 5, 3) := dk_160 0 5 (dk_at dksX6_room_0 13 rfl rfl)
theorem dX6_room_16 : decode cX6_room 16 = .ok (.iconst 1, 1) := dk_4 (dk_at dksX6_room_0 16 rfl rfl)
theorem dX6_room_17 : decode cX6_room 17 = .ok (.ireturn, 1) := dk_172 (dk_at dksX6_room_0 17 rfl rfl)
theorem dX6_room_18 : decode cX6_room 18 = .ok (.aload_n 0, 1) := dk_42 (dk_at dksX6_room_0 18 rfl rfl)
theorem dX6_room_19 : decode cX6_room 19 = .ok (.iload_n 1, 1) := dk_27 (dk_at dksX6_room_0 19 rfl rfl)
theorem dX6_room_20 : decode cX6_room 20 = .ok (.invokevirtual 98, 3) := dk_182 0 98 (dk_at dksX6_room_0 20 rfl rfl)
theorem dX6_room_23 : decode cX6_room 23 = .ok (.istore_n 3, 1) := dk_62 (dk_at dksX6_room_0 23 rfl rfl)
theorem dX6_room_24 : decode cX6_room 24 = .ok (.iload_n 2, 1) := dk_28 (dk_at dksX6_room_1 0 rfl rfl)
theorem dX6_room_25 : decode cX6_room 25 = .ok (.iconst 1, 1) := dk_4 (dk_at dksX6_room_1 1 rfl rfl)
theorem dX6_room_26 : decode cX6_room 26 = .ok (.if_icmp .ne 9, 3) := dk_160 0 9 (dk_at dksX6_room_1 2 rfl rfl)
theorem dX6_room_29 : decode cX6_room 29 = .ok (.iload_n 3, 1) := dk_29 (dk_at dksX6_room_1 5 rfl rfl)
theorem dX6_room_30 : decode cX6_room 30 = .ok (.iconst 1, 1) := dk_4 (dk_at dksX6_room_1 6 rfl rfl)
theorem dX6_room_31 : decode cX6_room 31 = .ok (.iadd, 1) := dk_96 (dk_at dksX6_room_1 7 rfl rfl)
theorem dX6_room_32 : decode cX6_room 32 = .ok (.goto 45, 3) := dk_167 0 45 (dk_at dksX6_room_1 8 rfl rfl)
theorem dX6_room_35 : decode cX6_room 35 = .ok (.iload_n 2, 1) := dk_28 (dk_at dksX6_room_1 11 rfl rfl)
theorem dX6_room_36 : decode cX6_room 36 = .ok (.iconst 3, 1) := dk_6 (dk_at dksX6_room_1 12 rfl rfl)
theorem dX6_room_37 : decode cX6_room 37 = .ok (.if_icmp .ne 11, 3) := dk_160 0 11 (dk_at dksX6_room_1 13 rfl rfl)
theorem dX6_room_40 : decode cX6_room 40 = .ok (.iload_n 3, 1) := dk_29 (dk_at dksX6_room_1 16 rfl rfl)
theorem dX6_room_41 : decode cX6_room 41 = .ok (.iconst 2, 1) := dk_5 (dk_at dksX6_room_1 17 rfl rfl)
theorem dX6_room_42 : decode cX6_room 42 = .ok (.iadd, 1) := dk_96 (dk_at dksX6_room_1 18 rfl rfl)
theorem dX6_room_43 : decode cX6_room 43 = .ok (.iconst 2, 1) := dk_5 (dk_at dksX6_room_1 19 rfl rfl)
theorem dX6_room_44 : decode cX6_room 44 = .ok (.idiv, 1) := dk_108 (dk_at dksX6_room_1 20 rfl rfl)
theorem dX6_room_45 : decode cX6_room 45 = .ok (.goto 32, 3) := dk_167 0 32 (dk_at dksX6_room_1 21 rfl rfl)
theorem dX6_room_48 : decode cX6_room 48 = .ok (.iload_n 2, 1) := dk_28 (dk_at dksX6_room_2 0 rfl rfl)
theorem dX6_room_49 : decode cX6_room 49 = .ok (.iconst 2, 1) := dk_5 (dk_at dksX6_room_2 1 rfl rfl)
theorem dX6_room_50 : decode cX6_room 50 = .ok (.if_icmp .ne 11, 3) := dk_160 0 11 (dk_at dksX6_room_2 2 rfl rfl)
theorem dX6_room_53 : decode cX6_room 53 = .ok (.iload_n 3, 1) := dk_29 (dk_at dksX6_room_2 5 rfl rfl)
theorem dX6_room_54 : decode cX6_room 54 = .ok (.iconst 1, 1) := dk_4 (dk_at dksX6_room_2 6 rfl rfl)
theorem dX6_room_55 : decode cX6_room 55 = .ok (.iadd, 1) := dk_96 (dk_at dksX6_room_2 7 rfl rfl)
theorem dX6_room_56 : decode cX6_room 56 = .ok (.iconst 2, 1) := dk_5 (dk_at dksX6_room_2 8 rfl rfl)
theorem dX6_room_57 : decode cX6_room 57 = .ok (.idiv, 1) := dk_108 (dk_at dksX6_room_2 9 rfl rfl)
theorem dX6_room_58 : decode cX6_room 58 = .ok (.goto 19, 3) := dk_167 0 19 (dk_at dksX6_room_2 10 rfl rfl)
theorem dX6_room_61 : decode cX6_room 61 = .ok (.iload_n 2, 1) := dk_28 (dk_at dksX6_room_2 13 rfl rfl)
theorem dX6_room_62 : decode cX6_room 62 = .ok (.iconst 4, 1) := dk_7 (dk_at dksX6_room_2 14 rfl rfl)
theorem dX6_room_63 : decode cX6_room 63 = .ok (.if_icmp .ne 13, 3) := dk_160 0 13 (dk_at dksX6_room_2 15 rfl rfl)
theorem dX6_room_66 : decode cX6_room 66 = .ok (.iload_n 3, 1) := dk_29 (dk_at dksX6_room_2 18 rfl rfl)
theorem dX6_room_67 : decode cX6_room 67 = .ok (.iconst 1, 1) := dk_4 (dk_at dksX6_room_2 19 rfl rfl)
theorem dX6_room_68 : decode cX6_room 68 = .ok (.iadd, 1) := dk_96 (dk_at dksX6_room_2 20 rfl rfl)
theorem dX6_room_69 : decode cX6_room 69 = .ok (.iconst 2, 1) := dk_5 (dk_at dksX6_room_2 21 rfl rfl)
theorem dX6_room_70 : decode cX6_room 70 = .ok (.idiv, 1) := dk_108 (dk_at dksX6_room_2 22 rfl rfl)
theorem dX6_room_71 : decode cX6_room 71 = .ok (.iconst 1, 1) := dk_4 (dk_at dksX6_room_2 23 rfl rfl)
theorem dX6_room_72 : decode cX6_room 72 = .ok (.iadd, 1) := dk_96 (dk_at dksX6_room_3 0 rfl rfl)
theorem dX6_room_73 : decode cX6_room 73 = .ok (.goto 4, 3) := dk_167 0 4 (dk_at dksX6_room_3 1 rfl rfl)
theorem dX6_room_76 : decode cX6_room 76 = .ok (.iload_n 3, 1) := dk_29 (dk_at dksX6_room_3 4 rfl rfl)
theorem dX6_room_77 : decode cX6_room 77 = .ok (.ireturn, 1) := dk_172 (dk_at dksX6_room_3 5 rfl rfl)
abbrev cX6_plainRoom : ByteArray := prog_19_method_10_code
def yX6_plainRoom : MethodName := ⟨RX6, "plainRoom", "(I)I"⟩
def dkwX6_plainRoom_3 : List UInt8 := [172]
abbrev dktX6_plainRoom_3 : List UInt8 := dkwX6_plainRoom_3 ++ []
def dkwX6_plainRoom_2 : List UInt8 := [21, 4, 4, 162, 0, 7, 4, 167, 0, 17, 21, 4, 16, 9, 164, 0, 8, 16, 9, 167, 0, 5, 21, 4]
abbrev dktX6_plainRoom_2 : List UInt8 := dkwX6_plainRoom_2 ++ dktX6_plainRoom_3
def dkwX6_plainRoom_1 : List UInt8 := [172, 42, 180, 0, 67, 16, 115, 29, 79, 42, 180, 0, 67, 16, 110, 27, 79, 42, 28, 182, 0, 95, 54, 4]
abbrev dktX6_plainRoom_1 : List UInt8 := dkwX6_plainRoom_1 ++ dktX6_plainRoom_2
def dkwX6_plainRoom_0 : List UInt8 := [42, 3, 182, 0, 88, 61, 42, 180, 0, 7, 42, 27, 182, 0, 92, 4, 96, 46, 62, 28, 156, 0, 5, 29]
abbrev dktX6_plainRoom_0 : List UInt8 := dkwX6_plainRoom_0 ++ dktX6_plainRoom_1
theorem dksX6_plainRoom_0 : cX6_plainRoom.data.toList.drop 0 = dktX6_plainRoom_0 := by decide +kernel
theorem dksX6_plainRoom_1 : cX6_plainRoom.data.toList.drop 24 = dktX6_plainRoom_1 := dk_seg dksX6_plainRoom_0 24 rfl rfl
theorem dksX6_plainRoom_2 : cX6_plainRoom.data.toList.drop 48 = dktX6_plainRoom_2 := dk_seg dksX6_plainRoom_1 24 rfl rfl
theorem dksX6_plainRoom_3 : cX6_plainRoom.data.toList.drop 72 = dktX6_plainRoom_3 := dk_seg dksX6_plainRoom_2 24 rfl rfl
theorem dX6_plainRoom_0 : decode cX6_plainRoom 0 = .ok (.aload_n 0, 1) := dk_42 (dk_at dksX6_plainRoom_0 0 rfl rfl)
theorem dX6_plainRoom_1 : decode cX6_plainRoom 1 = .ok (.iconst 0, 1) := dk_3 (dk_at dksX6_plainRoom_0 1 rfl rfl)
theorem dX6_plainRoom_2 : decode cX6_plainRoom 2 = .ok (.invokevirtual 88, 3) := dk_182 0 88 (dk_at dksX6_plainRoom_0 2 rfl rfl)
theorem dX6_plainRoom_5 : decode cX6_plainRoom 5 = .ok (.istore_n 2, 1) := dk_61 (dk_at dksX6_plainRoom_0 5 rfl rfl)
theorem dX6_plainRoom_6 : decode cX6_plainRoom 6 = .ok (.aload_n 0, 1) := dk_42 (dk_at dksX6_plainRoom_0 6 rfl rfl)
theorem dX6_plainRoom_7 : decode cX6_plainRoom 7 = .ok (.getfield 7, 3) := dk_180 0 7 (dk_at dksX6_plainRoom_0 7 rfl rfl)
theorem dX6_plainRoom_10 : decode cX6_plainRoom 10 = .ok (.aload_n 0, 1) := dk_42 (dk_at dksX6_plainRoom_0 10 rfl rfl)
theorem dX6_plainRoom_11 : decode cX6_plainRoom 11 = .ok (.iload_n 1, 1) := dk_27 (dk_at dksX6_plainRoom_0 11 rfl rfl)
theorem dX6_plainRoom_12 : decode cX6_plainRoom 12 = .ok (.invokevirtual 92, 3) := dk_182 0 92 (dk_at dksX6_plainRoom_0 12 rfl rfl)
theorem dX6_plainRoom_15 : decode cX6_plainRoom 15 = .ok (.iconst 1, 1) := dk_4 (dk_at dksX6_plainRoom_0 15 rfl rfl)
theorem dX6_plainRoom_16 : decode cX6_plainRoom 16 = .ok (.iadd, 1) := dk_96 (dk_at dksX6_plainRoom_0 16 rfl rfl)
theorem dX6_plainRoom_17 : decode cX6_plainRoom 17 = .ok (.iaload, 1) := dk_46 (dk_at dksX6_plainRoom_0 17 rfl rfl)
theorem dX6_plainRoom_18 : decode cX6_plainRoom 18 = .ok (.istore_n 3, 1) := dk_62 (dk_at dksX6_plainRoom_0 18 rfl rfl)
theorem dX6_plainRoom_19 : decode cX6_plainRoom 19 = .ok (.iload_n 2, 1) := dk_28 (dk_at dksX6_plainRoom_0 19 rfl rfl)
theorem dX6_plainRoom_20 : decode cX6_plainRoom 20 = .ok (.ifCond .ge 5, 3) := dk_156 0 5 (dk_at dksX6_plainRoom_0 20 rfl rfl)
theorem dX6_plainRoom_23 : decode cX6_plainRoom 23 = .ok (.iload_n 3, 1) := dk_29 (dk_at dksX6_plainRoom_0 23 rfl rfl)
theorem dX6_plainRoom_24 : decode cX6_plainRoom 24 = .ok (.ireturn, 1) := dk_172 (dk_at dksX6_plainRoom_1 0 rfl rfl)
theorem dX6_plainRoom_25 : decode cX6_plainRoom 25 = .ok (.aload_n 0, 1) := dk_42 (dk_at dksX6_plainRoom_1 1 rfl rfl)
theorem dX6_plainRoom_26 : decode cX6_plainRoom 26 = .ok (.getfield 67, 3) := dk_180 0 67 (dk_at dksX6_plainRoom_1 2 rfl rfl)
theorem dX6_plainRoom_29 : decode cX6_plainRoom 29 = .ok (.bipush 115, 2) := dk_16 115 (dk_at dksX6_plainRoom_1 5 rfl rfl)
theorem dX6_plainRoom_31 : decode cX6_plainRoom 31 = .ok (.iload_n 3, 1) := dk_29 (dk_at dksX6_plainRoom_1 7 rfl rfl)
theorem dX6_plainRoom_32 : decode cX6_plainRoom 32 = .ok (.iastore, 1) := dk_79 (dk_at dksX6_plainRoom_1 8 rfl rfl)
theorem dX6_plainRoom_33 : decode cX6_plainRoom 33 = .ok (.aload_n 0, 1) := dk_42 (dk_at dksX6_plainRoom_1 9 rfl rfl)
theorem dX6_plainRoom_34 : decode cX6_plainRoom 34 = .ok (.getfield 67, 3) := dk_180 0 67 (dk_at dksX6_plainRoom_1 10 rfl rfl)
theorem dX6_plainRoom_37 : decode cX6_plainRoom 37 = .ok (.bipush 110, 2) := dk_16 110 (dk_at dksX6_plainRoom_1 13 rfl rfl)
theorem dX6_plainRoom_39 : decode cX6_plainRoom 39 = .ok (.iload_n 1, 1) := dk_27 (dk_at dksX6_plainRoom_1 15 rfl rfl)
theorem dX6_plainRoom_40 : decode cX6_plainRoom 40 = .ok (.iastore, 1) := dk_79 (dk_at dksX6_plainRoom_1 16 rfl rfl)
theorem dX6_plainRoom_41 : decode cX6_plainRoom 41 = .ok (.aload_n 0, 1) := dk_42 (dk_at dksX6_plainRoom_1 17 rfl rfl)
theorem dX6_plainRoom_42 : decode cX6_plainRoom 42 = .ok (.iload_n 2, 1) := dk_28 (dk_at dksX6_plainRoom_1 18 rfl rfl)
theorem dX6_plainRoom_43 : decode cX6_plainRoom 43 = .ok (.invokevirtual 95, 3) := dk_182 0 95 (dk_at dksX6_plainRoom_1 19 rfl rfl)
theorem dX6_plainRoom_46 : decode cX6_plainRoom 46 = .ok (.istore 4, 2) := dk_54 4 (dk_at dksX6_plainRoom_1 22 rfl rfl)
theorem dX6_plainRoom_48 : decode cX6_plainRoom 48 = .ok (.iload 4, 2) := dk_21 4 (dk_at dksX6_plainRoom_2 0 rfl rfl)
theorem dX6_plainRoom_50 : decode cX6_plainRoom 50 = .ok (.iconst 1, 1) := dk_4 (dk_at dksX6_plainRoom_2 2 rfl rfl)
theorem dX6_plainRoom_51 : decode cX6_plainRoom 51 = .ok (.if_icmp .ge 7, 3) := dk_162 0 7 (dk_at dksX6_plainRoom_2 3 rfl rfl)
theorem dX6_plainRoom_54 : decode cX6_plainRoom 54 = .ok (.iconst 1, 1) := dk_4 (dk_at dksX6_plainRoom_2 6 rfl rfl)
theorem dX6_plainRoom_55 : decode cX6_plainRoom 55 = .ok (.goto 17, 3) := dk_167 0 17 (dk_at dksX6_plainRoom_2 7 rfl rfl)
theorem dX6_plainRoom_58 : decode cX6_plainRoom 58 = .ok (.iload 4, 2) := dk_21 4 (dk_at dksX6_plainRoom_2 10 rfl rfl)
theorem dX6_plainRoom_60 : decode cX6_plainRoom 60 = .ok (.bipush 9, 2) := dk_16 9 (dk_at dksX6_plainRoom_2 12 rfl rfl)
theorem dX6_plainRoom_62 : decode cX6_plainRoom 62 = .ok (.if_icmp .le 8, 3) := dk_164 0 8 (dk_at dksX6_plainRoom_2 14 rfl rfl)
theorem dX6_plainRoom_65 : decode cX6_plainRoom 65 = .ok (.bipush 9, 2) := dk_16 9 (dk_at dksX6_plainRoom_2 17 rfl rfl)
theorem dX6_plainRoom_67 : decode cX6_plainRoom 67 = .ok (.goto 5, 3) := dk_167 0 5 (dk_at dksX6_plainRoom_2 19 rfl rfl)
theorem dX6_plainRoom_70 : decode cX6_plainRoom 70 = .ok (.iload 4, 2) := dk_21 4 (dk_at dksX6_plainRoom_2 22 rfl rfl)
theorem dX6_plainRoom_72 : decode cX6_plainRoom 72 = .ok (.ireturn, 1) := dk_172 (dk_at dksX6_plainRoom_3 0 rfl rfl)
abbrev cX6_counts : ByteArray := prog_19_method_85_code
def yX6_counts : MethodName := ⟨RX6, "counts", "(I)I"⟩
def dkwX6_counts_1 : List UInt8 := [27, 160, 0, 7, 29, 167, 0, 4, 28, 61, 132, 3, 1, 167, 255, 223, 28, 172]
abbrev dktX6_counts_1 : List UInt8 := dkwX6_counts_1 ++ []
def dkwX6_counts_0 : List UInt8 := [2, 61, 3, 62, 29, 42, 180, 0, 7, 4, 46, 162, 0, 29, 42, 180, 0, 7, 42, 29, 182, 1, 64, 46]
abbrev dktX6_counts_0 : List UInt8 := dkwX6_counts_0 ++ dktX6_counts_1
theorem dksX6_counts_0 : cX6_counts.data.toList.drop 0 = dktX6_counts_0 := by decide +kernel
theorem dksX6_counts_1 : cX6_counts.data.toList.drop 24 = dktX6_counts_1 := dk_seg dksX6_counts_0 24 rfl rfl
theorem dX6_counts_0 : decode cX6_counts 0 = .ok (.iconst (-1), 1) := dk_2 (dk_at dksX6_counts_0 0 rfl rfl)
theorem dX6_counts_1 : decode cX6_counts 1 = .ok (.istore_n 2, 1) := dk_61 (dk_at dksX6_counts_0 1 rfl rfl)
theorem dX6_counts_2 : decode cX6_counts 2 = .ok (.iconst 0, 1) := dk_3 (dk_at dksX6_counts_0 2 rfl rfl)
theorem dX6_counts_3 : decode cX6_counts 3 = .ok (.istore_n 3, 1) := dk_62 (dk_at dksX6_counts_0 3 rfl rfl)
theorem dX6_counts_4 : decode cX6_counts 4 = .ok (.iload_n 3, 1) := dk_29 (dk_at dksX6_counts_0 4 rfl rfl)
theorem dX6_counts_5 : decode cX6_counts 5 = .ok (.aload_n 0, 1) := dk_42 (dk_at dksX6_counts_0 5 rfl rfl)
theorem dX6_counts_6 : decode cX6_counts 6 = .ok (.getfield 7, 3) := dk_180 0 7 (dk_at dksX6_counts_0 6 rfl rfl)
theorem dX6_counts_9 : decode cX6_counts 9 = .ok (.iconst 1, 1) := dk_4 (dk_at dksX6_counts_0 9 rfl rfl)
theorem dX6_counts_10 : decode cX6_counts 10 = .ok (.iaload, 1) := dk_46 (dk_at dksX6_counts_0 10 rfl rfl)
theorem dX6_counts_11 : decode cX6_counts 11 = .ok (.if_icmp .ge 29, 3) := dk_162 0 29 (dk_at dksX6_counts_0 11 rfl rfl)
theorem dX6_counts_14 : decode cX6_counts 14 = .ok (.aload_n 0, 1) := dk_42 (dk_at dksX6_counts_0 14 rfl rfl)
theorem dX6_counts_15 : decode cX6_counts 15 = .ok (.getfield 7, 3) := dk_180 0 7 (dk_at dksX6_counts_0 15 rfl rfl)
theorem dX6_counts_18 : decode cX6_counts 18 = .ok (.aload_n 0, 1) := dk_42 (dk_at dksX6_counts_0 18 rfl rfl)
theorem dX6_counts_19 : decode cX6_counts 19 = .ok (.iload_n 3, 1) := dk_29 (dk_at dksX6_counts_0 19 rfl rfl)
theorem dX6_counts_20 : decode cX6_counts 20 = .ok (.invokevirtual 320, 3) := dk_182 1 64 (dk_at dksX6_counts_0 20 rfl rfl)
theorem dX6_counts_23 : decode cX6_counts 23 = .ok (.iaload, 1) := dk_46 (dk_at dksX6_counts_0 23 rfl rfl)
theorem dX6_counts_24 : decode cX6_counts 24 = .ok (.iload_n 1, 1) := dk_27 (dk_at dksX6_counts_1 0 rfl rfl)
theorem dX6_counts_25 : decode cX6_counts 25 = .ok (.if_icmp .ne 7, 3) := dk_160 0 7 (dk_at dksX6_counts_1 1 rfl rfl)
theorem dX6_counts_28 : decode cX6_counts 28 = .ok (.iload_n 3, 1) := dk_29 (dk_at dksX6_counts_1 4 rfl rfl)
theorem dX6_counts_29 : decode cX6_counts 29 = .ok (.goto 4, 3) := dk_167 0 4 (dk_at dksX6_counts_1 5 rfl rfl)
theorem dX6_counts_32 : decode cX6_counts 32 = .ok (.iload_n 2, 1) := dk_28 (dk_at dksX6_counts_1 8 rfl rfl)
theorem dX6_counts_33 : decode cX6_counts 33 = .ok (.istore_n 2, 1) := dk_61 (dk_at dksX6_counts_1 9 rfl rfl)
theorem dX6_counts_34 : decode cX6_counts 34 = .ok (.iinc 3 1, 3) := dk_132 3 1 (dk_at dksX6_counts_1 10 rfl rfl)
theorem dX6_counts_37 : decode cX6_counts 37 = .ok (.goto (-33), 3) := dk_167 255 223 (dk_at dksX6_counts_1 13 rfl rfl)
theorem dX6_counts_40 : decode cX6_counts 40 = .ok (.iload_n 2, 1) := dk_28 (dk_at dksX6_counts_1 16 rfl rfl)
theorem dX6_counts_41 : decode cX6_counts 41 = .ok (.ireturn, 1) := dk_172 (dk_at dksX6_counts_1 17 rfl rfl)
abbrev cX6_textAt : ByteArray := prog_19_method_6_code
def yX6_textAt : MethodName := ⟨RX6, "textAt", "(I)I"⟩
def dkwX6_textAt_0 : List UInt8 := [16, 98, 17, 0, 200, 27, 104, 96, 172]
abbrev dktX6_textAt_0 : List UInt8 := dkwX6_textAt_0 ++ []
theorem dksX6_textAt_0 : cX6_textAt.data.toList.drop 0 = dktX6_textAt_0 := by decide +kernel
theorem dX6_textAt_0 : decode cX6_textAt 0 = .ok (.bipush 98, 2) := dk_16 98 (dk_at dksX6_textAt_0 0 rfl rfl)
theorem dX6_textAt_2 : decode cX6_textAt 2 = .ok (.sipush 200, 3) := dk_17 0 200 (dk_at dksX6_textAt_0 2 rfl rfl)
theorem dX6_textAt_5 : decode cX6_textAt 5 = .ok (.iload_n 1, 1) := dk_27 (dk_at dksX6_textAt_0 5 rfl rfl)
theorem dX6_textAt_6 : decode cX6_textAt 6 = .ok (.imul, 1) := dk_104 (dk_at dksX6_textAt_0 6 rfl rfl)
theorem dX6_textAt_7 : decode cX6_textAt 7 = .ok (.iadd, 1) := dk_96 (dk_at dksX6_textAt_0 7 rfl rfl)
theorem dX6_textAt_8 : decode cX6_textAt 8 = .ok (.ireturn, 1) := dk_172 (dk_at dksX6_textAt_0 8 rfl rfl)
abbrev cX6_worked : ByteArray := prog_19_method_88_code
def yX6_worked : MethodName := ⟨RX6, "worked", "(I)I"⟩
def dkwX6_worked_7 : List UInt8 := [3, 46, 172]
abbrev dktX6_worked_7 : List UInt8 := dkwX6_worked_7 ++ []
def dkwX6_worked_6 : List UInt8 := [28, 4, 100, 46, 42, 180, 0, 70, 28, 46, 184, 1, 76, 79, 132, 3, 1, 167, 255, 100, 42, 180, 0, 70]
abbrev dktX6_worked_6 : List UInt8 := dkwX6_worked_6 ++ dktX6_worked_7
def dkwX6_worked_5 : List UInt8 := [167, 0, 4, 3, 79, 167, 0, 33, 132, 2, 255, 42, 180, 0, 70, 28, 4, 100, 21, 5, 42, 180, 0, 70]
abbrev dktX6_worked_5 : List UInt8 := dkwX6_worked_5 ++ dktX6_worked_6
def dkwX6_worked_4 : List UInt8 := [16, 33, 160, 0, 30, 42, 180, 0, 70, 28, 4, 100, 42, 180, 0, 70, 28, 4, 100, 46, 154, 0, 7, 4]
abbrev dktX6_worked_4 : List UInt8 := dkwX6_worked_4 ++ dktX6_worked_5
def dkwX6_worked_3 : List UInt8 := [154, 0, 8, 21, 5, 167, 0, 10, 42, 180, 0, 67, 21, 5, 46, 79, 132, 2, 1, 167, 0, 67, 21, 5]
abbrev dktX6_worked_3 : List UInt8 := dkwX6_worked_3 ++ dktX6_worked_4
def dkwX6_worked_2 : List UInt8 := [96, 5, 29, 104, 96, 4, 96, 46, 54, 5, 21, 4, 5, 159, 0, 32, 42, 180, 0, 70, 28, 21, 4]
abbrev dktX6_worked_2 : List UInt8 := dkwX6_worked_2 ++ dktX6_worked_3
def dkwX6_worked_1 : List UInt8 := [42, 27, 182, 1, 64, 7, 96, 5, 29, 104, 96, 46, 54, 4, 42, 180, 0, 7, 42, 27, 182, 1, 64, 7]
abbrev dktX6_worked_1 : List UInt8 := dkwX6_worked_1 ++ dktX6_worked_2
def dkwX6_worked_0 : List UInt8 := [3, 61, 3, 62, 29, 42, 180, 0, 7, 42, 27, 182, 1, 64, 5, 96, 46, 162, 0, 146, 42, 180, 0, 7]
abbrev dktX6_worked_0 : List UInt8 := dkwX6_worked_0 ++ dktX6_worked_1
theorem dksX6_worked_0 : cX6_worked.data.toList.drop 0 = dktX6_worked_0 := by decide +kernel
theorem dksX6_worked_1 : cX6_worked.data.toList.drop 24 = dktX6_worked_1 := dk_seg dksX6_worked_0 24 rfl rfl
theorem dksX6_worked_2 : cX6_worked.data.toList.drop 48 = dktX6_worked_2 := dk_seg dksX6_worked_1 24 rfl rfl
theorem dksX6_worked_3 : cX6_worked.data.toList.drop 71 = dktX6_worked_3 := dk_seg dksX6_worked_2 23 rfl rfl
theorem dksX6_worked_4 : cX6_worked.data.toList.drop 95 = dktX6_worked_4 := dk_seg dksX6_worked_3 24 rfl rfl
theorem dksX6_worked_5 : cX6_worked.data.toList.drop 119 = dktX6_worked_5 := dk_seg dksX6_worked_4 24 rfl rfl
theorem dksX6_worked_6 : cX6_worked.data.toList.drop 143 = dktX6_worked_6 := dk_seg dksX6_worked_5 24 rfl rfl
theorem dksX6_worked_7 : cX6_worked.data.toList.drop 167 = dktX6_worked_7 := dk_seg dksX6_worked_6 24 rfl rfl
theorem dX6_worked_0 : decode cX6_worked 0 = .ok (.iconst 0, 1) := dk_3 (dk_at dksX6_worked_0 0 rfl rfl)
theorem dX6_worked_1 : decode cX6_worked 1 = .ok (.istore_n 2, 1) := dk_61 (dk_at dksX6_worked_0 1 rfl rfl)
theorem dX6_worked_2 : decode cX6_worked 2 = .ok (.iconst 0, 1) := dk_3 (dk_at dksX6_worked_0 2 rfl rfl)
theorem dX6_worked_3 : decode cX6_worked 3 = .ok (.istore_n 3, 1) := dk_62 (dk_at dksX6_worked_0 3 rfl rfl)
theorem dX6_worked_4 : decode cX6_worked 4 = .ok (.iload_n 3, 1) := dk_29 (dk_at dksX6_worked_0 4 rfl rfl)
theorem dX6_worked_5 : decode cX6_worked 5 = .ok (.aload_n 0, 1) := dk_42 (dk_at dksX6_worked_0 5 rfl rfl)
theorem dX6_worked_6 : decode cX6_worked 6 = .ok (.getfield 7, 3) := dk_180 0 7 (dk_at dksX6_worked_0 6 rfl rfl)
theorem dX6_worked_9 : decode cX6_worked 9 = .ok (.aload_n 0, 1) := dk_42 (dk_at dksX6_worked_0 9 rfl rfl)
theorem dX6_worked_10 : decode cX6_worked 10 = .ok (.iload_n 1, 1) := dk_27 (dk_at dksX6_worked_0 10 rfl rfl)
theorem dX6_worked_11 : decode cX6_worked 11 = .ok (.invokevirtual 320, 3) := dk_182 1 64 (dk_at dksX6_worked_0 11 rfl rfl)
theorem dX6_worked_14 : decode cX6_worked 14 = .ok (.iconst 2, 1) := dk_5 (dk_at dksX6_worked_0 14 rfl rfl)
theorem dX6_worked_15 : decode cX6_worked 15 = .ok (.iadd, 1) := dk_96 (dk_at dksX6_worked_0 15 rfl rfl)
theorem dX6_worked_16 : decode cX6_worked 16 = .ok (.iaload, 1) := dk_46 (dk_at dksX6_worked_0 16 rfl rfl)
theorem dX6_worked_17 : decode cX6_worked 17 = .ok (.if_icmp .ge 146, 3) := dk_162 0 146 (dk_at dksX6_worked_0 17 rfl rfl)
theorem dX6_worked_20 : decode cX6_worked 20 = .ok (.aload_n 0, 1) := dk_42 (dk_at dksX6_worked_0 20 rfl rfl)
theorem dX6_worked_21 : decode cX6_worked 21 = .ok (.getfield 7, 3) := dk_180 0 7 (dk_at dksX6_worked_0 21 rfl rfl)
theorem dX6_worked_24 : decode cX6_worked 24 = .ok (.aload_n 0, 1) := dk_42 (dk_at dksX6_worked_1 0 rfl rfl)
theorem dX6_worked_25 : decode cX6_worked 25 = .ok (.iload_n 1, 1) := dk_27 (dk_at dksX6_worked_1 1 rfl rfl)
theorem dX6_worked_26 : decode cX6_worked 26 = .ok (.invokevirtual 320, 3) := dk_182 1 64 (dk_at dksX6_worked_1 2 rfl rfl)
theorem dX6_worked_29 : decode cX6_worked 29 = .ok (.iconst 4, 1) := dk_7 (dk_at dksX6_worked_1 5 rfl rfl)
theorem dX6_worked_30 : decode cX6_worked 30 = .ok (.iadd, 1) := dk_96 (dk_at dksX6_worked_1 6 rfl rfl)
theorem dX6_worked_31 : decode cX6_worked 31 = .ok (.iconst 2, 1) := dk_5 (dk_at dksX6_worked_1 7 rfl rfl)
theorem dX6_worked_32 : decode cX6_worked 32 = .ok (.iload_n 3, 1) := dk_29 (dk_at dksX6_worked_1 8 rfl rfl)
theorem dX6_worked_33 : decode cX6_worked 33 = .ok (.imul, 1) := dk_104 (dk_at dksX6_worked_1 9 rfl rfl)
theorem dX6_worked_34 : decode cX6_worked 34 = .ok (.iadd, 1) := dk_96 (dk_at dksX6_worked_1 10 rfl rfl)
theorem dX6_worked_35 : decode cX6_worked 35 = .ok (.iaload, 1) := dk_46 (dk_at dksX6_worked_1 11 rfl rfl)
theorem dX6_worked_36 : decode cX6_worked 36 = .ok (.istore 4, 2) := dk_54 4 (dk_at dksX6_worked_1 12 rfl rfl)
theorem dX6_worked_38 : decode cX6_worked 38 = .ok (.aload_n 0, 1) := dk_42 (dk_at dksX6_worked_1 14 rfl rfl)
theorem dX6_worked_39 : decode cX6_worked 39 = .ok (.getfield 7, 3) := dk_180 0 7 (dk_at dksX6_worked_1 15 rfl rfl)
theorem dX6_worked_42 : decode cX6_worked 42 = .ok (.aload_n 0, 1) := dk_42 (dk_at dksX6_worked_1 18 rfl rfl)
theorem dX6_worked_43 : decode cX6_worked 43 = .ok (.iload_n 1, 1) := dk_27 (dk_at dksX6_worked_1 19 rfl rfl)
theorem dX6_worked_44 : decode cX6_worked 44 = .ok (.invokevirtual 320, 3) := dk_182 1 64 (dk_at dksX6_worked_1 20 rfl rfl)
theorem dX6_worked_47 : decode cX6_worked 47 = .ok (.iconst 4, 1) := dk_7 (dk_at dksX6_worked_1 23 rfl rfl)
theorem dX6_worked_48 : decode cX6_worked 48 = .ok (.iadd, 1) := dk_96 (dk_at dksX6_worked_2 0 rfl rfl)
theorem dX6_worked_49 : decode cX6_worked 49 = .ok (.iconst 2, 1) := dk_5 (dk_at dksX6_worked_2 1 rfl rfl)
theorem dX6_worked_50 : decode cX6_worked 50 = .ok (.iload_n 3, 1) := dk_29 (dk_at dksX6_worked_2 2 rfl rfl)
theorem dX6_worked_51 : decode cX6_worked 51 = .ok (.imul, 1) := dk_104 (dk_at dksX6_worked_2 3 rfl rfl)
theorem dX6_worked_52 : decode cX6_worked 52 = .ok (.iadd, 1) := dk_96 (dk_at dksX6_worked_2 4 rfl rfl)
theorem dX6_worked_53 : decode cX6_worked 53 = .ok (.iconst 1, 1) := dk_4 (dk_at dksX6_worked_2 5 rfl rfl)
theorem dX6_worked_54 : decode cX6_worked 54 = .ok (.iadd, 1) := dk_96 (dk_at dksX6_worked_2 6 rfl rfl)
theorem dX6_worked_55 : decode cX6_worked 55 = .ok (.iaload, 1) := dk_46 (dk_at dksX6_worked_2 7 rfl rfl)
theorem dX6_worked_56 : decode cX6_worked 56 = .ok (.istore 5, 2) := dk_54 5 (dk_at dksX6_worked_2 8 rfl rfl)
theorem dX6_worked_58 : decode cX6_worked 58 = .ok (.iload 4, 2) := dk_21 4 (dk_at dksX6_worked_2 10 rfl rfl)
theorem dX6_worked_60 : decode cX6_worked 60 = .ok (.iconst 2, 1) := dk_5 (dk_at dksX6_worked_2 12 rfl rfl)
theorem dX6_worked_61 : decode cX6_worked 61 = .ok (.if_icmp .eq 32, 3) := dk_159 0 32 (dk_at dksX6_worked_2 13 rfl rfl)
theorem dX6_worked_64 : decode cX6_worked 64 = .ok (.aload_n 0, 1) := dk_42 (dk_at dksX6_worked_2 16 rfl rfl)
theorem dX6_worked_65 : decode cX6_worked 65 = .ok (.getfield 70, 3) := dk_180 0 70 (dk_at dksX6_worked_2 17 rfl rfl)
theorem dX6_worked_68 : decode cX6_worked 68 = .ok (.iload_n 2, 1) := dk_28 (dk_at dksX6_worked_2 20 rfl rfl)
theorem dX6_worked_69 : decode cX6_worked 69 = .ok (.iload 4, 2) := dk_21 4 (dk_at dksX6_worked_2 21 rfl rfl)
theorem dX6_worked_71 : decode cX6_worked 71 = .ok (.ifCond .ne 8, 3) := dk_154 0 8 (dk_at dksX6_worked_3 0 rfl rfl)
theorem dX6_worked_74 : decode cX6_worked 74 = .ok (.iload 5, 2) := dk_21 5 (dk_at dksX6_worked_3 3 rfl rfl)
theorem dX6_worked_76 : decode cX6_worked 76 = .ok (.goto 10, 3) := dk_167 0 10 (dk_at dksX6_worked_3 5 rfl rfl)
theorem dX6_worked_79 : decode cX6_worked 79 = .ok (.aload_n 0, 1) := dk_42 (dk_at dksX6_worked_3 8 rfl rfl)
theorem dX6_worked_80 : decode cX6_worked 80 = .ok (.getfield 67, 3) := dk_180 0 67 (dk_at dksX6_worked_3 9 rfl rfl)
theorem dX6_worked_83 : decode cX6_worked 83 = .ok (.iload 5, 2) := dk_21 5 (dk_at dksX6_worked_3 12 rfl rfl)
theorem dX6_worked_85 : decode cX6_worked 85 = .ok (.iaload, 1) := dk_46 (dk_at dksX6_worked_3 14 rfl rfl)
theorem dX6_worked_86 : decode cX6_worked 86 = .ok (.iastore, 1) := dk_79 (dk_at dksX6_worked_3 15 rfl rfl)
theorem dX6_worked_87 : decode cX6_worked 87 = .ok (.iinc 2 1, 3) := dk_132 2 1 (dk_at dksX6_worked_3 16 rfl rfl)
theorem dX6_worked_90 : decode cX6_worked 90 = .ok (.goto 67, 3) := dk_167 0 67 (dk_at dksX6_worked_3 19 rfl rfl)
theorem dX6_worked_93 : decode cX6_worked 93 = .ok (.iload 5, 2) := dk_21 5 (dk_at dksX6_worked_3 22 rfl rfl)
theorem dX6_worked_95 : decode cX6_worked 95 = .ok (.bipush 33, 2) := dk_16 33 (dk_at dksX6_worked_4 0 rfl rfl)
theorem dX6_worked_97 : decode cX6_worked 97 = .ok (.if_icmp .ne 30, 3) := dk_160 0 30 (dk_at dksX6_worked_4 2 rfl rfl)
theorem dX6_worked_100 : decode cX6_worked 100 = .ok (.aload_n 0, 1) := dk_42 (dk_at dksX6_worked_4 5 rfl rfl)
theorem dX6_worked_101 : decode cX6_worked 101 = .ok (.getfield 70, 3) := dk_180 0 70 (dk_at dksX6_worked_4 6 rfl rfl)
theorem dX6_worked_104 : decode cX6_worked 104 = .ok (.iload_n 2, 1) := dk_28 (dk_at dksX6_worked_4 9 rfl rfl)
theorem dX6_worked_105 : decode cX6_worked 105 = .ok (.iconst 1, 1) := dk_4 (dk_at dksX6_worked_4 10 rfl rfl)
theorem dX6_worked_106 : decode cX6_worked 106 = .ok (.isub, 1) := dk_100 (dk_at dksX6_worked_4 11 rfl rfl)
theorem dX6_worked_107 : decode cX6_worked 107 = .ok (.aload_n 0, 1) := dk_42 (dk_at dksX6_worked_4 12 rfl rfl)
theorem dX6_worked_108 : decode cX6_worked 108 = .ok (.getfield 70, 3) := dk_180 0 70 (dk_at dksX6_worked_4 13 rfl rfl)
theorem dX6_worked_111 : decode cX6_worked 111 = .ok (.iload_n 2, 1) := dk_28 (dk_at dksX6_worked_4 16 rfl rfl)
theorem dX6_worked_112 : decode cX6_worked 112 = .ok (.iconst 1, 1) := dk_4 (dk_at dksX6_worked_4 17 rfl rfl)
theorem dX6_worked_113 : decode cX6_worked 113 = .ok (.isub, 1) := dk_100 (dk_at dksX6_worked_4 18 rfl rfl)
theorem dX6_worked_114 : decode cX6_worked 114 = .ok (.iaload, 1) := dk_46 (dk_at dksX6_worked_4 19 rfl rfl)
theorem dX6_worked_115 : decode cX6_worked 115 = .ok (.ifCond .ne 7, 3) := dk_154 0 7 (dk_at dksX6_worked_4 20 rfl rfl)
theorem dX6_worked_118 : decode cX6_worked 118 = .ok (.iconst 1, 1) := dk_4 (dk_at dksX6_worked_4 23 rfl rfl)
theorem dX6_worked_119 : decode cX6_worked 119 = .ok (.goto 4, 3) := dk_167 0 4 (dk_at dksX6_worked_5 0 rfl rfl)
theorem dX6_worked_122 : decode cX6_worked 122 = .ok (.iconst 0, 1) := dk_3 (dk_at dksX6_worked_5 3 rfl rfl)
theorem dX6_worked_123 : decode cX6_worked 123 = .ok (.iastore, 1) := dk_79 (dk_at dksX6_worked_5 4 rfl rfl)
theorem dX6_worked_124 : decode cX6_worked 124 = .ok (.goto 33, 3) := dk_167 0 33 (dk_at dksX6_worked_5 5 rfl rfl)
theorem dX6_worked_127 : decode cX6_worked 127 = .ok (.iinc 2 (-1), 3) := dk_132 2 255 (dk_at dksX6_worked_5 8 rfl rfl)
theorem dX6_worked_130 : decode cX6_worked 130 = .ok (.aload_n 0, 1) := dk_42 (dk_at dksX6_worked_5 11 rfl rfl)
theorem dX6_worked_131 : decode cX6_worked 131 = .ok (.getfield 70, 3) := dk_180 0 70 (dk_at dksX6_worked_5 12 rfl rfl)
theorem dX6_worked_134 : decode cX6_worked 134 = .ok (.iload_n 2, 1) := dk_28 (dk_at dksX6_worked_5 15 rfl rfl)
theorem dX6_worked_135 : decode cX6_worked 135 = .ok (.iconst 1, 1) := dk_4 (dk_at dksX6_worked_5 16 rfl rfl)
theorem dX6_worked_136 : decode cX6_worked 136 = .ok (.isub, 1) := dk_100 (dk_at dksX6_worked_5 17 rfl rfl)
theorem dX6_worked_137 : decode cX6_worked 137 = .ok (.iload 5, 2) := dk_21 5 (dk_at dksX6_worked_5 18 rfl rfl)
theorem dX6_worked_139 : decode cX6_worked 139 = .ok (.aload_n 0, 1) := dk_42 (dk_at dksX6_worked_5 20 rfl rfl)
theorem dX6_worked_140 : decode cX6_worked 140 = .ok (.getfield 70, 3) := dk_180 0 70 (dk_at dksX6_worked_5 21 rfl rfl)
theorem dX6_worked_143 : decode cX6_worked 143 = .ok (.iload_n 2, 1) := dk_28 (dk_at dksX6_worked_6 0 rfl rfl)
theorem dX6_worked_144 : decode cX6_worked 144 = .ok (.iconst 1, 1) := dk_4 (dk_at dksX6_worked_6 1 rfl rfl)
theorem dX6_worked_145 : decode cX6_worked 145 = .ok (.isub, 1) := dk_100 (dk_at dksX6_worked_6 2 rfl rfl)
theorem dX6_worked_146 : decode cX6_worked 146 = .ok (.iaload, 1) := dk_46 (dk_at dksX6_worked_6 3 rfl rfl)
theorem dX6_worked_147 : decode cX6_worked 147 = .ok (.aload_n 0, 1) := dk_42 (dk_at dksX6_worked_6 4 rfl rfl)
theorem dX6_worked_148 : decode cX6_worked 148 = .ok (.getfield 70, 3) := dk_180 0 70 (dk_at dksX6_worked_6 5 rfl rfl)
theorem dX6_worked_151 : decode cX6_worked 151 = .ok (.iload_n 2, 1) := dk_28 (dk_at dksX6_worked_6 8 rfl rfl)
theorem dX6_worked_152 : decode cX6_worked 152 = .ok (.iaload, 1) := dk_46 (dk_at dksX6_worked_6 9 rfl rfl)
theorem dX6_worked_153 : decode cX6_worked 153 = .ok (.invokestatic 332, 3) := dk_184 1 76 (dk_at dksX6_worked_6 10 rfl rfl)
theorem dX6_worked_156 : decode cX6_worked 156 = .ok (.iastore, 1) := dk_79 (dk_at dksX6_worked_6 13 rfl rfl)
theorem dX6_worked_157 : decode cX6_worked 157 = .ok (.iinc 3 1, 3) := dk_132 3 1 (dk_at dksX6_worked_6 14 rfl rfl)
theorem dX6_worked_160 : decode cX6_worked 160 = .ok (.goto (-156), 3) := dk_167 255 100 (dk_at dksX6_worked_6 17 rfl rfl)
theorem dX6_worked_163 : decode cX6_worked 163 = .ok (.aload_n 0, 1) := dk_42 (dk_at dksX6_worked_6 20 rfl rfl)
theorem dX6_worked_164 : decode cX6_worked 164 = .ok (.getfield 70, 3) := dk_180 0 70 (dk_at dksX6_worked_6 21 rfl rfl)
theorem dX6_worked_167 : decode cX6_worked 167 = .ok (.iconst 0, 1) := dk_3 (dk_at dksX6_worked_7 0 rfl rfl)
theorem dX6_worked_168 : decode cX6_worked 168 = .ok (.iaload, 1) := dk_46 (dk_at dksX6_worked_7 1 rfl rfl)
theorem dX6_worked_169 : decode cX6_worked 169 = .ok (.ireturn, 1) := dk_172 (dk_at dksX6_worked_7 2 rfl rfl)
abbrev cX6_joined : ByteArray := prog_19_method_87_code
def yX6_joined : MethodName := ⟨RX6, "joined", "(III)I"⟩
def dkwX6_joined_6 : List UInt8 := [167, 0, 4, 3, 172]
abbrev dktX6_joined_6 : List UInt8 := dkwX6_joined_6 ++ []
def dkwX6_joined_5 : List UInt8 := [153, 0, 11, 28, 153, 0, 7, 4, 167, 0, 4, 3, 172, 27, 154, 0, 7, 28, 153, 0, 7, 4]
abbrev dktX6_joined_5 : List UInt8 := dkwX6_joined_5 ++ dktX6_joined_6
def dkwX6_joined_4 : List UInt8 := [28, 164, 0, 7, 4, 167, 0, 4, 3, 172, 27, 28, 160, 0, 7, 4, 167, 0, 4, 3, 172, 27]
abbrev dktX6_joined_4 : List UInt8 := dkwX6_joined_4 ++ dktX6_joined_5
def dkwX6_joined_3 : List UInt8 := [160, 0, 8, 27, 116, 167, 0, 6, 27, 28, 108, 172, 27, 28, 162, 0, 7, 4, 167, 0, 4, 3, 172, 27]
abbrev dktX6_joined_3 : List UInt8 := dkwX6_joined_3 ++ dktX6_joined_4
def dkwX6_joined_2 : List UInt8 := [27, 28, 96, 172, 27, 28, 100, 172, 27, 28, 104, 172, 28, 154, 0, 7, 3, 167, 0, 16, 28, 2]
abbrev dktX6_joined_2 : List UInt8 := dkwX6_joined_2 ++ dktX6_joined_3
def dkwX6_joined_1 : List UInt8 := [170, 0, 0, 0, 0, 0, 196, 0, 0, 0, 38, 0, 0, 0, 62, 0, 0, 0, 182, 0, 0, 0, 196, 0, 0, 0, 196, 0, 0, 0, 196, 0, 0, 0, 123, 0, 0, 0, 115, 0, 0, 0, 196, 0, 0, 0, 119, 0, 0, 0, 196, 0, 0, 0, 127, 0, 0, 0, 196, 0, 0, 0, 196, 0, 0, 0, 196, 0, 0, 0, 196, 0, 0, 0, 196, 0, 0, 0, 196, 0, 0, 0, 196, 0, 0, 0, 196, 0, 0, 0, 196, 0, 0, 0, 196, 0, 0, 0, 196, 0, 0, 0, 196, 0, 0, 0, 149, 0, 0, 0, 171, 0, 0, 0, 160]
abbrev dktX6_joined_1 : List UInt8 := dkwX6_joined_1 ++ dktX6_joined_2
def dkwX6_joined_0 : List UInt8 := [26]
abbrev dktX6_joined_0 : List UInt8 := dkwX6_joined_0 ++ dktX6_joined_1
theorem dksX6_joined_0 : cX6_joined.data.toList.drop 0 = dktX6_joined_0 := by decide +kernel
theorem dksX6_joined_1 : cX6_joined.data.toList.drop 1 = dktX6_joined_1 := dk_seg dksX6_joined_0 1 rfl rfl
theorem dksX6_joined_2 : cX6_joined.data.toList.drop 116 = dktX6_joined_2 := dk_seg dksX6_joined_1 115 rfl rfl
theorem dksX6_joined_3 : cX6_joined.data.toList.drop 138 = dktX6_joined_3 := dk_seg dksX6_joined_2 22 rfl rfl
theorem dksX6_joined_4 : cX6_joined.data.toList.drop 162 = dktX6_joined_4 := dk_seg dksX6_joined_3 24 rfl rfl
theorem dksX6_joined_5 : cX6_joined.data.toList.drop 184 = dktX6_joined_5 := dk_seg dksX6_joined_4 22 rfl rfl
theorem dksX6_joined_6 : cX6_joined.data.toList.drop 206 = dktX6_joined_6 := dk_seg dksX6_joined_5 22 rfl rfl
theorem dX6_joined_0 : decode cX6_joined 0 = .ok (.iload_n 0, 1) := dk_26 (dk_at dksX6_joined_0 0 rfl rfl)
theorem dX6_joined_1 : decode cX6_joined 1 = .ok (.tableswitch 196 38 62 #[182, 196, 196, 196, 123, 115, 196, 119, 196, 127, 196, 196, 196, 196, 196, 196, 196, 196, 196, 196, 196, 196, 149, 171, 160], 115) := by decide +kernel
theorem dX6_joined_116 : decode cX6_joined 116 = .ok (.iload_n 1, 1) := dk_27 (dk_at dksX6_joined_2 0 rfl rfl)
theorem dX6_joined_117 : decode cX6_joined 117 = .ok (.iload_n 2, 1) := dk_28 (dk_at dksX6_joined_2 1 rfl rfl)
theorem dX6_joined_118 : decode cX6_joined 118 = .ok (.iadd, 1) := dk_96 (dk_at dksX6_joined_2 2 rfl rfl)
theorem dX6_joined_119 : decode cX6_joined 119 = .ok (.ireturn, 1) := dk_172 (dk_at dksX6_joined_2 3 rfl rfl)
theorem dX6_joined_120 : decode cX6_joined 120 = .ok (.iload_n 1, 1) := dk_27 (dk_at dksX6_joined_2 4 rfl rfl)
theorem dX6_joined_121 : decode cX6_joined 121 = .ok (.iload_n 2, 1) := dk_28 (dk_at dksX6_joined_2 5 rfl rfl)
theorem dX6_joined_122 : decode cX6_joined 122 = .ok (.isub, 1) := dk_100 (dk_at dksX6_joined_2 6 rfl rfl)
theorem dX6_joined_123 : decode cX6_joined 123 = .ok (.ireturn, 1) := dk_172 (dk_at dksX6_joined_2 7 rfl rfl)
theorem dX6_joined_124 : decode cX6_joined 124 = .ok (.iload_n 1, 1) := dk_27 (dk_at dksX6_joined_2 8 rfl rfl)
theorem dX6_joined_125 : decode cX6_joined 125 = .ok (.iload_n 2, 1) := dk_28 (dk_at dksX6_joined_2 9 rfl rfl)
theorem dX6_joined_126 : decode cX6_joined 126 = .ok (.imul, 1) := dk_104 (dk_at dksX6_joined_2 10 rfl rfl)
theorem dX6_joined_127 : decode cX6_joined 127 = .ok (.ireturn, 1) := dk_172 (dk_at dksX6_joined_2 11 rfl rfl)
theorem dX6_joined_128 : decode cX6_joined 128 = .ok (.iload_n 2, 1) := dk_28 (dk_at dksX6_joined_2 12 rfl rfl)
theorem dX6_joined_129 : decode cX6_joined 129 = .ok (.ifCond .ne 7, 3) := dk_154 0 7 (dk_at dksX6_joined_2 13 rfl rfl)
theorem dX6_joined_132 : decode cX6_joined 132 = .ok (.iconst 0, 1) := dk_3 (dk_at dksX6_joined_2 16 rfl rfl)
theorem dX6_joined_133 : decode cX6_joined 133 = .ok (.goto 16, 3) := dk_167 0 16 (dk_at dksX6_joined_2 17 rfl rfl)
theorem dX6_joined_136 : decode cX6_joined 136 = .ok (.iload_n 2, 1) := dk_28 (dk_at dksX6_joined_2 20 rfl rfl)
theorem dX6_joined_137 : decode cX6_joined 137 = .ok (.iconst (-1), 1) := dk_2 (dk_at dksX6_joined_2 21 rfl rfl)
theorem dX6_joined_138 : decode cX6_joined 138 = .ok (.if_icmp .ne 8, 3) := dk_160 0 8 (dk_at dksX6_joined_3 0 rfl rfl)
theorem dX6_joined_141 : decode cX6_joined 141 = .ok (.iload_n 1, 1) := dk_27 (dk_at dksX6_joined_3 3 rfl rfl)
theorem dX6_joined_142 : decode cX6_joined 142 = .ok (.ineg, 1) := dk_116 (dk_at dksX6_joined_3 4 rfl rfl)
theorem dX6_joined_143 : decode cX6_joined 143 = .ok (.goto 6, 3) := dk_167 0 6 (dk_at dksX6_joined_3 5 rfl rfl)
theorem dX6_joined_146 : decode cX6_joined 146 = .ok (.iload_n 1, 1) := dk_27 (dk_at dksX6_joined_3 8 rfl rfl)
theorem dX6_joined_147 : decode cX6_joined 147 = .ok (.iload_n 2, 1) := dk_28 (dk_at dksX6_joined_3 9 rfl rfl)
theorem dX6_joined_148 : decode cX6_joined 148 = .ok (.idiv, 1) := dk_108 (dk_at dksX6_joined_3 10 rfl rfl)
theorem dX6_joined_149 : decode cX6_joined 149 = .ok (.ireturn, 1) := dk_172 (dk_at dksX6_joined_3 11 rfl rfl)
theorem dX6_joined_150 : decode cX6_joined 150 = .ok (.iload_n 1, 1) := dk_27 (dk_at dksX6_joined_3 12 rfl rfl)
theorem dX6_joined_151 : decode cX6_joined 151 = .ok (.iload_n 2, 1) := dk_28 (dk_at dksX6_joined_3 13 rfl rfl)
theorem dX6_joined_152 : decode cX6_joined 152 = .ok (.if_icmp .ge 7, 3) := dk_162 0 7 (dk_at dksX6_joined_3 14 rfl rfl)
theorem dX6_joined_155 : decode cX6_joined 155 = .ok (.iconst 1, 1) := dk_4 (dk_at dksX6_joined_3 17 rfl rfl)
theorem dX6_joined_156 : decode cX6_joined 156 = .ok (.goto 4, 3) := dk_167 0 4 (dk_at dksX6_joined_3 18 rfl rfl)
theorem dX6_joined_159 : decode cX6_joined 159 = .ok (.iconst 0, 1) := dk_3 (dk_at dksX6_joined_3 21 rfl rfl)
theorem dX6_joined_160 : decode cX6_joined 160 = .ok (.ireturn, 1) := dk_172 (dk_at dksX6_joined_3 22 rfl rfl)
theorem dX6_joined_161 : decode cX6_joined 161 = .ok (.iload_n 1, 1) := dk_27 (dk_at dksX6_joined_3 23 rfl rfl)
theorem dX6_joined_162 : decode cX6_joined 162 = .ok (.iload_n 2, 1) := dk_28 (dk_at dksX6_joined_4 0 rfl rfl)
theorem dX6_joined_163 : decode cX6_joined 163 = .ok (.if_icmp .le 7, 3) := dk_164 0 7 (dk_at dksX6_joined_4 1 rfl rfl)
theorem dX6_joined_166 : decode cX6_joined 166 = .ok (.iconst 1, 1) := dk_4 (dk_at dksX6_joined_4 4 rfl rfl)
theorem dX6_joined_167 : decode cX6_joined 167 = .ok (.goto 4, 3) := dk_167 0 4 (dk_at dksX6_joined_4 5 rfl rfl)
theorem dX6_joined_170 : decode cX6_joined 170 = .ok (.iconst 0, 1) := dk_3 (dk_at dksX6_joined_4 8 rfl rfl)
theorem dX6_joined_171 : decode cX6_joined 171 = .ok (.ireturn, 1) := dk_172 (dk_at dksX6_joined_4 9 rfl rfl)
theorem dX6_joined_172 : decode cX6_joined 172 = .ok (.iload_n 1, 1) := dk_27 (dk_at dksX6_joined_4 10 rfl rfl)
theorem dX6_joined_173 : decode cX6_joined 173 = .ok (.iload_n 2, 1) := dk_28 (dk_at dksX6_joined_4 11 rfl rfl)
theorem dX6_joined_174 : decode cX6_joined 174 = .ok (.if_icmp .ne 7, 3) := dk_160 0 7 (dk_at dksX6_joined_4 12 rfl rfl)
theorem dX6_joined_177 : decode cX6_joined 177 = .ok (.iconst 1, 1) := dk_4 (dk_at dksX6_joined_4 15 rfl rfl)
theorem dX6_joined_178 : decode cX6_joined 178 = .ok (.goto 4, 3) := dk_167 0 4 (dk_at dksX6_joined_4 16 rfl rfl)
theorem dX6_joined_181 : decode cX6_joined 181 = .ok (.iconst 0, 1) := dk_3 (dk_at dksX6_joined_4 19 rfl rfl)
theorem dX6_joined_182 : decode cX6_joined 182 = .ok (.ireturn, 1) := dk_172 (dk_at dksX6_joined_4 20 rfl rfl)
theorem dX6_joined_183 : decode cX6_joined 183 = .ok (.iload_n 1, 1) := dk_27 (dk_at dksX6_joined_4 21 rfl rfl)
theorem dX6_joined_184 : decode cX6_joined 184 = .ok (.ifCond .eq 11, 3) := dk_153 0 11 (dk_at dksX6_joined_5 0 rfl rfl)
theorem dX6_joined_187 : decode cX6_joined 187 = .ok (.iload_n 2, 1) := dk_28 (dk_at dksX6_joined_5 3 rfl rfl)
theorem dX6_joined_188 : decode cX6_joined 188 = .ok (.ifCond .eq 7, 3) := dk_153 0 7 (dk_at dksX6_joined_5 4 rfl rfl)
theorem dX6_joined_191 : decode cX6_joined 191 = .ok (.iconst 1, 1) := dk_4 (dk_at dksX6_joined_5 7 rfl rfl)
theorem dX6_joined_192 : decode cX6_joined 192 = .ok (.goto 4, 3) := dk_167 0 4 (dk_at dksX6_joined_5 8 rfl rfl)
theorem dX6_joined_195 : decode cX6_joined 195 = .ok (.iconst 0, 1) := dk_3 (dk_at dksX6_joined_5 11 rfl rfl)
theorem dX6_joined_196 : decode cX6_joined 196 = .ok (.ireturn, 1) := dk_172 (dk_at dksX6_joined_5 12 rfl rfl)
theorem dX6_joined_197 : decode cX6_joined 197 = .ok (.iload_n 1, 1) := dk_27 (dk_at dksX6_joined_5 13 rfl rfl)
theorem dX6_joined_198 : decode cX6_joined 198 = .ok (.ifCond .ne 7, 3) := dk_154 0 7 (dk_at dksX6_joined_5 14 rfl rfl)
theorem dX6_joined_201 : decode cX6_joined 201 = .ok (.iload_n 2, 1) := dk_28 (dk_at dksX6_joined_5 17 rfl rfl)
theorem dX6_joined_202 : decode cX6_joined 202 = .ok (.ifCond .eq 7, 3) := dk_153 0 7 (dk_at dksX6_joined_5 18 rfl rfl)
theorem dX6_joined_205 : decode cX6_joined 205 = .ok (.iconst 1, 1) := dk_4 (dk_at dksX6_joined_5 21 rfl rfl)
theorem dX6_joined_206 : decode cX6_joined 206 = .ok (.goto 4, 3) := dk_167 0 4 (dk_at dksX6_joined_6 0 rfl rfl)
theorem dX6_joined_209 : decode cX6_joined 209 = .ok (.iconst 0, 1) := dk_3 (dk_at dksX6_joined_6 3 rfl rfl)
theorem dX6_joined_210 : decode cX6_joined 210 = .ok (.ireturn, 1) := dk_172 (dk_at dksX6_joined_6 4 rfl rfl)
abbrev cX6_miss : ByteArray := prog_19_method_13_code
def yX6_miss : MethodName := ⟨RX6, "miss", "(I)I"⟩
def dkwX6_miss_6 : List UInt8 := [5, 104, 172, 29, 42, 27, 182, 0, 101, 96, 172, 29, 172]
abbrev dktX6_miss_6 : List UInt8 := dkwX6_miss_6 ++ []
def dkwX6_miss_5 : List UInt8 := [29, 8, 96, 172, 29, 5, 108, 172, 29, 8, 96, 42, 180, 0, 7, 28, 4, 96, 46, 96, 172, 29, 5, 108]
abbrev dktX6_miss_5 : List UInt8 := dkwX6_miss_5 ++ dktX6_miss_6
def dkwX6_miss_4 : List UInt8 := [170, 0, 0, 0, 0, 69, 0, 0, 0, 1, 0, 0, 0, 5, 0, 0, 0, 34, 0, 0, 0, 38, 0, 0, 0, 42, 0, 0, 0, 55, 0, 0, 0, 61]
abbrev dktX6_miss_4 : List UInt8 := dkwX6_miss_4 ++ dktX6_miss_5
def dkwX6_miss_3 : List UInt8 := [167, 0, 17, 29, 17, 3, 231, 164, 0, 9, 17, 3, 231, 167, 0, 4, 29, 62, 42, 180, 0, 7, 28, 46]
abbrev dktX6_miss_3 : List UInt8 := dkwX6_miss_3 ++ dktX6_miss_4
def dkwX6_miss_2 : List UInt8 := [16, 115, 42, 180, 0, 7, 28, 4, 96, 46, 79, 42, 21, 4, 182, 0, 95, 62, 29, 156, 0, 7, 3]
abbrev dktX6_miss_2 : List UInt8 := dkwX6_miss_2 ++ dktX6_miss_3
def dkwX6_miss_1 : List UInt8 := [155, 0, 64, 42, 180, 0, 67, 16, 108, 29, 79, 42, 180, 0, 67, 16, 110, 27, 79, 42, 180, 0, 67]
abbrev dktX6_miss_1 : List UInt8 := dkwX6_miss_1 ++ dktX6_miss_2
def dkwX6_miss_0 : List UInt8 := [42, 27, 182, 0, 92, 61, 42, 180, 0, 7, 28, 5, 96, 46, 62, 42, 4, 182, 0, 88, 54, 4, 21, 4]
abbrev dktX6_miss_0 : List UInt8 := dkwX6_miss_0 ++ dktX6_miss_1
theorem dksX6_miss_0 : cX6_miss.data.toList.drop 0 = dktX6_miss_0 := by decide +kernel
theorem dksX6_miss_1 : cX6_miss.data.toList.drop 24 = dktX6_miss_1 := dk_seg dksX6_miss_0 24 rfl rfl
theorem dksX6_miss_2 : cX6_miss.data.toList.drop 47 = dktX6_miss_2 := dk_seg dksX6_miss_1 23 rfl rfl
theorem dksX6_miss_3 : cX6_miss.data.toList.drop 70 = dktX6_miss_3 := dk_seg dksX6_miss_2 23 rfl rfl
theorem dksX6_miss_4 : cX6_miss.data.toList.drop 94 = dktX6_miss_4 := dk_seg dksX6_miss_3 24 rfl rfl
theorem dksX6_miss_5 : cX6_miss.data.toList.drop 128 = dktX6_miss_5 := dk_seg dksX6_miss_4 34 rfl rfl
theorem dksX6_miss_6 : cX6_miss.data.toList.drop 152 = dktX6_miss_6 := dk_seg dksX6_miss_5 24 rfl rfl
theorem dX6_miss_0 : decode cX6_miss 0 = .ok (.aload_n 0, 1) := dk_42 (dk_at dksX6_miss_0 0 rfl rfl)
theorem dX6_miss_1 : decode cX6_miss 1 = .ok (.iload_n 1, 1) := dk_27 (dk_at dksX6_miss_0 1 rfl rfl)
theorem dX6_miss_2 : decode cX6_miss 2 = .ok (.invokevirtual 92, 3) := dk_182 0 92 (dk_at dksX6_miss_0 2 rfl rfl)
theorem dX6_miss_5 : decode cX6_miss 5 = .ok (.istore_n 2, 1) := dk_61 (dk_at dksX6_miss_0 5 rfl rfl)
theorem dX6_miss_6 : decode cX6_miss 6 = .ok (.aload_n 0, 1) := dk_42 (dk_at dksX6_miss_0 6 rfl rfl)
theorem dX6_miss_7 : decode cX6_miss 7 = .ok (.getfield 7, 3) := dk_180 0 7 (dk_at dksX6_miss_0 7 rfl rfl)
theorem dX6_miss_10 : decode cX6_miss 10 = .ok (.iload_n 2, 1) := dk_28 (dk_at dksX6_miss_0 10 rfl rfl)
theorem dX6_miss_11 : decode cX6_miss 11 = .ok (.iconst 2, 1) := dk_5 (dk_at dksX6_miss_0 11 rfl rfl)
theorem dX6_miss_12 : decode cX6_miss 12 = .ok (.iadd, 1) := dk_96 (dk_at dksX6_miss_0 12 rfl rfl)
theorem dX6_miss_13 : decode cX6_miss 13 = .ok (.iaload, 1) := dk_46 (dk_at dksX6_miss_0 13 rfl rfl)
theorem dX6_miss_14 : decode cX6_miss 14 = .ok (.istore_n 3, 1) := dk_62 (dk_at dksX6_miss_0 14 rfl rfl)
theorem dX6_miss_15 : decode cX6_miss 15 = .ok (.aload_n 0, 1) := dk_42 (dk_at dksX6_miss_0 15 rfl rfl)
theorem dX6_miss_16 : decode cX6_miss 16 = .ok (.iconst 1, 1) := dk_4 (dk_at dksX6_miss_0 16 rfl rfl)
theorem dX6_miss_17 : decode cX6_miss 17 = .ok (.invokevirtual 88, 3) := dk_182 0 88 (dk_at dksX6_miss_0 17 rfl rfl)
theorem dX6_miss_20 : decode cX6_miss 20 = .ok (.istore 4, 2) := dk_54 4 (dk_at dksX6_miss_0 20 rfl rfl)
theorem dX6_miss_22 : decode cX6_miss 22 = .ok (.iload 4, 2) := dk_21 4 (dk_at dksX6_miss_0 22 rfl rfl)
theorem dX6_miss_24 : decode cX6_miss 24 = .ok (.ifCond .lt 64, 3) := dk_155 0 64 (dk_at dksX6_miss_1 0 rfl rfl)
theorem dX6_miss_27 : decode cX6_miss 27 = .ok (.aload_n 0, 1) := dk_42 (dk_at dksX6_miss_1 3 rfl rfl)
theorem dX6_miss_28 : decode cX6_miss 28 = .ok (.getfield 67, 3) := dk_180 0 67 (dk_at dksX6_miss_1 4 rfl rfl)
theorem dX6_miss_31 : decode cX6_miss 31 = .ok (.bipush 108, 2) := dk_16 108 (dk_at dksX6_miss_1 7 rfl rfl)
theorem dX6_miss_33 : decode cX6_miss 33 = .ok (.iload_n 3, 1) := dk_29 (dk_at dksX6_miss_1 9 rfl rfl)
theorem dX6_miss_34 : decode cX6_miss 34 = .ok (.iastore, 1) := dk_79 (dk_at dksX6_miss_1 10 rfl rfl)
theorem dX6_miss_35 : decode cX6_miss 35 = .ok (.aload_n 0, 1) := dk_42 (dk_at dksX6_miss_1 11 rfl rfl)
theorem dX6_miss_36 : decode cX6_miss 36 = .ok (.getfield 67, 3) := dk_180 0 67 (dk_at dksX6_miss_1 12 rfl rfl)
theorem dX6_miss_39 : decode cX6_miss 39 = .ok (.bipush 110, 2) := dk_16 110 (dk_at dksX6_miss_1 15 rfl rfl)
theorem dX6_miss_41 : decode cX6_miss 41 = .ok (.iload_n 1, 1) := dk_27 (dk_at dksX6_miss_1 17 rfl rfl)
theorem dX6_miss_42 : decode cX6_miss 42 = .ok (.iastore, 1) := dk_79 (dk_at dksX6_miss_1 18 rfl rfl)
theorem dX6_miss_43 : decode cX6_miss 43 = .ok (.aload_n 0, 1) := dk_42 (dk_at dksX6_miss_1 19 rfl rfl)
theorem dX6_miss_44 : decode cX6_miss 44 = .ok (.getfield 67, 3) := dk_180 0 67 (dk_at dksX6_miss_1 20 rfl rfl)
theorem dX6_miss_47 : decode cX6_miss 47 = .ok (.bipush 115, 2) := dk_16 115 (dk_at dksX6_miss_2 0 rfl rfl)
theorem dX6_miss_49 : decode cX6_miss 49 = .ok (.aload_n 0, 1) := dk_42 (dk_at dksX6_miss_2 2 rfl rfl)
theorem dX6_miss_50 : decode cX6_miss 50 = .ok (.getfield 7, 3) := dk_180 0 7 (dk_at dksX6_miss_2 3 rfl rfl)
theorem dX6_miss_53 : decode cX6_miss 53 = .ok (.iload_n 2, 1) := dk_28 (dk_at dksX6_miss_2 6 rfl rfl)
theorem dX6_miss_54 : decode cX6_miss 54 = .ok (.iconst 1, 1) := dk_4 (dk_at dksX6_miss_2 7 rfl rfl)
theorem dX6_miss_55 : decode cX6_miss 55 = .ok (.iadd, 1) := dk_96 (dk_at dksX6_miss_2 8 rfl rfl)
theorem dX6_miss_56 : decode cX6_miss 56 = .ok (.iaload, 1) := dk_46 (dk_at dksX6_miss_2 9 rfl rfl)
theorem dX6_miss_57 : decode cX6_miss 57 = .ok (.iastore, 1) := dk_79 (dk_at dksX6_miss_2 10 rfl rfl)
theorem dX6_miss_58 : decode cX6_miss 58 = .ok (.aload_n 0, 1) := dk_42 (dk_at dksX6_miss_2 11 rfl rfl)
theorem dX6_miss_59 : decode cX6_miss 59 = .ok (.iload 4, 2) := dk_21 4 (dk_at dksX6_miss_2 12 rfl rfl)
theorem dX6_miss_61 : decode cX6_miss 61 = .ok (.invokevirtual 95, 3) := dk_182 0 95 (dk_at dksX6_miss_2 14 rfl rfl)
theorem dX6_miss_64 : decode cX6_miss 64 = .ok (.istore_n 3, 1) := dk_62 (dk_at dksX6_miss_2 17 rfl rfl)
theorem dX6_miss_65 : decode cX6_miss 65 = .ok (.iload_n 3, 1) := dk_29 (dk_at dksX6_miss_2 18 rfl rfl)
theorem dX6_miss_66 : decode cX6_miss 66 = .ok (.ifCond .ge 7, 3) := dk_156 0 7 (dk_at dksX6_miss_2 19 rfl rfl)
theorem dX6_miss_69 : decode cX6_miss 69 = .ok (.iconst 0, 1) := dk_3 (dk_at dksX6_miss_2 22 rfl rfl)
theorem dX6_miss_70 : decode cX6_miss 70 = .ok (.goto 17, 3) := dk_167 0 17 (dk_at dksX6_miss_3 0 rfl rfl)
theorem dX6_miss_73 : decode cX6_miss 73 = .ok (.iload_n 3, 1) := dk_29 (dk_at dksX6_miss_3 3 rfl rfl)
theorem dX6_miss_74 : decode cX6_miss 74 = .ok (.sipush 999, 3) := dk_17 3 231 (dk_at dksX6_miss_3 4 rfl rfl)
theorem dX6_miss_77 : decode cX6_miss 77 = .ok (.if_icmp .le 9, 3) := dk_164 0 9 (dk_at dksX6_miss_3 7 rfl rfl)
theorem dX6_miss_80 : decode cX6_miss 80 = .ok (.sipush 999, 3) := dk_17 3 231 (dk_at dksX6_miss_3 10 rfl rfl)
theorem dX6_miss_83 : decode cX6_miss 83 = .ok (.goto 4, 3) := dk_167 0 4 (dk_at dksX6_miss_3 13 rfl rfl)
theorem dX6_miss_86 : decode cX6_miss 86 = .ok (.iload_n 3, 1) := dk_29 (dk_at dksX6_miss_3 16 rfl rfl)
theorem dX6_miss_87 : decode cX6_miss 87 = .ok (.istore_n 3, 1) := dk_62 (dk_at dksX6_miss_3 17 rfl rfl)
theorem dX6_miss_88 : decode cX6_miss 88 = .ok (.aload_n 0, 1) := dk_42 (dk_at dksX6_miss_3 18 rfl rfl)
theorem dX6_miss_89 : decode cX6_miss 89 = .ok (.getfield 7, 3) := dk_180 0 7 (dk_at dksX6_miss_3 19 rfl rfl)
theorem dX6_miss_92 : decode cX6_miss 92 = .ok (.iload_n 2, 1) := dk_28 (dk_at dksX6_miss_3 22 rfl rfl)
theorem dX6_miss_93 : decode cX6_miss 93 = .ok (.iaload, 1) := dk_46 (dk_at dksX6_miss_3 23 rfl rfl)
theorem dX6_miss_94 : decode cX6_miss 94 = .ok (.tableswitch 69 1 5 #[34, 38, 42, 55, 61], 34) := by decide +kernel
theorem dX6_miss_128 : decode cX6_miss 128 = .ok (.iload_n 3, 1) := dk_29 (dk_at dksX6_miss_5 0 rfl rfl)
theorem dX6_miss_129 : decode cX6_miss 129 = .ok (.iconst 5, 1) := dk_8 (dk_at dksX6_miss_5 1 rfl rfl)
theorem dX6_miss_130 : decode cX6_miss 130 = .ok (.iadd, 1) := dk_96 (dk_at dksX6_miss_5 2 rfl rfl)
theorem dX6_miss_131 : decode cX6_miss 131 = .ok (.ireturn, 1) := dk_172 (dk_at dksX6_miss_5 3 rfl rfl)
theorem dX6_miss_132 : decode cX6_miss 132 = .ok (.iload_n 3, 1) := dk_29 (dk_at dksX6_miss_5 4 rfl rfl)
theorem dX6_miss_133 : decode cX6_miss 133 = .ok (.iconst 2, 1) := dk_5 (dk_at dksX6_miss_5 5 rfl rfl)
theorem dX6_miss_134 : decode cX6_miss 134 = .ok (.idiv, 1) := dk_108 (dk_at dksX6_miss_5 6 rfl rfl)
theorem dX6_miss_135 : decode cX6_miss 135 = .ok (.ireturn, 1) := dk_172 (dk_at dksX6_miss_5 7 rfl rfl)
theorem dX6_miss_136 : decode cX6_miss 136 = .ok (.iload_n 3, 1) := dk_29 (dk_at dksX6_miss_5 8 rfl rfl)
theorem dX6_miss_137 : decode cX6_miss 137 = .ok (.iconst 5, 1) := dk_8 (dk_at dksX6_miss_5 9 rfl rfl)
theorem dX6_miss_138 : decode cX6_miss 138 = .ok (.iadd, 1) := dk_96 (dk_at dksX6_miss_5 10 rfl rfl)
theorem dX6_miss_139 : decode cX6_miss 139 = .ok (.aload_n 0, 1) := dk_42 (dk_at dksX6_miss_5 11 rfl rfl)
theorem dX6_miss_140 : decode cX6_miss 140 = .ok (.getfield 7, 3) := dk_180 0 7 (dk_at dksX6_miss_5 12 rfl rfl)
theorem dX6_miss_143 : decode cX6_miss 143 = .ok (.iload_n 2, 1) := dk_28 (dk_at dksX6_miss_5 15 rfl rfl)
theorem dX6_miss_144 : decode cX6_miss 144 = .ok (.iconst 1, 1) := dk_4 (dk_at dksX6_miss_5 16 rfl rfl)
theorem dX6_miss_145 : decode cX6_miss 145 = .ok (.iadd, 1) := dk_96 (dk_at dksX6_miss_5 17 rfl rfl)
theorem dX6_miss_146 : decode cX6_miss 146 = .ok (.iaload, 1) := dk_46 (dk_at dksX6_miss_5 18 rfl rfl)
theorem dX6_miss_147 : decode cX6_miss 147 = .ok (.iadd, 1) := dk_96 (dk_at dksX6_miss_5 19 rfl rfl)
theorem dX6_miss_148 : decode cX6_miss 148 = .ok (.ireturn, 1) := dk_172 (dk_at dksX6_miss_5 20 rfl rfl)
theorem dX6_miss_149 : decode cX6_miss 149 = .ok (.iload_n 3, 1) := dk_29 (dk_at dksX6_miss_5 21 rfl rfl)
theorem dX6_miss_150 : decode cX6_miss 150 = .ok (.iconst 2, 1) := dk_5 (dk_at dksX6_miss_5 22 rfl rfl)
theorem dX6_miss_151 : decode cX6_miss 151 = .ok (.idiv, 1) := dk_108 (dk_at dksX6_miss_5 23 rfl rfl)
theorem dX6_miss_152 : decode cX6_miss 152 = .ok (.iconst 2, 1) := dk_5 (dk_at dksX6_miss_6 0 rfl rfl)
theorem dX6_miss_153 : decode cX6_miss 153 = .ok (.imul, 1) := dk_104 (dk_at dksX6_miss_6 1 rfl rfl)
theorem dX6_miss_154 : decode cX6_miss 154 = .ok (.ireturn, 1) := dk_172 (dk_at dksX6_miss_6 2 rfl rfl)
theorem dX6_miss_155 : decode cX6_miss 155 = .ok (.iload_n 3, 1) := dk_29 (dk_at dksX6_miss_6 3 rfl rfl)
theorem dX6_miss_156 : decode cX6_miss 156 = .ok (.aload_n 0, 1) := dk_42 (dk_at dksX6_miss_6 4 rfl rfl)
theorem dX6_miss_157 : decode cX6_miss 157 = .ok (.iload_n 1, 1) := dk_27 (dk_at dksX6_miss_6 5 rfl rfl)
theorem dX6_miss_158 : decode cX6_miss 158 = .ok (.invokevirtual 101, 3) := dk_182 0 101 (dk_at dksX6_miss_6 6 rfl rfl)
theorem dX6_miss_161 : decode cX6_miss 161 = .ok (.iadd, 1) := dk_96 (dk_at dksX6_miss_6 9 rfl rfl)
theorem dX6_miss_162 : decode cX6_miss 162 = .ok (.ireturn, 1) := dk_172 (dk_at dksX6_miss_6 10 rfl rfl)
theorem dX6_miss_163 : decode cX6_miss 163 = .ok (.iload_n 3, 1) := dk_29 (dk_at dksX6_miss_6 11 rfl rfl)
theorem dX6_miss_164 : decode cX6_miss 164 = .ok (.ireturn, 1) := dk_172 (dk_at dksX6_miss_6 12 rfl rfl)
abbrev cX6_leaners : ByteArray := prog_19_method_12_code
def yX6_leaners : MethodName := ⟨RX6, "leaners", "(I)I"⟩
def dkwX6_leaners_1 : List UInt8 := [7, 96, 46, 27, 160, 0, 7, 4, 167, 0, 4, 3, 96, 61, 132, 3, 1, 167, 255, 219, 28, 172]
abbrev dktX6_leaners_1 : List UInt8 := dkwX6_leaners_1 ++ []
def dkwX6_leaners_0 : List UInt8 := [3, 61, 3, 62, 29, 42, 180, 0, 7, 3, 46, 162, 0, 33, 28, 42, 180, 0, 7, 42, 29, 182, 0, 92]
abbrev dktX6_leaners_0 : List UInt8 := dkwX6_leaners_0 ++ dktX6_leaners_1
theorem dksX6_leaners_0 : cX6_leaners.data.toList.drop 0 = dktX6_leaners_0 := by decide +kernel
theorem dksX6_leaners_1 : cX6_leaners.data.toList.drop 24 = dktX6_leaners_1 := dk_seg dksX6_leaners_0 24 rfl rfl
theorem dX6_leaners_0 : decode cX6_leaners 0 = .ok (.iconst 0, 1) := dk_3 (dk_at dksX6_leaners_0 0 rfl rfl)
theorem dX6_leaners_1 : decode cX6_leaners 1 = .ok (.istore_n 2, 1) := dk_61 (dk_at dksX6_leaners_0 1 rfl rfl)
theorem dX6_leaners_2 : decode cX6_leaners 2 = .ok (.iconst 0, 1) := dk_3 (dk_at dksX6_leaners_0 2 rfl rfl)
theorem dX6_leaners_3 : decode cX6_leaners 3 = .ok (.istore_n 3, 1) := dk_62 (dk_at dksX6_leaners_0 3 rfl rfl)
theorem dX6_leaners_4 : decode cX6_leaners 4 = .ok (.iload_n 3, 1) := dk_29 (dk_at dksX6_leaners_0 4 rfl rfl)
theorem dX6_leaners_5 : decode cX6_leaners 5 = .ok (.aload_n 0, 1) := dk_42 (dk_at dksX6_leaners_0 5 rfl rfl)
theorem dX6_leaners_6 : decode cX6_leaners 6 = .ok (.getfield 7, 3) := dk_180 0 7 (dk_at dksX6_leaners_0 6 rfl rfl)
theorem dX6_leaners_9 : decode cX6_leaners 9 = .ok (.iconst 0, 1) := dk_3 (dk_at dksX6_leaners_0 9 rfl rfl)
theorem dX6_leaners_10 : decode cX6_leaners 10 = .ok (.iaload, 1) := dk_46 (dk_at dksX6_leaners_0 10 rfl rfl)
theorem dX6_leaners_11 : decode cX6_leaners 11 = .ok (.if_icmp .ge 33, 3) := dk_162 0 33 (dk_at dksX6_leaners_0 11 rfl rfl)
theorem dX6_leaners_14 : decode cX6_leaners 14 = .ok (.iload_n 2, 1) := dk_28 (dk_at dksX6_leaners_0 14 rfl rfl)
theorem dX6_leaners_15 : decode cX6_leaners 15 = .ok (.aload_n 0, 1) := dk_42 (dk_at dksX6_leaners_0 15 rfl rfl)
theorem dX6_leaners_16 : decode cX6_leaners 16 = .ok (.getfield 7, 3) := dk_180 0 7 (dk_at dksX6_leaners_0 16 rfl rfl)
theorem dX6_leaners_19 : decode cX6_leaners 19 = .ok (.aload_n 0, 1) := dk_42 (dk_at dksX6_leaners_0 19 rfl rfl)
theorem dX6_leaners_20 : decode cX6_leaners 20 = .ok (.iload_n 3, 1) := dk_29 (dk_at dksX6_leaners_0 20 rfl rfl)
theorem dX6_leaners_21 : decode cX6_leaners 21 = .ok (.invokevirtual 92, 3) := dk_182 0 92 (dk_at dksX6_leaners_0 21 rfl rfl)
theorem dX6_leaners_24 : decode cX6_leaners 24 = .ok (.iconst 4, 1) := dk_7 (dk_at dksX6_leaners_1 0 rfl rfl)
theorem dX6_leaners_25 : decode cX6_leaners 25 = .ok (.iadd, 1) := dk_96 (dk_at dksX6_leaners_1 1 rfl rfl)
theorem dX6_leaners_26 : decode cX6_leaners 26 = .ok (.iaload, 1) := dk_46 (dk_at dksX6_leaners_1 2 rfl rfl)
theorem dX6_leaners_27 : decode cX6_leaners 27 = .ok (.iload_n 1, 1) := dk_27 (dk_at dksX6_leaners_1 3 rfl rfl)
theorem dX6_leaners_28 : decode cX6_leaners 28 = .ok (.if_icmp .ne 7, 3) := dk_160 0 7 (dk_at dksX6_leaners_1 4 rfl rfl)
theorem dX6_leaners_31 : decode cX6_leaners 31 = .ok (.iconst 1, 1) := dk_4 (dk_at dksX6_leaners_1 7 rfl rfl)
theorem dX6_leaners_32 : decode cX6_leaners 32 = .ok (.goto 4, 3) := dk_167 0 4 (dk_at dksX6_leaners_1 8 rfl rfl)
theorem dX6_leaners_35 : decode cX6_leaners 35 = .ok (.iconst 0, 1) := dk_3 (dk_at dksX6_leaners_1 11 rfl rfl)
theorem dX6_leaners_36 : decode cX6_leaners 36 = .ok (.iadd, 1) := dk_96 (dk_at dksX6_leaners_1 12 rfl rfl)
theorem dX6_leaners_37 : decode cX6_leaners 37 = .ok (.istore_n 2, 1) := dk_61 (dk_at dksX6_leaners_1 13 rfl rfl)
theorem dX6_leaners_38 : decode cX6_leaners 38 = .ok (.iinc 3 1, 3) := dk_132 3 1 (dk_at dksX6_leaners_1 14 rfl rfl)
theorem dX6_leaners_41 : decode cX6_leaners 41 = .ok (.goto (-37), 3) := dk_167 255 219 (dk_at dksX6_leaners_1 17 rfl rfl)
theorem dX6_leaners_44 : decode cX6_leaners 44 = .ok (.iload_n 2, 1) := dk_28 (dk_at dksX6_leaners_1 20 rfl rfl)
theorem dX6_leaners_45 : decode cX6_leaners 45 = .ok (.ireturn, 1) := dk_172 (dk_at dksX6_leaners_1 21 rfl rfl)
abbrev cX6_placeOf : ByteArray := prog_19_method_18_code
def yX6_placeOf : MethodName := ⟨RX6, "placeOf", "(I)I"⟩
def dkwX6_placeOf_1 : List UInt8 := [160, 0, 7, 29, 167, 0, 4, 28, 61, 132, 3, 1, 167, 255, 224, 28, 172]
abbrev dktX6_placeOf_1 : List UInt8 := dkwX6_placeOf_1 ++ []
def dkwX6_placeOf_0 : List UInt8 := [2, 61, 3, 62, 29, 42, 180, 0, 7, 5, 46, 162, 0, 28, 42, 180, 0, 7, 16, 66, 29, 96, 46, 27]
abbrev dktX6_placeOf_0 : List UInt8 := dkwX6_placeOf_0 ++ dktX6_placeOf_1
theorem dksX6_placeOf_0 : cX6_placeOf.data.toList.drop 0 = dktX6_placeOf_0 := by decide +kernel
theorem dksX6_placeOf_1 : cX6_placeOf.data.toList.drop 24 = dktX6_placeOf_1 := dk_seg dksX6_placeOf_0 24 rfl rfl
theorem dX6_placeOf_0 : decode cX6_placeOf 0 = .ok (.iconst (-1), 1) := dk_2 (dk_at dksX6_placeOf_0 0 rfl rfl)
theorem dX6_placeOf_1 : decode cX6_placeOf 1 = .ok (.istore_n 2, 1) := dk_61 (dk_at dksX6_placeOf_0 1 rfl rfl)
theorem dX6_placeOf_2 : decode cX6_placeOf 2 = .ok (.iconst 0, 1) := dk_3 (dk_at dksX6_placeOf_0 2 rfl rfl)
theorem dX6_placeOf_3 : decode cX6_placeOf 3 = .ok (.istore_n 3, 1) := dk_62 (dk_at dksX6_placeOf_0 3 rfl rfl)
theorem dX6_placeOf_4 : decode cX6_placeOf 4 = .ok (.iload_n 3, 1) := dk_29 (dk_at dksX6_placeOf_0 4 rfl rfl)
theorem dX6_placeOf_5 : decode cX6_placeOf 5 = .ok (.aload_n 0, 1) := dk_42 (dk_at dksX6_placeOf_0 5 rfl rfl)
theorem dX6_placeOf_6 : decode cX6_placeOf 6 = .ok (.getfield 7, 3) := dk_180 0 7 (dk_at dksX6_placeOf_0 6 rfl rfl)
theorem dX6_placeOf_9 : decode cX6_placeOf 9 = .ok (.iconst 2, 1) := dk_5 (dk_at dksX6_placeOf_0 9 rfl rfl)
theorem dX6_placeOf_10 : decode cX6_placeOf 10 = .ok (.iaload, 1) := dk_46 (dk_at dksX6_placeOf_0 10 rfl rfl)
theorem dX6_placeOf_11 : decode cX6_placeOf 11 = .ok (.if_icmp .ge 28, 3) := dk_162 0 28 (dk_at dksX6_placeOf_0 11 rfl rfl)
theorem dX6_placeOf_14 : decode cX6_placeOf 14 = .ok (.aload_n 0, 1) := dk_42 (dk_at dksX6_placeOf_0 14 rfl rfl)
theorem dX6_placeOf_15 : decode cX6_placeOf 15 = .ok (.getfield 7, 3) := dk_180 0 7 (dk_at dksX6_placeOf_0 15 rfl rfl)
theorem dX6_placeOf_18 : decode cX6_placeOf 18 = .ok (.bipush 66, 2) := dk_16 66 (dk_at dksX6_placeOf_0 18 rfl rfl)
theorem dX6_placeOf_20 : decode cX6_placeOf 20 = .ok (.iload_n 3, 1) := dk_29 (dk_at dksX6_placeOf_0 20 rfl rfl)
theorem dX6_placeOf_21 : decode cX6_placeOf 21 = .ok (.iadd, 1) := dk_96 (dk_at dksX6_placeOf_0 21 rfl rfl)
theorem dX6_placeOf_22 : decode cX6_placeOf 22 = .ok (.iaload, 1) := dk_46 (dk_at dksX6_placeOf_0 22 rfl rfl)
theorem dX6_placeOf_23 : decode cX6_placeOf 23 = .ok (.iload_n 1, 1) := dk_27 (dk_at dksX6_placeOf_0 23 rfl rfl)
theorem dX6_placeOf_24 : decode cX6_placeOf 24 = .ok (.if_icmp .ne 7, 3) := dk_160 0 7 (dk_at dksX6_placeOf_1 0 rfl rfl)
theorem dX6_placeOf_27 : decode cX6_placeOf 27 = .ok (.iload_n 3, 1) := dk_29 (dk_at dksX6_placeOf_1 3 rfl rfl)
theorem dX6_placeOf_28 : decode cX6_placeOf 28 = .ok (.goto 4, 3) := dk_167 0 4 (dk_at dksX6_placeOf_1 4 rfl rfl)
theorem dX6_placeOf_31 : decode cX6_placeOf 31 = .ok (.iload_n 2, 1) := dk_28 (dk_at dksX6_placeOf_1 7 rfl rfl)
theorem dX6_placeOf_32 : decode cX6_placeOf 32 = .ok (.istore_n 2, 1) := dk_61 (dk_at dksX6_placeOf_1 8 rfl rfl)
theorem dX6_placeOf_33 : decode cX6_placeOf 33 = .ok (.iinc 3 1, 3) := dk_132 3 1 (dk_at dksX6_placeOf_1 9 rfl rfl)
theorem dX6_placeOf_36 : decode cX6_placeOf 36 = .ok (.goto (-32), 3) := dk_167 255 224 (dk_at dksX6_placeOf_1 12 rfl rfl)
theorem dX6_placeOf_39 : decode cX6_placeOf 39 = .ok (.iload_n 2, 1) := dk_28 (dk_at dksX6_placeOf_1 15 rfl rfl)
theorem dX6_placeOf_40 : decode cX6_placeOf 40 = .ok (.ireturn, 1) := dk_172 (dk_at dksX6_placeOf_1 16 rfl rfl)
abbrev cX6_vaultBits : ByteArray := prog_19_method_19_code
def yX6_vaultBits : MethodName := ⟨RX6, "vaultBits", "()I"⟩
def dkwX6_vaultBits_1 : List UInt8 := [46, 120, 128, 60, 132, 2, 1, 167, 255, 229, 27, 172]
abbrev dktX6_vaultBits_1 : List UInt8 := dkwX6_vaultBits_1 ++ []
def dkwX6_vaultBits_0 : List UInt8 := [3, 60, 3, 61, 28, 42, 180, 0, 7, 5, 46, 162, 0, 23, 27, 4, 42, 180, 0, 7, 16, 66, 28, 96]
abbrev dktX6_vaultBits_0 : List UInt8 := dkwX6_vaultBits_0 ++ dktX6_vaultBits_1
theorem dksX6_vaultBits_0 : cX6_vaultBits.data.toList.drop 0 = dktX6_vaultBits_0 := by decide +kernel
theorem dksX6_vaultBits_1 : cX6_vaultBits.data.toList.drop 24 = dktX6_vaultBits_1 := dk_seg dksX6_vaultBits_0 24 rfl rfl
theorem dX6_vaultBits_0 : decode cX6_vaultBits 0 = .ok (.iconst 0, 1) := dk_3 (dk_at dksX6_vaultBits_0 0 rfl rfl)
theorem dX6_vaultBits_1 : decode cX6_vaultBits 1 = .ok (.istore_n 1, 1) := dk_60 (dk_at dksX6_vaultBits_0 1 rfl rfl)
theorem dX6_vaultBits_2 : decode cX6_vaultBits 2 = .ok (.iconst 0, 1) := dk_3 (dk_at dksX6_vaultBits_0 2 rfl rfl)
theorem dX6_vaultBits_3 : decode cX6_vaultBits 3 = .ok (.istore_n 2, 1) := dk_61 (dk_at dksX6_vaultBits_0 3 rfl rfl)
theorem dX6_vaultBits_4 : decode cX6_vaultBits 4 = .ok (.iload_n 2, 1) := dk_28 (dk_at dksX6_vaultBits_0 4 rfl rfl)
theorem dX6_vaultBits_5 : decode cX6_vaultBits 5 = .ok (.aload_n 0, 1) := dk_42 (dk_at dksX6_vaultBits_0 5 rfl rfl)
theorem dX6_vaultBits_6 : decode cX6_vaultBits 6 = .ok (.getfield 7, 3) := dk_180 0 7 (dk_at dksX6_vaultBits_0 6 rfl rfl)
theorem dX6_vaultBits_9 : decode cX6_vaultBits 9 = .ok (.iconst 2, 1) := dk_5 (dk_at dksX6_vaultBits_0 9 rfl rfl)
theorem dX6_vaultBits_10 : decode cX6_vaultBits 10 = .ok (.iaload, 1) := dk_46 (dk_at dksX6_vaultBits_0 10 rfl rfl)
theorem dX6_vaultBits_11 : decode cX6_vaultBits 11 = .ok (.if_icmp .ge 23, 3) := dk_162 0 23 (dk_at dksX6_vaultBits_0 11 rfl rfl)
theorem dX6_vaultBits_14 : decode cX6_vaultBits 14 = .ok (.iload_n 1, 1) := dk_27 (dk_at dksX6_vaultBits_0 14 rfl rfl)
theorem dX6_vaultBits_15 : decode cX6_vaultBits 15 = .ok (.iconst 1, 1) := dk_4 (dk_at dksX6_vaultBits_0 15 rfl rfl)
theorem dX6_vaultBits_16 : decode cX6_vaultBits 16 = .ok (.aload_n 0, 1) := dk_42 (dk_at dksX6_vaultBits_0 16 rfl rfl)
theorem dX6_vaultBits_17 : decode cX6_vaultBits 17 = .ok (.getfield 7, 3) := dk_180 0 7 (dk_at dksX6_vaultBits_0 17 rfl rfl)
theorem dX6_vaultBits_20 : decode cX6_vaultBits 20 = .ok (.bipush 66, 2) := dk_16 66 (dk_at dksX6_vaultBits_0 20 rfl rfl)
theorem dX6_vaultBits_22 : decode cX6_vaultBits 22 = .ok (.iload_n 2, 1) := dk_28 (dk_at dksX6_vaultBits_0 22 rfl rfl)
theorem dX6_vaultBits_23 : decode cX6_vaultBits 23 = .ok (.iadd, 1) := dk_96 (dk_at dksX6_vaultBits_0 23 rfl rfl)
theorem dX6_vaultBits_24 : decode cX6_vaultBits 24 = .ok (.iaload, 1) := dk_46 (dk_at dksX6_vaultBits_1 0 rfl rfl)
theorem dX6_vaultBits_25 : decode cX6_vaultBits 25 = .ok (.ishl, 1) := dk_120 (dk_at dksX6_vaultBits_1 1 rfl rfl)
theorem dX6_vaultBits_26 : decode cX6_vaultBits 26 = .ok (.ior, 1) := dk_128 (dk_at dksX6_vaultBits_1 2 rfl rfl)
theorem dX6_vaultBits_27 : decode cX6_vaultBits 27 = .ok (.istore_n 1, 1) := dk_60 (dk_at dksX6_vaultBits_1 3 rfl rfl)
theorem dX6_vaultBits_28 : decode cX6_vaultBits 28 = .ok (.iinc 2 1, 3) := dk_132 2 1 (dk_at dksX6_vaultBits_1 4 rfl rfl)
theorem dX6_vaultBits_31 : decode cX6_vaultBits 31 = .ok (.goto (-27), 3) := dk_167 255 229 (dk_at dksX6_vaultBits_1 7 rfl rfl)
theorem dX6_vaultBits_34 : decode cX6_vaultBits 34 = .ok (.iload_n 1, 1) := dk_27 (dk_at dksX6_vaultBits_1 10 rfl rfl)
theorem dX6_vaultBits_35 : decode cX6_vaultBits 35 = .ok (.ireturn, 1) := dk_172 (dk_at dksX6_vaultBits_1 11 rfl rfl)
abbrev cX6_isRead : ByteArray := prog_19_method_20_code
def yX6_isRead : MethodName := ⟨RX6, "isRead", "(II)Z"⟩
def dkwX6_isRead_1 : List UInt8 := [7, 96, 46, 62, 167, 255, 230, 29, 156, 0, 7, 4, 167, 0, 4, 3, 172]
abbrev dktX6_isRead_1 : List UInt8 := dkwX6_isRead_1 ++ []
def dkwX6_isRead_0 : List UInt8 := [28, 62, 29, 155, 0, 28, 27, 29, 122, 4, 126, 4, 160, 0, 19, 42, 180, 0, 7, 42, 29, 182, 0, 92]
abbrev dktX6_isRead_0 : List UInt8 := dkwX6_isRead_0 ++ dktX6_isRead_1
theorem dksX6_isRead_0 : cX6_isRead.data.toList.drop 0 = dktX6_isRead_0 := by decide +kernel
theorem dksX6_isRead_1 : cX6_isRead.data.toList.drop 24 = dktX6_isRead_1 := dk_seg dksX6_isRead_0 24 rfl rfl
theorem dX6_isRead_0 : decode cX6_isRead 0 = .ok (.iload_n 2, 1) := dk_28 (dk_at dksX6_isRead_0 0 rfl rfl)
theorem dX6_isRead_1 : decode cX6_isRead 1 = .ok (.istore_n 3, 1) := dk_62 (dk_at dksX6_isRead_0 1 rfl rfl)
theorem dX6_isRead_2 : decode cX6_isRead 2 = .ok (.iload_n 3, 1) := dk_29 (dk_at dksX6_isRead_0 2 rfl rfl)
theorem dX6_isRead_3 : decode cX6_isRead 3 = .ok (.ifCond .lt 28, 3) := dk_155 0 28 (dk_at dksX6_isRead_0 3 rfl rfl)
theorem dX6_isRead_6 : decode cX6_isRead 6 = .ok (.iload_n 1, 1) := dk_27 (dk_at dksX6_isRead_0 6 rfl rfl)
theorem dX6_isRead_7 : decode cX6_isRead 7 = .ok (.iload_n 3, 1) := dk_29 (dk_at dksX6_isRead_0 7 rfl rfl)
theorem dX6_isRead_8 : decode cX6_isRead 8 = .ok (.ishr, 1) := dk_122 (dk_at dksX6_isRead_0 8 rfl rfl)
theorem dX6_isRead_9 : decode cX6_isRead 9 = .ok (.iconst 1, 1) := dk_4 (dk_at dksX6_isRead_0 9 rfl rfl)
theorem dX6_isRead_10 : decode cX6_isRead 10 = .ok (.iand, 1) := dk_126 (dk_at dksX6_isRead_0 10 rfl rfl)
theorem dX6_isRead_11 : decode cX6_isRead 11 = .ok (.iconst 1, 1) := dk_4 (dk_at dksX6_isRead_0 11 rfl rfl)
theorem dX6_isRead_12 : decode cX6_isRead 12 = .ok (.if_icmp .ne 19, 3) := dk_160 0 19 (dk_at dksX6_isRead_0 12 rfl rfl)
theorem dX6_isRead_15 : decode cX6_isRead 15 = .ok (.aload_n 0, 1) := dk_42 (dk_at dksX6_isRead_0 15 rfl rfl)
theorem dX6_isRead_16 : decode cX6_isRead 16 = .ok (.getfield 7, 3) := dk_180 0 7 (dk_at dksX6_isRead_0 16 rfl rfl)
theorem dX6_isRead_19 : decode cX6_isRead 19 = .ok (.aload_n 0, 1) := dk_42 (dk_at dksX6_isRead_0 19 rfl rfl)
theorem dX6_isRead_20 : decode cX6_isRead 20 = .ok (.iload_n 3, 1) := dk_29 (dk_at dksX6_isRead_0 20 rfl rfl)
theorem dX6_isRead_21 : decode cX6_isRead 21 = .ok (.invokevirtual 92, 3) := dk_182 0 92 (dk_at dksX6_isRead_0 21 rfl rfl)
theorem dX6_isRead_24 : decode cX6_isRead 24 = .ok (.iconst 4, 1) := dk_7 (dk_at dksX6_isRead_1 0 rfl rfl)
theorem dX6_isRead_25 : decode cX6_isRead 25 = .ok (.iadd, 1) := dk_96 (dk_at dksX6_isRead_1 1 rfl rfl)
theorem dX6_isRead_26 : decode cX6_isRead 26 = .ok (.iaload, 1) := dk_46 (dk_at dksX6_isRead_1 2 rfl rfl)
theorem dX6_isRead_27 : decode cX6_isRead 27 = .ok (.istore_n 3, 1) := dk_62 (dk_at dksX6_isRead_1 3 rfl rfl)
theorem dX6_isRead_28 : decode cX6_isRead 28 = .ok (.goto (-26), 3) := dk_167 255 230 (dk_at dksX6_isRead_1 4 rfl rfl)
theorem dX6_isRead_31 : decode cX6_isRead 31 = .ok (.iload_n 3, 1) := dk_29 (dk_at dksX6_isRead_1 7 rfl rfl)
theorem dX6_isRead_32 : decode cX6_isRead 32 = .ok (.ifCond .ge 7, 3) := dk_156 0 7 (dk_at dksX6_isRead_1 8 rfl rfl)
theorem dX6_isRead_35 : decode cX6_isRead 35 = .ok (.iconst 1, 1) := dk_4 (dk_at dksX6_isRead_1 11 rfl rfl)
theorem dX6_isRead_36 : decode cX6_isRead 36 = .ok (.goto 4, 3) := dk_167 0 4 (dk_at dksX6_isRead_1 12 rfl rfl)
theorem dX6_isRead_39 : decode cX6_isRead 39 = .ok (.iconst 0, 1) := dk_3 (dk_at dksX6_isRead_1 15 rfl rfl)
theorem dX6_isRead_40 : decode cX6_isRead 40 = .ok (.ireturn, 1) := dk_172 (dk_at dksX6_isRead_1 16 rfl rfl)
abbrev cX6_worth : ByteArray := prog_19_method_14_code
def yX6_worth : MethodName := ⟨RX6, "worth", "(I)I"⟩
def dkwX6_worth_4 : List UInt8 := [42, 180, 0, 7, 28, 6, 96, 46, 96, 172, 16, 7, 172, 29, 172]
abbrev dktX6_worth_4 : List UInt8 := dkwX6_worth_4 ++ []
def dkwX6_worth_3 : List UInt8 := [29, 16, 10, 96, 172, 29, 5, 108, 172, 42, 180, 0, 7, 28, 5, 96, 46, 16, 10, 96, 172, 29, 5, 108]
abbrev dktX6_worth_3 : List UInt8 := dkwX6_worth_3 ++ dktX6_worth_4
def dkwX6_worth_2 : List UInt8 := [170, 0, 0, 0, 0, 71, 0, 0, 0, 1, 0, 0, 0, 5, 0, 0, 0, 34, 0, 0, 0, 39, 0, 0, 0, 43, 0, 0, 0, 55, 0, 0, 0, 68]
abbrev dktX6_worth_2 : List UInt8 := dkwX6_worth_2 ++ dktX6_worth_3
def dkwX6_worth_1 : List UInt8 := [42, 180, 0, 7, 28, 46]
abbrev dktX6_worth_1 : List UInt8 := dkwX6_worth_1 ++ dktX6_worth_2
def dkwX6_worth_0 : List UInt8 := [42, 27, 182, 0, 92, 61, 42, 180, 0, 7, 28, 5, 96, 46, 42, 180, 0, 7, 28, 4, 96, 46, 96, 62]
abbrev dktX6_worth_0 : List UInt8 := dkwX6_worth_0 ++ dktX6_worth_1
theorem dksX6_worth_0 : cX6_worth.data.toList.drop 0 = dktX6_worth_0 := by decide +kernel
theorem dksX6_worth_1 : cX6_worth.data.toList.drop 24 = dktX6_worth_1 := dk_seg dksX6_worth_0 24 rfl rfl
theorem dksX6_worth_2 : cX6_worth.data.toList.drop 30 = dktX6_worth_2 := dk_seg dksX6_worth_1 6 rfl rfl
theorem dksX6_worth_3 : cX6_worth.data.toList.drop 64 = dktX6_worth_3 := dk_seg dksX6_worth_2 34 rfl rfl
theorem dksX6_worth_4 : cX6_worth.data.toList.drop 88 = dktX6_worth_4 := dk_seg dksX6_worth_3 24 rfl rfl
theorem dX6_worth_0 : decode cX6_worth 0 = .ok (.aload_n 0, 1) := dk_42 (dk_at dksX6_worth_0 0 rfl rfl)
theorem dX6_worth_1 : decode cX6_worth 1 = .ok (.iload_n 1, 1) := dk_27 (dk_at dksX6_worth_0 1 rfl rfl)
theorem dX6_worth_2 : decode cX6_worth 2 = .ok (.invokevirtual 92, 3) := dk_182 0 92 (dk_at dksX6_worth_0 2 rfl rfl)
theorem dX6_worth_5 : decode cX6_worth 5 = .ok (.istore_n 2, 1) := dk_61 (dk_at dksX6_worth_0 5 rfl rfl)
theorem dX6_worth_6 : decode cX6_worth 6 = .ok (.aload_n 0, 1) := dk_42 (dk_at dksX6_worth_0 6 rfl rfl)
theorem dX6_worth_7 : decode cX6_worth 7 = .ok (.getfield 7, 3) := dk_180 0 7 (dk_at dksX6_worth_0 7 rfl rfl)
theorem dX6_worth_10 : decode cX6_worth 10 = .ok (.iload_n 2, 1) := dk_28 (dk_at dksX6_worth_0 10 rfl rfl)
theorem dX6_worth_11 : decode cX6_worth 11 = .ok (.iconst 2, 1) := dk_5 (dk_at dksX6_worth_0 11 rfl rfl)
theorem dX6_worth_12 : decode cX6_worth 12 = .ok (.iadd, 1) := dk_96 (dk_at dksX6_worth_0 12 rfl rfl)
theorem dX6_worth_13 : decode cX6_worth 13 = .ok (.iaload, 1) := dk_46 (dk_at dksX6_worth_0 13 rfl rfl)
theorem dX6_worth_14 : decode cX6_worth 14 = .ok (.aload_n 0, 1) := dk_42 (dk_at dksX6_worth_0 14 rfl rfl)
theorem dX6_worth_15 : decode cX6_worth 15 = .ok (.getfield 7, 3) := dk_180 0 7 (dk_at dksX6_worth_0 15 rfl rfl)
theorem dX6_worth_18 : decode cX6_worth 18 = .ok (.iload_n 2, 1) := dk_28 (dk_at dksX6_worth_0 18 rfl rfl)
theorem dX6_worth_19 : decode cX6_worth 19 = .ok (.iconst 1, 1) := dk_4 (dk_at dksX6_worth_0 19 rfl rfl)
theorem dX6_worth_20 : decode cX6_worth 20 = .ok (.iadd, 1) := dk_96 (dk_at dksX6_worth_0 20 rfl rfl)
theorem dX6_worth_21 : decode cX6_worth 21 = .ok (.iaload, 1) := dk_46 (dk_at dksX6_worth_0 21 rfl rfl)
theorem dX6_worth_22 : decode cX6_worth 22 = .ok (.iadd, 1) := dk_96 (dk_at dksX6_worth_0 22 rfl rfl)
theorem dX6_worth_23 : decode cX6_worth 23 = .ok (.istore_n 3, 1) := dk_62 (dk_at dksX6_worth_0 23 rfl rfl)
theorem dX6_worth_24 : decode cX6_worth 24 = .ok (.aload_n 0, 1) := dk_42 (dk_at dksX6_worth_1 0 rfl rfl)
theorem dX6_worth_25 : decode cX6_worth 25 = .ok (.getfield 7, 3) := dk_180 0 7 (dk_at dksX6_worth_1 1 rfl rfl)
theorem dX6_worth_28 : decode cX6_worth 28 = .ok (.iload_n 2, 1) := dk_28 (dk_at dksX6_worth_1 4 rfl rfl)
theorem dX6_worth_29 : decode cX6_worth 29 = .ok (.iaload, 1) := dk_46 (dk_at dksX6_worth_1 5 rfl rfl)
theorem dX6_worth_30 : decode cX6_worth 30 = .ok (.tableswitch 71 1 5 #[34, 39, 43, 55, 68], 34) := by decide +kernel
theorem dX6_worth_64 : decode cX6_worth 64 = .ok (.iload_n 3, 1) := dk_29 (dk_at dksX6_worth_3 0 rfl rfl)
theorem dX6_worth_65 : decode cX6_worth 65 = .ok (.bipush 10, 2) := dk_16 10 (dk_at dksX6_worth_3 1 rfl rfl)
theorem dX6_worth_67 : decode cX6_worth 67 = .ok (.iadd, 1) := dk_96 (dk_at dksX6_worth_3 3 rfl rfl)
theorem dX6_worth_68 : decode cX6_worth 68 = .ok (.ireturn, 1) := dk_172 (dk_at dksX6_worth_3 4 rfl rfl)
theorem dX6_worth_69 : decode cX6_worth 69 = .ok (.iload_n 3, 1) := dk_29 (dk_at dksX6_worth_3 5 rfl rfl)
theorem dX6_worth_70 : decode cX6_worth 70 = .ok (.iconst 2, 1) := dk_5 (dk_at dksX6_worth_3 6 rfl rfl)
theorem dX6_worth_71 : decode cX6_worth 71 = .ok (.idiv, 1) := dk_108 (dk_at dksX6_worth_3 7 rfl rfl)
theorem dX6_worth_72 : decode cX6_worth 72 = .ok (.ireturn, 1) := dk_172 (dk_at dksX6_worth_3 8 rfl rfl)
theorem dX6_worth_73 : decode cX6_worth 73 = .ok (.aload_n 0, 1) := dk_42 (dk_at dksX6_worth_3 9 rfl rfl)
theorem dX6_worth_74 : decode cX6_worth 74 = .ok (.getfield 7, 3) := dk_180 0 7 (dk_at dksX6_worth_3 10 rfl rfl)
theorem dX6_worth_77 : decode cX6_worth 77 = .ok (.iload_n 2, 1) := dk_28 (dk_at dksX6_worth_3 13 rfl rfl)
theorem dX6_worth_78 : decode cX6_worth 78 = .ok (.iconst 2, 1) := dk_5 (dk_at dksX6_worth_3 14 rfl rfl)
theorem dX6_worth_79 : decode cX6_worth 79 = .ok (.iadd, 1) := dk_96 (dk_at dksX6_worth_3 15 rfl rfl)
theorem dX6_worth_80 : decode cX6_worth 80 = .ok (.iaload, 1) := dk_46 (dk_at dksX6_worth_3 16 rfl rfl)
theorem dX6_worth_81 : decode cX6_worth 81 = .ok (.bipush 10, 2) := dk_16 10 (dk_at dksX6_worth_3 17 rfl rfl)
theorem dX6_worth_83 : decode cX6_worth 83 = .ok (.iadd, 1) := dk_96 (dk_at dksX6_worth_3 19 rfl rfl)
theorem dX6_worth_84 : decode cX6_worth 84 = .ok (.ireturn, 1) := dk_172 (dk_at dksX6_worth_3 20 rfl rfl)
theorem dX6_worth_85 : decode cX6_worth 85 = .ok (.iload_n 3, 1) := dk_29 (dk_at dksX6_worth_3 21 rfl rfl)
theorem dX6_worth_86 : decode cX6_worth 86 = .ok (.iconst 2, 1) := dk_5 (dk_at dksX6_worth_3 22 rfl rfl)
theorem dX6_worth_87 : decode cX6_worth 87 = .ok (.idiv, 1) := dk_108 (dk_at dksX6_worth_3 23 rfl rfl)
theorem dX6_worth_88 : decode cX6_worth 88 = .ok (.aload_n 0, 1) := dk_42 (dk_at dksX6_worth_4 0 rfl rfl)
theorem dX6_worth_89 : decode cX6_worth 89 = .ok (.getfield 7, 3) := dk_180 0 7 (dk_at dksX6_worth_4 1 rfl rfl)
theorem dX6_worth_92 : decode cX6_worth 92 = .ok (.iload_n 2, 1) := dk_28 (dk_at dksX6_worth_4 4 rfl rfl)
theorem dX6_worth_93 : decode cX6_worth 93 = .ok (.iconst 3, 1) := dk_6 (dk_at dksX6_worth_4 5 rfl rfl)
theorem dX6_worth_94 : decode cX6_worth 94 = .ok (.iadd, 1) := dk_96 (dk_at dksX6_worth_4 6 rfl rfl)
theorem dX6_worth_95 : decode cX6_worth 95 = .ok (.iaload, 1) := dk_46 (dk_at dksX6_worth_4 7 rfl rfl)
theorem dX6_worth_96 : decode cX6_worth 96 = .ok (.iadd, 1) := dk_96 (dk_at dksX6_worth_4 8 rfl rfl)
theorem dX6_worth_97 : decode cX6_worth 97 = .ok (.ireturn, 1) := dk_172 (dk_at dksX6_worth_4 9 rfl rfl)
theorem dX6_worth_98 : decode cX6_worth 98 = .ok (.bipush 7, 2) := dk_16 7 (dk_at dksX6_worth_4 10 rfl rfl)
theorem dX6_worth_100 : decode cX6_worth 100 = .ok (.ireturn, 1) := dk_172 (dk_at dksX6_worth_4 12 rfl rfl)
theorem dX6_worth_101 : decode cX6_worth 101 = .ok (.iload_n 3, 1) := dk_29 (dk_at dksX6_worth_4 13 rfl rfl)
theorem dX6_worth_102 : decode cX6_worth 102 = .ok (.ireturn, 1) := dk_172 (dk_at dksX6_worth_4 14 rfl rfl)
abbrev cX6_as : ByteArray := prog_19_method_23_code
def yX6_as : MethodName := ⟨RX6, "as", "(II)I"⟩
def dkwX6_as_2 : List UInt8 := [182, 0, 92, 4, 96, 46, 167, 0, 5, 18, 146, 172]
abbrev dktX6_as_2 : List UInt8 := dkwX6_as_2 ++ []
def dkwX6_as_1 : List UInt8 := [180, 0, 7, 42, 27, 182, 0, 92, 46, 28, 184, 0, 143, 153, 0, 18, 42, 180, 0, 7, 42, 27]
abbrev dktX6_as_1 : List UInt8 := dkwX6_as_1 ++ dktX6_as_2
def dkwX6_as_0 : List UInt8 := [42, 27, 182, 0, 116, 153, 0, 15, 28, 133, 9, 20, 0, 110, 184, 0, 83, 154, 0, 6, 18, 120, 172, 42]
abbrev dktX6_as_0 : List UInt8 := dkwX6_as_0 ++ dktX6_as_1
theorem dksX6_as_0 : cX6_as.data.toList.drop 0 = dktX6_as_0 := by decide +kernel
theorem dksX6_as_1 : cX6_as.data.toList.drop 24 = dktX6_as_1 := dk_seg dksX6_as_0 24 rfl rfl
theorem dksX6_as_2 : cX6_as.data.toList.drop 46 = dktX6_as_2 := dk_seg dksX6_as_1 22 rfl rfl
theorem dX6_as_0 : decode cX6_as 0 = .ok (.aload_n 0, 1) := dk_42 (dk_at dksX6_as_0 0 rfl rfl)
theorem dX6_as_1 : decode cX6_as 1 = .ok (.iload_n 1, 1) := dk_27 (dk_at dksX6_as_0 1 rfl rfl)
theorem dX6_as_2 : decode cX6_as 2 = .ok (.invokevirtual 116, 3) := dk_182 0 116 (dk_at dksX6_as_0 2 rfl rfl)
theorem dX6_as_5 : decode cX6_as 5 = .ok (.ifCond .eq 15, 3) := dk_153 0 15 (dk_at dksX6_as_0 5 rfl rfl)
theorem dX6_as_8 : decode cX6_as 8 = .ok (.iload_n 2, 1) := dk_28 (dk_at dksX6_as_0 8 rfl rfl)
theorem dX6_as_9 : decode cX6_as 9 = .ok (.i2l, 1) := dk_133 (dk_at dksX6_as_0 9 rfl rfl)
theorem dX6_as_10 : decode cX6_as 10 = .ok (.lconst 0, 1) := dk_9 (dk_at dksX6_as_0 10 rfl rfl)
theorem dX6_as_11 : decode cX6_as 11 = .ok (.ldc2_w 110, 3) := dk_20 0 110 (dk_at dksX6_as_0 11 rfl rfl)
theorem dX6_as_14 : decode cX6_as 14 = .ok (.invokestatic 83, 3) := dk_184 0 83 (dk_at dksX6_as_0 14 rfl rfl)
theorem dX6_as_17 : decode cX6_as 17 = .ok (.ifCond .ne 6, 3) := dk_154 0 6 (dk_at dksX6_as_0 17 rfl rfl)
theorem dX6_as_20 : decode cX6_as 20 = .ok (.ldc 120, 2) := dk_18 120 (dk_at dksX6_as_0 20 rfl rfl)
theorem dX6_as_22 : decode cX6_as 22 = .ok (.ireturn, 1) := dk_172 (dk_at dksX6_as_0 22 rfl rfl)
theorem dX6_as_23 : decode cX6_as 23 = .ok (.aload_n 0, 1) := dk_42 (dk_at dksX6_as_0 23 rfl rfl)
theorem dX6_as_24 : decode cX6_as 24 = .ok (.getfield 7, 3) := dk_180 0 7 (dk_at dksX6_as_1 0 rfl rfl)
theorem dX6_as_27 : decode cX6_as 27 = .ok (.aload_n 0, 1) := dk_42 (dk_at dksX6_as_1 3 rfl rfl)
theorem dX6_as_28 : decode cX6_as 28 = .ok (.iload_n 1, 1) := dk_27 (dk_at dksX6_as_1 4 rfl rfl)
theorem dX6_as_29 : decode cX6_as 29 = .ok (.invokevirtual 92, 3) := dk_182 0 92 (dk_at dksX6_as_1 5 rfl rfl)
theorem dX6_as_32 : decode cX6_as 32 = .ok (.iaload, 1) := dk_46 (dk_at dksX6_as_1 8 rfl rfl)
theorem dX6_as_33 : decode cX6_as 33 = .ok (.iload_n 2, 1) := dk_28 (dk_at dksX6_as_1 9 rfl rfl)
theorem dX6_as_34 : decode cX6_as 34 = .ok (.invokestatic 143, 3) := dk_184 0 143 (dk_at dksX6_as_1 10 rfl rfl)
theorem dX6_as_37 : decode cX6_as 37 = .ok (.ifCond .eq 18, 3) := dk_153 0 18 (dk_at dksX6_as_1 13 rfl rfl)
theorem dX6_as_40 : decode cX6_as 40 = .ok (.aload_n 0, 1) := dk_42 (dk_at dksX6_as_1 16 rfl rfl)
theorem dX6_as_41 : decode cX6_as 41 = .ok (.getfield 7, 3) := dk_180 0 7 (dk_at dksX6_as_1 17 rfl rfl)
theorem dX6_as_44 : decode cX6_as 44 = .ok (.aload_n 0, 1) := dk_42 (dk_at dksX6_as_1 20 rfl rfl)
theorem dX6_as_45 : decode cX6_as 45 = .ok (.iload_n 1, 1) := dk_27 (dk_at dksX6_as_1 21 rfl rfl)
theorem dX6_as_46 : decode cX6_as 46 = .ok (.invokevirtual 92, 3) := dk_182 0 92 (dk_at dksX6_as_2 0 rfl rfl)
theorem dX6_as_49 : decode cX6_as 49 = .ok (.iconst 1, 1) := dk_4 (dk_at dksX6_as_2 3 rfl rfl)
theorem dX6_as_50 : decode cX6_as 50 = .ok (.iadd, 1) := dk_96 (dk_at dksX6_as_2 4 rfl rfl)
theorem dX6_as_51 : decode cX6_as 51 = .ok (.iaload, 1) := dk_46 (dk_at dksX6_as_2 5 rfl rfl)
theorem dX6_as_52 : decode cX6_as 52 = .ok (.goto 5, 3) := dk_167 0 5 (dk_at dksX6_as_2 6 rfl rfl)
theorem dX6_as_55 : decode cX6_as 55 = .ok (.ldc 146, 2) := dk_18 146 (dk_at dksX6_as_2 9 rfl rfl)
theorem dX6_as_57 : decode cX6_as 57 = .ok (.ireturn, 1) := dk_172 (dk_at dksX6_as_2 11 rfl rfl)
abbrev cX6_isOf : ByteArray := prog_19_method_22_code
def yX6_isOf : MethodName := ⟨RX6, "isOf", "(II)Z"⟩
def dkwX6_isOf_1 : List UInt8 := [26, 7, 160, 0, 7, 4, 167, 0, 4, 3, 172]
abbrev dktX6_isOf_1 : List UInt8 := dkwX6_isOf_1 ++ []
def dkwX6_isOf_0 : List UInt8 := [26, 27, 159, 0, 27, 27, 153, 0, 23, 27, 4, 160, 0, 8, 26, 6, 159, 0, 13, 27, 5, 160, 0, 12]
abbrev dktX6_isOf_0 : List UInt8 := dkwX6_isOf_0 ++ dktX6_isOf_1
theorem dksX6_isOf_0 : cX6_isOf.data.toList.drop 0 = dktX6_isOf_0 := by decide +kernel
theorem dksX6_isOf_1 : cX6_isOf.data.toList.drop 24 = dktX6_isOf_1 := dk_seg dksX6_isOf_0 24 rfl rfl
theorem dX6_isOf_0 : decode cX6_isOf 0 = .ok (.iload_n 0, 1) := dk_26 (dk_at dksX6_isOf_0 0 rfl rfl)
theorem dX6_isOf_1 : decode cX6_isOf 1 = .ok (.iload_n 1, 1) := dk_27 (dk_at dksX6_isOf_0 1 rfl rfl)
theorem dX6_isOf_2 : decode cX6_isOf 2 = .ok (.if_icmp .eq 27, 3) := dk_159 0 27 (dk_at dksX6_isOf_0 2 rfl rfl)
theorem dX6_isOf_5 : decode cX6_isOf 5 = .ok (.iload_n 1, 1) := dk_27 (dk_at dksX6_isOf_0 5 rfl rfl)
theorem dX6_isOf_6 : decode cX6_isOf 6 = .ok (.ifCond .eq 23, 3) := dk_153 0 23 (dk_at dksX6_isOf_0 6 rfl rfl)
theorem dX6_isOf_9 : decode cX6_isOf 9 = .ok (.iload_n 1, 1) := dk_27 (dk_at dksX6_isOf_0 9 rfl rfl)
theorem dX6_isOf_10 : decode cX6_isOf 10 = .ok (.iconst 1, 1) := dk_4 (dk_at dksX6_isOf_0 10 rfl rfl)
theorem dX6_isOf_11 : decode cX6_isOf 11 = .ok (.if_icmp .ne 8, 3) := dk_160 0 8 (dk_at dksX6_isOf_0 11 rfl rfl)
theorem dX6_isOf_14 : decode cX6_isOf 14 = .ok (.iload_n 0, 1) := dk_26 (dk_at dksX6_isOf_0 14 rfl rfl)
theorem dX6_isOf_15 : decode cX6_isOf 15 = .ok (.iconst 3, 1) := dk_6 (dk_at dksX6_isOf_0 15 rfl rfl)
theorem dX6_isOf_16 : decode cX6_isOf 16 = .ok (.if_icmp .eq 13, 3) := dk_159 0 13 (dk_at dksX6_isOf_0 16 rfl rfl)
theorem dX6_isOf_19 : decode cX6_isOf 19 = .ok (.iload_n 1, 1) := dk_27 (dk_at dksX6_isOf_0 19 rfl rfl)
theorem dX6_isOf_20 : decode cX6_isOf 20 = .ok (.iconst 2, 1) := dk_5 (dk_at dksX6_isOf_0 20 rfl rfl)
theorem dX6_isOf_21 : decode cX6_isOf 21 = .ok (.if_icmp .ne 12, 3) := dk_160 0 12 (dk_at dksX6_isOf_0 21 rfl rfl)
theorem dX6_isOf_24 : decode cX6_isOf 24 = .ok (.iload_n 0, 1) := dk_26 (dk_at dksX6_isOf_1 0 rfl rfl)
theorem dX6_isOf_25 : decode cX6_isOf 25 = .ok (.iconst 4, 1) := dk_7 (dk_at dksX6_isOf_1 1 rfl rfl)
theorem dX6_isOf_26 : decode cX6_isOf 26 = .ok (.if_icmp .ne 7, 3) := dk_160 0 7 (dk_at dksX6_isOf_1 2 rfl rfl)
theorem dX6_isOf_29 : decode cX6_isOf 29 = .ok (.iconst 1, 1) := dk_4 (dk_at dksX6_isOf_1 5 rfl rfl)
theorem dX6_isOf_30 : decode cX6_isOf 30 = .ok (.goto 4, 3) := dk_167 0 4 (dk_at dksX6_isOf_1 6 rfl rfl)
theorem dX6_isOf_33 : decode cX6_isOf 33 = .ok (.iconst 0, 1) := dk_3 (dk_at dksX6_isOf_1 9 rfl rfl)
theorem dX6_isOf_34 : decode cX6_isOf 34 = .ok (.ireturn, 1) := dk_172 (dk_at dksX6_isOf_1 10 rfl rfl)
abbrev cX6_turns : ByteArray := prog_19_method_24_code
def yX6_turns : MethodName := ⟨RX6, "turns", "(II)I"⟩
def dkwX6_turns_1 : List UInt8 := [182, 0, 92, 28, 182, 0, 147, 167, 0, 5, 18, 120, 172]
abbrev dktX6_turns_1 : List UInt8 := dkwX6_turns_1 ++ []
def dkwX6_turns_0 : List UInt8 := [42, 27, 182, 0, 116, 153, 0, 28, 28, 133, 9, 20, 0, 110, 184, 0, 83, 153, 0, 16, 42, 42, 27]
abbrev dktX6_turns_0 : List UInt8 := dkwX6_turns_0 ++ dktX6_turns_1
theorem dksX6_turns_0 : cX6_turns.data.toList.drop 0 = dktX6_turns_0 := by decide +kernel
theorem dksX6_turns_1 : cX6_turns.data.toList.drop 23 = dktX6_turns_1 := dk_seg dksX6_turns_0 23 rfl rfl
theorem dX6_turns_0 : decode cX6_turns 0 = .ok (.aload_n 0, 1) := dk_42 (dk_at dksX6_turns_0 0 rfl rfl)
theorem dX6_turns_1 : decode cX6_turns 1 = .ok (.iload_n 1, 1) := dk_27 (dk_at dksX6_turns_0 1 rfl rfl)
theorem dX6_turns_2 : decode cX6_turns 2 = .ok (.invokevirtual 116, 3) := dk_182 0 116 (dk_at dksX6_turns_0 2 rfl rfl)
theorem dX6_turns_5 : decode cX6_turns 5 = .ok (.ifCond .eq 28, 3) := dk_153 0 28 (dk_at dksX6_turns_0 5 rfl rfl)
theorem dX6_turns_8 : decode cX6_turns 8 = .ok (.iload_n 2, 1) := dk_28 (dk_at dksX6_turns_0 8 rfl rfl)
theorem dX6_turns_9 : decode cX6_turns 9 = .ok (.i2l, 1) := dk_133 (dk_at dksX6_turns_0 9 rfl rfl)
theorem dX6_turns_10 : decode cX6_turns 10 = .ok (.lconst 0, 1) := dk_9 (dk_at dksX6_turns_0 10 rfl rfl)
theorem dX6_turns_11 : decode cX6_turns 11 = .ok (.ldc2_w 110, 3) := dk_20 0 110 (dk_at dksX6_turns_0 11 rfl rfl)
theorem dX6_turns_14 : decode cX6_turns 14 = .ok (.invokestatic 83, 3) := dk_184 0 83 (dk_at dksX6_turns_0 14 rfl rfl)
theorem dX6_turns_17 : decode cX6_turns 17 = .ok (.ifCond .eq 16, 3) := dk_153 0 16 (dk_at dksX6_turns_0 17 rfl rfl)
theorem dX6_turns_20 : decode cX6_turns 20 = .ok (.aload_n 0, 1) := dk_42 (dk_at dksX6_turns_0 20 rfl rfl)
theorem dX6_turns_21 : decode cX6_turns 21 = .ok (.aload_n 0, 1) := dk_42 (dk_at dksX6_turns_0 21 rfl rfl)
theorem dX6_turns_22 : decode cX6_turns 22 = .ok (.iload_n 1, 1) := dk_27 (dk_at dksX6_turns_0 22 rfl rfl)
theorem dX6_turns_23 : decode cX6_turns 23 = .ok (.invokevirtual 92, 3) := dk_182 0 92 (dk_at dksX6_turns_1 0 rfl rfl)
theorem dX6_turns_26 : decode cX6_turns 26 = .ok (.iload_n 2, 1) := dk_28 (dk_at dksX6_turns_1 3 rfl rfl)
theorem dX6_turns_27 : decode cX6_turns 27 = .ok (.invokevirtual 147, 3) := dk_182 0 147 (dk_at dksX6_turns_1 4 rfl rfl)
theorem dX6_turns_30 : decode cX6_turns 30 = .ok (.goto 5, 3) := dk_167 0 5 (dk_at dksX6_turns_1 7 rfl rfl)
theorem dX6_turns_33 : decode cX6_turns 33 = .ok (.ldc 120, 2) := dk_18 120 (dk_at dksX6_turns_1 10 rfl rfl)
theorem dX6_turns_35 : decode cX6_turns 35 = .ok (.ireturn, 1) := dk_172 (dk_at dksX6_turns_1 12 rfl rfl)
abbrev cX6_becomes : ByteArray := prog_19_method_4_code
def yX6_becomes : MethodName := ⟨RX6, "becomes", "(II)I"⟩
def dkwX6_becomes_0 : List UInt8 := [42, 180, 0, 7, 27, 46, 62, 42, 180, 0, 7, 27, 28, 79, 29, 172]
abbrev dktX6_becomes_0 : List UInt8 := dkwX6_becomes_0 ++ []
theorem dksX6_becomes_0 : cX6_becomes.data.toList.drop 0 = dktX6_becomes_0 := by decide +kernel
theorem dX6_becomes_0 : decode cX6_becomes 0 = .ok (.aload_n 0, 1) := dk_42 (dk_at dksX6_becomes_0 0 rfl rfl)
theorem dX6_becomes_1 : decode cX6_becomes 1 = .ok (.getfield 7, 3) := dk_180 0 7 (dk_at dksX6_becomes_0 1 rfl rfl)
theorem dX6_becomes_4 : decode cX6_becomes 4 = .ok (.iload_n 1, 1) := dk_27 (dk_at dksX6_becomes_0 4 rfl rfl)
theorem dX6_becomes_5 : decode cX6_becomes 5 = .ok (.iaload, 1) := dk_46 (dk_at dksX6_becomes_0 5 rfl rfl)
theorem dX6_becomes_6 : decode cX6_becomes 6 = .ok (.istore_n 3, 1) := dk_62 (dk_at dksX6_becomes_0 6 rfl rfl)
theorem dX6_becomes_7 : decode cX6_becomes 7 = .ok (.aload_n 0, 1) := dk_42 (dk_at dksX6_becomes_0 7 rfl rfl)
theorem dX6_becomes_8 : decode cX6_becomes 8 = .ok (.getfield 7, 3) := dk_180 0 7 (dk_at dksX6_becomes_0 8 rfl rfl)
theorem dX6_becomes_11 : decode cX6_becomes 11 = .ok (.iload_n 1, 1) := dk_27 (dk_at dksX6_becomes_0 11 rfl rfl)
theorem dX6_becomes_12 : decode cX6_becomes 12 = .ok (.iload_n 2, 1) := dk_28 (dk_at dksX6_becomes_0 12 rfl rfl)
theorem dX6_becomes_13 : decode cX6_becomes 13 = .ok (.iastore, 1) := dk_79 (dk_at dksX6_becomes_0 13 rfl rfl)
theorem dX6_becomes_14 : decode cX6_becomes 14 = .ok (.iload_n 3, 1) := dk_29 (dk_at dksX6_becomes_0 14 rfl rfl)
theorem dX6_becomes_15 : decode cX6_becomes 15 = .ok (.ireturn, 1) := dk_172 (dk_at dksX6_becomes_0 15 rfl rfl)
abbrev cX6_set : ByteArray := prog_19_method_25_code
def yX6_set : MethodName := ⟨RX6, "set", "(III)I"⟩
def dkwX6_set_2 : List UInt8 := [184, 0, 83, 154, 0, 6, 18, 120, 172, 42, 42, 27, 182, 0, 92, 4, 96, 28, 96, 29, 182, 0, 147, 172]
abbrev dktX6_set_2 : List UInt8 := dkwX6_set_2 ++ []
def dkwX6_set_1 : List UInt8 := [154, 0, 7, 10, 167, 0, 4, 9, 28, 4, 160, 0, 9, 20, 0, 114, 167, 0, 6, 20, 0, 112]
abbrev dktX6_set_1 : List UInt8 := dkwX6_set_1 ++ dktX6_set_2
def dkwX6_set_0 : List UInt8 := [42, 27, 182, 0, 116, 153, 0, 46, 28, 133, 9, 20, 0, 151, 184, 0, 83, 153, 0, 34, 29, 133, 28]
abbrev dktX6_set_0 : List UInt8 := dkwX6_set_0 ++ dktX6_set_1
theorem dksX6_set_0 : cX6_set.data.toList.drop 0 = dktX6_set_0 := by decide +kernel
theorem dksX6_set_1 : cX6_set.data.toList.drop 23 = dktX6_set_1 := dk_seg dksX6_set_0 23 rfl rfl
theorem dksX6_set_2 : cX6_set.data.toList.drop 45 = dktX6_set_2 := dk_seg dksX6_set_1 22 rfl rfl
theorem dX6_set_0 : decode cX6_set 0 = .ok (.aload_n 0, 1) := dk_42 (dk_at dksX6_set_0 0 rfl rfl)
theorem dX6_set_1 : decode cX6_set 1 = .ok (.iload_n 1, 1) := dk_27 (dk_at dksX6_set_0 1 rfl rfl)
theorem dX6_set_2 : decode cX6_set 2 = .ok (.invokevirtual 116, 3) := dk_182 0 116 (dk_at dksX6_set_0 2 rfl rfl)
theorem dX6_set_5 : decode cX6_set 5 = .ok (.ifCond .eq 46, 3) := dk_153 0 46 (dk_at dksX6_set_0 5 rfl rfl)
theorem dX6_set_8 : decode cX6_set 8 = .ok (.iload_n 2, 1) := dk_28 (dk_at dksX6_set_0 8 rfl rfl)
theorem dX6_set_9 : decode cX6_set 9 = .ok (.i2l, 1) := dk_133 (dk_at dksX6_set_0 9 rfl rfl)
theorem dX6_set_10 : decode cX6_set 10 = .ok (.lconst 0, 1) := dk_9 (dk_at dksX6_set_0 10 rfl rfl)
theorem dX6_set_11 : decode cX6_set 11 = .ok (.ldc2_w 151, 3) := dk_20 0 151 (dk_at dksX6_set_0 11 rfl rfl)
theorem dX6_set_14 : decode cX6_set 14 = .ok (.invokestatic 83, 3) := dk_184 0 83 (dk_at dksX6_set_0 14 rfl rfl)
theorem dX6_set_17 : decode cX6_set 17 = .ok (.ifCond .eq 34, 3) := dk_153 0 34 (dk_at dksX6_set_0 17 rfl rfl)
theorem dX6_set_20 : decode cX6_set 20 = .ok (.iload_n 3, 1) := dk_29 (dk_at dksX6_set_0 20 rfl rfl)
theorem dX6_set_21 : decode cX6_set 21 = .ok (.i2l, 1) := dk_133 (dk_at dksX6_set_0 21 rfl rfl)
theorem dX6_set_22 : decode cX6_set 22 = .ok (.iload_n 2, 1) := dk_28 (dk_at dksX6_set_0 22 rfl rfl)
theorem dX6_set_23 : decode cX6_set 23 = .ok (.ifCond .ne 7, 3) := dk_154 0 7 (dk_at dksX6_set_1 0 rfl rfl)
theorem dX6_set_26 : decode cX6_set 26 = .ok (.lconst 1, 1) := dk_10 (dk_at dksX6_set_1 3 rfl rfl)
theorem dX6_set_27 : decode cX6_set 27 = .ok (.goto 4, 3) := dk_167 0 4 (dk_at dksX6_set_1 4 rfl rfl)
theorem dX6_set_30 : decode cX6_set 30 = .ok (.lconst 0, 1) := dk_9 (dk_at dksX6_set_1 7 rfl rfl)
theorem dX6_set_31 : decode cX6_set 31 = .ok (.iload_n 2, 1) := dk_28 (dk_at dksX6_set_1 8 rfl rfl)
theorem dX6_set_32 : decode cX6_set 32 = .ok (.iconst 1, 1) := dk_4 (dk_at dksX6_set_1 9 rfl rfl)
theorem dX6_set_33 : decode cX6_set 33 = .ok (.if_icmp .ne 9, 3) := dk_160 0 9 (dk_at dksX6_set_1 10 rfl rfl)
theorem dX6_set_36 : decode cX6_set 36 = .ok (.ldc2_w 114, 3) := dk_20 0 114 (dk_at dksX6_set_1 13 rfl rfl)
theorem dX6_set_39 : decode cX6_set 39 = .ok (.goto 6, 3) := dk_167 0 6 (dk_at dksX6_set_1 16 rfl rfl)
theorem dX6_set_42 : decode cX6_set 42 = .ok (.ldc2_w 112, 3) := dk_20 0 112 (dk_at dksX6_set_1 19 rfl rfl)
theorem dX6_set_45 : decode cX6_set 45 = .ok (.invokestatic 83, 3) := dk_184 0 83 (dk_at dksX6_set_2 0 rfl rfl)
theorem dX6_set_48 : decode cX6_set 48 = .ok (.ifCond .ne 6, 3) := dk_154 0 6 (dk_at dksX6_set_2 3 rfl rfl)
theorem dX6_set_51 : decode cX6_set 51 = .ok (.ldc 120, 2) := dk_18 120 (dk_at dksX6_set_2 6 rfl rfl)
theorem dX6_set_53 : decode cX6_set 53 = .ok (.ireturn, 1) := dk_172 (dk_at dksX6_set_2 8 rfl rfl)
theorem dX6_set_54 : decode cX6_set 54 = .ok (.aload_n 0, 1) := dk_42 (dk_at dksX6_set_2 9 rfl rfl)
theorem dX6_set_55 : decode cX6_set 55 = .ok (.aload_n 0, 1) := dk_42 (dk_at dksX6_set_2 10 rfl rfl)
theorem dX6_set_56 : decode cX6_set 56 = .ok (.iload_n 1, 1) := dk_27 (dk_at dksX6_set_2 11 rfl rfl)
theorem dX6_set_57 : decode cX6_set 57 = .ok (.invokevirtual 92, 3) := dk_182 0 92 (dk_at dksX6_set_2 12 rfl rfl)
theorem dX6_set_60 : decode cX6_set 60 = .ok (.iconst 1, 1) := dk_4 (dk_at dksX6_set_2 15 rfl rfl)
theorem dX6_set_61 : decode cX6_set 61 = .ok (.iadd, 1) := dk_96 (dk_at dksX6_set_2 16 rfl rfl)
theorem dX6_set_62 : decode cX6_set 62 = .ok (.iload_n 2, 1) := dk_28 (dk_at dksX6_set_2 17 rfl rfl)
theorem dX6_set_63 : decode cX6_set 63 = .ok (.iadd, 1) := dk_96 (dk_at dksX6_set_2 18 rfl rfl)
theorem dX6_set_64 : decode cX6_set 64 = .ok (.iload_n 3, 1) := dk_29 (dk_at dksX6_set_2 19 rfl rfl)
theorem dX6_set_65 : decode cX6_set 65 = .ok (.invokevirtual 147, 3) := dk_182 0 147 (dk_at dksX6_set_2 20 rfl rfl)
theorem dX6_set_68 : decode cX6_set 68 = .ok (.ireturn, 1) := dk_172 (dk_at dksX6_set_2 23 rfl rfl)
abbrev cX6_leans : ByteArray := prog_19_method_26_code
def yX6_leans : MethodName := ⟨RX6, "leans", "(II)I"⟩
def dkwX6_leans_2 : List UInt8 := [28, 182, 0, 147, 184, 0, 126, 172]
abbrev dktX6_leans_2 : List UInt8 := dkwX6_leans_2 ++ []
def dkwX6_leans_1 : List UInt8 := [154, 0, 6, 18, 120, 172, 42, 42, 27, 182, 0, 92, 7, 96, 28, 18, 82, 160, 0, 7, 2, 167, 0, 4]
abbrev dktX6_leans_1 : List UInt8 := dkwX6_leans_1 ++ dktX6_leans_2
def dkwX6_leans_0 : List UInt8 := [42, 27, 182, 0, 116, 153, 0, 22, 28, 18, 82, 159, 0, 19, 28, 133, 9, 27, 4, 100, 133, 184, 0, 83]
abbrev dktX6_leans_0 : List UInt8 := dkwX6_leans_0 ++ dktX6_leans_1
theorem dksX6_leans_0 : cX6_leans.data.toList.drop 0 = dktX6_leans_0 := by decide +kernel
theorem dksX6_leans_1 : cX6_leans.data.toList.drop 24 = dktX6_leans_1 := dk_seg dksX6_leans_0 24 rfl rfl
theorem dksX6_leans_2 : cX6_leans.data.toList.drop 48 = dktX6_leans_2 := dk_seg dksX6_leans_1 24 rfl rfl
theorem dX6_leans_0 : decode cX6_leans 0 = .ok (.aload_n 0, 1) := dk_42 (dk_at dksX6_leans_0 0 rfl rfl)
theorem dX6_leans_1 : decode cX6_leans 1 = .ok (.iload_n 1, 1) := dk_27 (dk_at dksX6_leans_0 1 rfl rfl)
theorem dX6_leans_2 : decode cX6_leans 2 = .ok (.invokevirtual 116, 3) := dk_182 0 116 (dk_at dksX6_leans_0 2 rfl rfl)
theorem dX6_leans_5 : decode cX6_leans 5 = .ok (.ifCond .eq 22, 3) := dk_153 0 22 (dk_at dksX6_leans_0 5 rfl rfl)
theorem dX6_leans_8 : decode cX6_leans 8 = .ok (.iload_n 2, 1) := dk_28 (dk_at dksX6_leans_0 8 rfl rfl)
theorem dX6_leans_9 : decode cX6_leans 9 = .ok (.ldc 82, 2) := dk_18 82 (dk_at dksX6_leans_0 9 rfl rfl)
theorem dX6_leans_11 : decode cX6_leans 11 = .ok (.if_icmp .eq 19, 3) := dk_159 0 19 (dk_at dksX6_leans_0 11 rfl rfl)
theorem dX6_leans_14 : decode cX6_leans 14 = .ok (.iload_n 2, 1) := dk_28 (dk_at dksX6_leans_0 14 rfl rfl)
theorem dX6_leans_15 : decode cX6_leans 15 = .ok (.i2l, 1) := dk_133 (dk_at dksX6_leans_0 15 rfl rfl)
theorem dX6_leans_16 : decode cX6_leans 16 = .ok (.lconst 0, 1) := dk_9 (dk_at dksX6_leans_0 16 rfl rfl)
theorem dX6_leans_17 : decode cX6_leans 17 = .ok (.iload_n 1, 1) := dk_27 (dk_at dksX6_leans_0 17 rfl rfl)
theorem dX6_leans_18 : decode cX6_leans 18 = .ok (.iconst 1, 1) := dk_4 (dk_at dksX6_leans_0 18 rfl rfl)
theorem dX6_leans_19 : decode cX6_leans 19 = .ok (.isub, 1) := dk_100 (dk_at dksX6_leans_0 19 rfl rfl)
theorem dX6_leans_20 : decode cX6_leans 20 = .ok (.i2l, 1) := dk_133 (dk_at dksX6_leans_0 20 rfl rfl)
theorem dX6_leans_21 : decode cX6_leans 21 = .ok (.invokestatic 83, 3) := dk_184 0 83 (dk_at dksX6_leans_0 21 rfl rfl)
theorem dX6_leans_24 : decode cX6_leans 24 = .ok (.ifCond .ne 6, 3) := dk_154 0 6 (dk_at dksX6_leans_1 0 rfl rfl)
theorem dX6_leans_27 : decode cX6_leans 27 = .ok (.ldc 120, 2) := dk_18 120 (dk_at dksX6_leans_1 3 rfl rfl)
theorem dX6_leans_29 : decode cX6_leans 29 = .ok (.ireturn, 1) := dk_172 (dk_at dksX6_leans_1 5 rfl rfl)
theorem dX6_leans_30 : decode cX6_leans 30 = .ok (.aload_n 0, 1) := dk_42 (dk_at dksX6_leans_1 6 rfl rfl)
theorem dX6_leans_31 : decode cX6_leans 31 = .ok (.aload_n 0, 1) := dk_42 (dk_at dksX6_leans_1 7 rfl rfl)
theorem dX6_leans_32 : decode cX6_leans 32 = .ok (.iload_n 1, 1) := dk_27 (dk_at dksX6_leans_1 8 rfl rfl)
theorem dX6_leans_33 : decode cX6_leans 33 = .ok (.invokevirtual 92, 3) := dk_182 0 92 (dk_at dksX6_leans_1 9 rfl rfl)
theorem dX6_leans_36 : decode cX6_leans 36 = .ok (.iconst 4, 1) := dk_7 (dk_at dksX6_leans_1 12 rfl rfl)
theorem dX6_leans_37 : decode cX6_leans 37 = .ok (.iadd, 1) := dk_96 (dk_at dksX6_leans_1 13 rfl rfl)
theorem dX6_leans_38 : decode cX6_leans 38 = .ok (.iload_n 2, 1) := dk_28 (dk_at dksX6_leans_1 14 rfl rfl)
theorem dX6_leans_39 : decode cX6_leans 39 = .ok (.ldc 82, 2) := dk_18 82 (dk_at dksX6_leans_1 15 rfl rfl)
theorem dX6_leans_41 : decode cX6_leans 41 = .ok (.if_icmp .ne 7, 3) := dk_160 0 7 (dk_at dksX6_leans_1 17 rfl rfl)
theorem dX6_leans_44 : decode cX6_leans 44 = .ok (.iconst (-1), 1) := dk_2 (dk_at dksX6_leans_1 20 rfl rfl)
theorem dX6_leans_45 : decode cX6_leans 45 = .ok (.goto 4, 3) := dk_167 0 4 (dk_at dksX6_leans_1 21 rfl rfl)
theorem dX6_leans_48 : decode cX6_leans 48 = .ok (.iload_n 2, 1) := dk_28 (dk_at dksX6_leans_2 0 rfl rfl)
theorem dX6_leans_49 : decode cX6_leans 49 = .ok (.invokevirtual 147, 3) := dk_182 0 147 (dk_at dksX6_leans_2 1 rfl rfl)
theorem dX6_leans_52 : decode cX6_leans 52 = .ok (.invokestatic 126, 3) := dk_184 0 126 (dk_at dksX6_leans_2 4 rfl rfl)
theorem dX6_leans_55 : decode cX6_leans 55 = .ok (.ireturn, 1) := dk_172 (dk_at dksX6_leans_2 7 rfl rfl)
abbrev cX6_deal : ByteArray := prog_19_method_27_code
def yX6_deal : MethodName := ⟨RX6, "deal", "(I)I"⟩
def dkwX6_deal_4 : List UInt8 := [132, 2, 1, 167, 255, 178, 28, 172]
abbrev dktX6_deal_4 : List UInt8 := dkwX6_deal_4 ++ []
def dkwX6_deal_3 : List UInt8 := [21, 4, 21, 5, 42, 180, 0, 7, 3, 46, 160, 0, 7, 2, 167, 0, 5, 21, 5, 182, 0, 122]
abbrev dktX6_deal_3 : List UInt8 := dkwX6_deal_3 ++ dktX6_deal_4
def dkwX6_deal_2 : List UInt8 := [16, 100, 112, 54, 4, 42, 182, 0, 155, 4, 42, 180, 0, 7, 3, 46, 96, 112, 54, 5, 42, 3, 29]
abbrev dktX6_deal_2 : List UInt8 := dkwX6_deal_2 ++ dktX6_deal_3
def dkwX6_deal_1 : List UInt8 := [180, 0, 7, 3, 46, 16, 8, 162, 0, 68, 4, 42, 182, 0, 155, 16, 9, 112, 96, 62, 42, 182, 0, 155]
abbrev dktX6_deal_1 : List UInt8 := dkwX6_deal_1 ++ dktX6_deal_2
def dkwX6_deal_0 : List UInt8 := [27, 133, 10, 20, 0, 153, 184, 0, 83, 154, 0, 6, 18, 120, 172, 3, 61, 28, 27, 162, 0, 79, 42]
abbrev dktX6_deal_0 : List UInt8 := dkwX6_deal_0 ++ dktX6_deal_1
theorem dksX6_deal_0 : cX6_deal.data.toList.drop 0 = dktX6_deal_0 := by decide +kernel
theorem dksX6_deal_1 : cX6_deal.data.toList.drop 23 = dktX6_deal_1 := dk_seg dksX6_deal_0 23 rfl rfl
theorem dksX6_deal_2 : cX6_deal.data.toList.drop 47 = dktX6_deal_2 := dk_seg dksX6_deal_1 24 rfl rfl
theorem dksX6_deal_3 : cX6_deal.data.toList.drop 70 = dktX6_deal_3 := dk_seg dksX6_deal_2 23 rfl rfl
theorem dksX6_deal_4 : cX6_deal.data.toList.drop 92 = dktX6_deal_4 := dk_seg dksX6_deal_3 22 rfl rfl
theorem dX6_deal_0 : decode cX6_deal 0 = .ok (.iload_n 1, 1) := dk_27 (dk_at dksX6_deal_0 0 rfl rfl)
theorem dX6_deal_1 : decode cX6_deal 1 = .ok (.i2l, 1) := dk_133 (dk_at dksX6_deal_0 1 rfl rfl)
theorem dX6_deal_2 : decode cX6_deal 2 = .ok (.lconst 1, 1) := dk_10 (dk_at dksX6_deal_0 2 rfl rfl)
theorem dX6_deal_3 : decode cX6_deal 3 = .ok (.ldc2_w 153, 3) := dk_20 0 153 (dk_at dksX6_deal_0 3 rfl rfl)
theorem dX6_deal_6 : decode cX6_deal 6 = .ok (.invokestatic 83, 3) := dk_184 0 83 (dk_at dksX6_deal_0 6 rfl rfl)
theorem dX6_deal_9 : decode cX6_deal 9 = .ok (.ifCond .ne 6, 3) := dk_154 0 6 (dk_at dksX6_deal_0 9 rfl rfl)
theorem dX6_deal_12 : decode cX6_deal 12 = .ok (.ldc 120, 2) := dk_18 120 (dk_at dksX6_deal_0 12 rfl rfl)
theorem dX6_deal_14 : decode cX6_deal 14 = .ok (.ireturn, 1) := dk_172 (dk_at dksX6_deal_0 14 rfl rfl)
theorem dX6_deal_15 : decode cX6_deal 15 = .ok (.iconst 0, 1) := dk_3 (dk_at dksX6_deal_0 15 rfl rfl)
theorem dX6_deal_16 : decode cX6_deal 16 = .ok (.istore_n 2, 1) := dk_61 (dk_at dksX6_deal_0 16 rfl rfl)
theorem dX6_deal_17 : decode cX6_deal 17 = .ok (.iload_n 2, 1) := dk_28 (dk_at dksX6_deal_0 17 rfl rfl)
theorem dX6_deal_18 : decode cX6_deal 18 = .ok (.iload_n 1, 1) := dk_27 (dk_at dksX6_deal_0 18 rfl rfl)
theorem dX6_deal_19 : decode cX6_deal 19 = .ok (.if_icmp .ge 79, 3) := dk_162 0 79 (dk_at dksX6_deal_0 19 rfl rfl)
theorem dX6_deal_22 : decode cX6_deal 22 = .ok (.aload_n 0, 1) := dk_42 (dk_at dksX6_deal_0 22 rfl rfl)
theorem dX6_deal_23 : decode cX6_deal 23 = .ok (.getfield 7, 3) := dk_180 0 7 (dk_at dksX6_deal_1 0 rfl rfl)
theorem dX6_deal_26 : decode cX6_deal 26 = .ok (.iconst 0, 1) := dk_3 (dk_at dksX6_deal_1 3 rfl rfl)
theorem dX6_deal_27 : decode cX6_deal 27 = .ok (.iaload, 1) := dk_46 (dk_at dksX6_deal_1 4 rfl rfl)
theorem dX6_deal_28 : decode cX6_deal 28 = .ok (.bipush 8, 2) := dk_16 8 (dk_at dksX6_deal_1 5 rfl rfl)
theorem dX6_deal_30 : decode cX6_deal 30 = .ok (.if_icmp .ge 68, 3) := dk_162 0 68 (dk_at dksX6_deal_1 7 rfl rfl)
theorem dX6_deal_33 : decode cX6_deal 33 = .ok (.iconst 1, 1) := dk_4 (dk_at dksX6_deal_1 10 rfl rfl)
theorem dX6_deal_34 : decode cX6_deal 34 = .ok (.aload_n 0, 1) := dk_42 (dk_at dksX6_deal_1 11 rfl rfl)
theorem dX6_deal_35 : decode cX6_deal 35 = .ok (.invokevirtual 155, 3) := dk_182 0 155 (dk_at dksX6_deal_1 12 rfl rfl)
theorem dX6_deal_38 : decode cX6_deal 38 = .ok (.bipush 9, 2) := dk_16 9 (dk_at dksX6_deal_1 15 rfl rfl)
theorem dX6_deal_40 : decode cX6_deal 40 = .ok (.irem, 1) := dk_112 (dk_at dksX6_deal_1 17 rfl rfl)
theorem dX6_deal_41 : decode cX6_deal 41 = .ok (.iadd, 1) := dk_96 (dk_at dksX6_deal_1 18 rfl rfl)
theorem dX6_deal_42 : decode cX6_deal 42 = .ok (.istore_n 3, 1) := dk_62 (dk_at dksX6_deal_1 19 rfl rfl)
theorem dX6_deal_43 : decode cX6_deal 43 = .ok (.aload_n 0, 1) := dk_42 (dk_at dksX6_deal_1 20 rfl rfl)
theorem dX6_deal_44 : decode cX6_deal 44 = .ok (.invokevirtual 155, 3) := dk_182 0 155 (dk_at dksX6_deal_1 21 rfl rfl)
theorem dX6_deal_47 : decode cX6_deal 47 = .ok (.bipush 100, 2) := dk_16 100 (dk_at dksX6_deal_2 0 rfl rfl)
theorem dX6_deal_49 : decode cX6_deal 49 = .ok (.irem, 1) := dk_112 (dk_at dksX6_deal_2 2 rfl rfl)
theorem dX6_deal_50 : decode cX6_deal 50 = .ok (.istore 4, 2) := dk_54 4 (dk_at dksX6_deal_2 3 rfl rfl)
theorem dX6_deal_52 : decode cX6_deal 52 = .ok (.aload_n 0, 1) := dk_42 (dk_at dksX6_deal_2 5 rfl rfl)
theorem dX6_deal_53 : decode cX6_deal 53 = .ok (.invokevirtual 155, 3) := dk_182 0 155 (dk_at dksX6_deal_2 6 rfl rfl)
theorem dX6_deal_56 : decode cX6_deal 56 = .ok (.iconst 1, 1) := dk_4 (dk_at dksX6_deal_2 9 rfl rfl)
theorem dX6_deal_57 : decode cX6_deal 57 = .ok (.aload_n 0, 1) := dk_42 (dk_at dksX6_deal_2 10 rfl rfl)
theorem dX6_deal_58 : decode cX6_deal 58 = .ok (.getfield 7, 3) := dk_180 0 7 (dk_at dksX6_deal_2 11 rfl rfl)
theorem dX6_deal_61 : decode cX6_deal 61 = .ok (.iconst 0, 1) := dk_3 (dk_at dksX6_deal_2 14 rfl rfl)
theorem dX6_deal_62 : decode cX6_deal 62 = .ok (.iaload, 1) := dk_46 (dk_at dksX6_deal_2 15 rfl rfl)
theorem dX6_deal_63 : decode cX6_deal 63 = .ok (.iadd, 1) := dk_96 (dk_at dksX6_deal_2 16 rfl rfl)
theorem dX6_deal_64 : decode cX6_deal 64 = .ok (.irem, 1) := dk_112 (dk_at dksX6_deal_2 17 rfl rfl)
theorem dX6_deal_65 : decode cX6_deal 65 = .ok (.istore 5, 2) := dk_54 5 (dk_at dksX6_deal_2 18 rfl rfl)
theorem dX6_deal_67 : decode cX6_deal 67 = .ok (.aload_n 0, 1) := dk_42 (dk_at dksX6_deal_2 20 rfl rfl)
theorem dX6_deal_68 : decode cX6_deal 68 = .ok (.iconst 0, 1) := dk_3 (dk_at dksX6_deal_2 21 rfl rfl)
theorem dX6_deal_69 : decode cX6_deal 69 = .ok (.iload_n 3, 1) := dk_29 (dk_at dksX6_deal_2 22 rfl rfl)
theorem dX6_deal_70 : decode cX6_deal 70 = .ok (.iload 4, 2) := dk_21 4 (dk_at dksX6_deal_3 0 rfl rfl)
theorem dX6_deal_72 : decode cX6_deal 72 = .ok (.iload 5, 2) := dk_21 5 (dk_at dksX6_deal_3 2 rfl rfl)
theorem dX6_deal_74 : decode cX6_deal 74 = .ok (.aload_n 0, 1) := dk_42 (dk_at dksX6_deal_3 4 rfl rfl)
theorem dX6_deal_75 : decode cX6_deal 75 = .ok (.getfield 7, 3) := dk_180 0 7 (dk_at dksX6_deal_3 5 rfl rfl)
theorem dX6_deal_78 : decode cX6_deal 78 = .ok (.iconst 0, 1) := dk_3 (dk_at dksX6_deal_3 8 rfl rfl)
theorem dX6_deal_79 : decode cX6_deal 79 = .ok (.iaload, 1) := dk_46 (dk_at dksX6_deal_3 9 rfl rfl)
theorem dX6_deal_80 : decode cX6_deal 80 = .ok (.if_icmp .ne 7, 3) := dk_160 0 7 (dk_at dksX6_deal_3 10 rfl rfl)
theorem dX6_deal_83 : decode cX6_deal 83 = .ok (.iconst (-1), 1) := dk_2 (dk_at dksX6_deal_3 13 rfl rfl)
theorem dX6_deal_84 : decode cX6_deal 84 = .ok (.goto 5, 3) := dk_167 0 5 (dk_at dksX6_deal_3 14 rfl rfl)
theorem dX6_deal_87 : decode cX6_deal 87 = .ok (.iload 5, 2) := dk_21 5 (dk_at dksX6_deal_3 17 rfl rfl)
theorem dX6_deal_89 : decode cX6_deal 89 = .ok (.invokevirtual 122, 3) := dk_182 0 122 (dk_at dksX6_deal_3 19 rfl rfl)
theorem dX6_deal_92 : decode cX6_deal 92 = .ok (.iinc 2 1, 3) := dk_132 2 1 (dk_at dksX6_deal_4 0 rfl rfl)
theorem dX6_deal_95 : decode cX6_deal 95 = .ok (.goto (-78), 3) := dk_167 255 178 (dk_at dksX6_deal_4 3 rfl rfl)
theorem dX6_deal_98 : decode cX6_deal 98 = .ok (.iload_n 2, 1) := dk_28 (dk_at dksX6_deal_4 6 rfl rfl)
theorem dX6_deal_99 : decode cX6_deal 99 = .ok (.ireturn, 1) := dk_172 (dk_at dksX6_deal_4 7 rfl rfl)
abbrev cX6_drawn : ByteArray := prog_19_method_9_code
def yX6_drawn : MethodName := ⟨RX6, "drawn", "()I"⟩
def dkwX6_drawn_1 : List UInt8 := [180, 0, 7, 16, 9, 46, 16, 8, 124, 172]
abbrev dktX6_drawn_1 : List UInt8 := dkwX6_drawn_1 ++ []
def dkwX6_drawn_0 : List UInt8 := [42, 180, 0, 7, 16, 9, 42, 180, 0, 7, 16, 9, 46, 18, 87, 104, 17, 48, 57, 96, 79, 42]
abbrev dktX6_drawn_0 : List UInt8 := dkwX6_drawn_0 ++ dktX6_drawn_1
theorem dksX6_drawn_0 : cX6_drawn.data.toList.drop 0 = dktX6_drawn_0 := by decide +kernel
theorem dksX6_drawn_1 : cX6_drawn.data.toList.drop 22 = dktX6_drawn_1 := dk_seg dksX6_drawn_0 22 rfl rfl
theorem dX6_drawn_0 : decode cX6_drawn 0 = .ok (.aload_n 0, 1) := dk_42 (dk_at dksX6_drawn_0 0 rfl rfl)
theorem dX6_drawn_1 : decode cX6_drawn 1 = .ok (.getfield 7, 3) := dk_180 0 7 (dk_at dksX6_drawn_0 1 rfl rfl)
theorem dX6_drawn_4 : decode cX6_drawn 4 = .ok (.bipush 9, 2) := dk_16 9 (dk_at dksX6_drawn_0 4 rfl rfl)
theorem dX6_drawn_6 : decode cX6_drawn 6 = .ok (.aload_n 0, 1) := dk_42 (dk_at dksX6_drawn_0 6 rfl rfl)
theorem dX6_drawn_7 : decode cX6_drawn 7 = .ok (.getfield 7, 3) := dk_180 0 7 (dk_at dksX6_drawn_0 7 rfl rfl)
theorem dX6_drawn_10 : decode cX6_drawn 10 = .ok (.bipush 9, 2) := dk_16 9 (dk_at dksX6_drawn_0 10 rfl rfl)
theorem dX6_drawn_12 : decode cX6_drawn 12 = .ok (.iaload, 1) := dk_46 (dk_at dksX6_drawn_0 12 rfl rfl)
theorem dX6_drawn_13 : decode cX6_drawn 13 = .ok (.ldc 87, 2) := dk_18 87 (dk_at dksX6_drawn_0 13 rfl rfl)
theorem dX6_drawn_15 : decode cX6_drawn 15 = .ok (.imul, 1) := dk_104 (dk_at dksX6_drawn_0 15 rfl rfl)
theorem dX6_drawn_16 : decode cX6_drawn 16 = .ok (.sipush 12345, 3) := dk_17 48 57 (dk_at dksX6_drawn_0 16 rfl rfl)
theorem dX6_drawn_19 : decode cX6_drawn 19 = .ok (.iadd, 1) := dk_96 (dk_at dksX6_drawn_0 19 rfl rfl)
theorem dX6_drawn_20 : decode cX6_drawn 20 = .ok (.iastore, 1) := dk_79 (dk_at dksX6_drawn_0 20 rfl rfl)
theorem dX6_drawn_21 : decode cX6_drawn 21 = .ok (.aload_n 0, 1) := dk_42 (dk_at dksX6_drawn_0 21 rfl rfl)
theorem dX6_drawn_22 : decode cX6_drawn 22 = .ok (.getfield 7, 3) := dk_180 0 7 (dk_at dksX6_drawn_1 0 rfl rfl)
theorem dX6_drawn_25 : decode cX6_drawn 25 = .ok (.bipush 9, 2) := dk_16 9 (dk_at dksX6_drawn_1 3 rfl rfl)
theorem dX6_drawn_27 : decode cX6_drawn 27 = .ok (.iaload, 1) := dk_46 (dk_at dksX6_drawn_1 5 rfl rfl)
theorem dX6_drawn_28 : decode cX6_drawn 28 = .ok (.bipush 8, 2) := dk_16 8 (dk_at dksX6_drawn_1 6 rfl rfl)
theorem dX6_drawn_30 : decode cX6_drawn 30 = .ok (.iushr, 1) := dk_124 (dk_at dksX6_drawn_1 8 rfl rfl)
theorem dX6_drawn_31 : decode cX6_drawn 31 = .ok (.ireturn, 1) := dk_172 (dk_at dksX6_drawn_1 9 rfl rfl)
abbrev cX6_space : ByteArray := prog_19_method_36_code
def yX6_space : MethodName := ⟨RX6, "space", "(I)I"⟩
def dkwX6_space_1 : List UInt8 := [27, 79, 42, 3, 182, 0, 177, 172]
abbrev dktX6_space_1 : List UInt8 := dkwX6_space_1 ++ []
def dkwX6_space_0 : List UInt8 := [27, 133, 9, 20, 0, 180, 184, 0, 83, 154, 0, 6, 18, 120, 172, 42, 182, 0, 182, 42, 180, 0, 7, 6]
abbrev dktX6_space_0 : List UInt8 := dkwX6_space_0 ++ dktX6_space_1
theorem dksX6_space_0 : cX6_space.data.toList.drop 0 = dktX6_space_0 := by decide +kernel
theorem dksX6_space_1 : cX6_space.data.toList.drop 24 = dktX6_space_1 := dk_seg dksX6_space_0 24 rfl rfl
theorem dX6_space_0 : decode cX6_space 0 = .ok (.iload_n 1, 1) := dk_27 (dk_at dksX6_space_0 0 rfl rfl)
theorem dX6_space_1 : decode cX6_space 1 = .ok (.i2l, 1) := dk_133 (dk_at dksX6_space_0 1 rfl rfl)
theorem dX6_space_2 : decode cX6_space 2 = .ok (.lconst 0, 1) := dk_9 (dk_at dksX6_space_0 2 rfl rfl)
theorem dX6_space_3 : decode cX6_space 3 = .ok (.ldc2_w 180, 3) := dk_20 0 180 (dk_at dksX6_space_0 3 rfl rfl)
theorem dX6_space_6 : decode cX6_space 6 = .ok (.invokestatic 83, 3) := dk_184 0 83 (dk_at dksX6_space_0 6 rfl rfl)
theorem dX6_space_9 : decode cX6_space 9 = .ok (.ifCond .ne 6, 3) := dk_154 0 6 (dk_at dksX6_space_0 9 rfl rfl)
theorem dX6_space_12 : decode cX6_space 12 = .ok (.ldc 120, 2) := dk_18 120 (dk_at dksX6_space_0 12 rfl rfl)
theorem dX6_space_14 : decode cX6_space 14 = .ok (.ireturn, 1) := dk_172 (dk_at dksX6_space_0 14 rfl rfl)
theorem dX6_space_15 : decode cX6_space 15 = .ok (.aload_n 0, 1) := dk_42 (dk_at dksX6_space_0 15 rfl rfl)
theorem dX6_space_16 : decode cX6_space 16 = .ok (.invokevirtual 182, 3) := dk_182 0 182 (dk_at dksX6_space_0 16 rfl rfl)
theorem dX6_space_19 : decode cX6_space 19 = .ok (.aload_n 0, 1) := dk_42 (dk_at dksX6_space_0 19 rfl rfl)
theorem dX6_space_20 : decode cX6_space 20 = .ok (.getfield 7, 3) := dk_180 0 7 (dk_at dksX6_space_0 20 rfl rfl)
theorem dX6_space_23 : decode cX6_space 23 = .ok (.iconst 3, 1) := dk_6 (dk_at dksX6_space_0 23 rfl rfl)
theorem dX6_space_24 : decode cX6_space 24 = .ok (.iload_n 1, 1) := dk_27 (dk_at dksX6_space_1 0 rfl rfl)
theorem dX6_space_25 : decode cX6_space 25 = .ok (.iastore, 1) := dk_79 (dk_at dksX6_space_1 1 rfl rfl)
theorem dX6_space_26 : decode cX6_space 26 = .ok (.aload_n 0, 1) := dk_42 (dk_at dksX6_space_1 2 rfl rfl)
theorem dX6_space_27 : decode cX6_space 27 = .ok (.iconst 0, 1) := dk_3 (dk_at dksX6_space_1 3 rfl rfl)
theorem dX6_space_28 : decode cX6_space 28 = .ok (.invokevirtual 177, 3) := dk_182 0 177 (dk_at dksX6_space_1 4 rfl rfl)
theorem dX6_space_31 : decode cX6_space 31 = .ok (.ireturn, 1) := dk_172 (dk_at dksX6_space_1 7 rfl rfl)
abbrev cX6_knows : ByteArray := prog_19_method_15_code
def yX6_knows : MethodName := ⟨RX6, "knows", "()V"⟩
def dkwX6_knows_1 : List UInt8 := [180, 0, 46, 27, 42, 27, 182, 0, 107, 79, 132, 1, 1, 167, 255, 221, 177]
abbrev dktX6_knows_1 : List UInt8 := dkwX6_knows_1 ++ []
def dkwX6_knows_0 : List UInt8 := [3, 60, 27, 42, 180, 0, 7, 3, 46, 162, 0, 31, 42, 180, 0, 43, 27, 42, 27, 182, 0, 104, 79, 42]
abbrev dktX6_knows_0 : List UInt8 := dkwX6_knows_0 ++ dktX6_knows_1
theorem dksX6_knows_0 : cX6_knows.data.toList.drop 0 = dktX6_knows_0 := by decide +kernel
theorem dksX6_knows_1 : cX6_knows.data.toList.drop 24 = dktX6_knows_1 := dk_seg dksX6_knows_0 24 rfl rfl
theorem dX6_knows_0 : decode cX6_knows 0 = .ok (.iconst 0, 1) := dk_3 (dk_at dksX6_knows_0 0 rfl rfl)
theorem dX6_knows_1 : decode cX6_knows 1 = .ok (.istore_n 1, 1) := dk_60 (dk_at dksX6_knows_0 1 rfl rfl)
theorem dX6_knows_2 : decode cX6_knows 2 = .ok (.iload_n 1, 1) := dk_27 (dk_at dksX6_knows_0 2 rfl rfl)
theorem dX6_knows_3 : decode cX6_knows 3 = .ok (.aload_n 0, 1) := dk_42 (dk_at dksX6_knows_0 3 rfl rfl)
theorem dX6_knows_4 : decode cX6_knows 4 = .ok (.getfield 7, 3) := dk_180 0 7 (dk_at dksX6_knows_0 4 rfl rfl)
theorem dX6_knows_7 : decode cX6_knows 7 = .ok (.iconst 0, 1) := dk_3 (dk_at dksX6_knows_0 7 rfl rfl)
theorem dX6_knows_8 : decode cX6_knows 8 = .ok (.iaload, 1) := dk_46 (dk_at dksX6_knows_0 8 rfl rfl)
theorem dX6_knows_9 : decode cX6_knows 9 = .ok (.if_icmp .ge 31, 3) := dk_162 0 31 (dk_at dksX6_knows_0 9 rfl rfl)
theorem dX6_knows_12 : decode cX6_knows 12 = .ok (.aload_n 0, 1) := dk_42 (dk_at dksX6_knows_0 12 rfl rfl)
theorem dX6_knows_13 : decode cX6_knows 13 = .ok (.getfield 43, 3) := dk_180 0 43 (dk_at dksX6_knows_0 13 rfl rfl)
theorem dX6_knows_16 : decode cX6_knows 16 = .ok (.iload_n 1, 1) := dk_27 (dk_at dksX6_knows_0 16 rfl rfl)
theorem dX6_knows_17 : decode cX6_knows 17 = .ok (.aload_n 0, 1) := dk_42 (dk_at dksX6_knows_0 17 rfl rfl)
theorem dX6_knows_18 : decode cX6_knows 18 = .ok (.iload_n 1, 1) := dk_27 (dk_at dksX6_knows_0 18 rfl rfl)
theorem dX6_knows_19 : decode cX6_knows 19 = .ok (.invokevirtual 104, 3) := dk_182 0 104 (dk_at dksX6_knows_0 19 rfl rfl)
theorem dX6_knows_22 : decode cX6_knows 22 = .ok (.iastore, 1) := dk_79 (dk_at dksX6_knows_0 22 rfl rfl)
theorem dX6_knows_23 : decode cX6_knows 23 = .ok (.aload_n 0, 1) := dk_42 (dk_at dksX6_knows_0 23 rfl rfl)
theorem dX6_knows_24 : decode cX6_knows 24 = .ok (.getfield 46, 3) := dk_180 0 46 (dk_at dksX6_knows_1 0 rfl rfl)
theorem dX6_knows_27 : decode cX6_knows 27 = .ok (.iload_n 1, 1) := dk_27 (dk_at dksX6_knows_1 3 rfl rfl)
theorem dX6_knows_28 : decode cX6_knows 28 = .ok (.aload_n 0, 1) := dk_42 (dk_at dksX6_knows_1 4 rfl rfl)
theorem dX6_knows_29 : decode cX6_knows 29 = .ok (.iload_n 1, 1) := dk_27 (dk_at dksX6_knows_1 5 rfl rfl)
theorem dX6_knows_30 : decode cX6_knows 30 = .ok (.invokevirtual 107, 3) := dk_182 0 107 (dk_at dksX6_knows_1 6 rfl rfl)
theorem dX6_knows_33 : decode cX6_knows 33 = .ok (.iastore, 1) := dk_79 (dk_at dksX6_knows_1 9 rfl rfl)
theorem dX6_knows_34 : decode cX6_knows 34 = .ok (.iinc 1 1, 3) := dk_132 1 1 (dk_at dksX6_knows_1 10 rfl rfl)
theorem dX6_knows_37 : decode cX6_knows 37 = .ok (.goto (-35), 3) := dk_167 255 221 (dk_at dksX6_knows_1 13 rfl rfl)
theorem dX6_knows_40 : decode cX6_knows 40 = .ok (.return_, 1) := dk_177 (dk_at dksX6_knows_1 16 rfl rfl)
abbrev cX6_throwsFor : ByteArray := prog_19_method_34_code
def yX6_throwsFor : MethodName := ⟨RX6, "throwsFor", "(I)I"⟩
def dkwX6_throwsFor_1 : List UInt8 := [164, 0, 17, 42, 42, 182, 0, 170, 182, 0, 173, 132, 2, 1, 167, 255, 221, 28, 172]
abbrev dktX6_throwsFor_1 : List UInt8 := dkwX6_throwsFor_1 ++ []
def dkwX6_throwsFor_0 : List UInt8 := [3, 61, 42, 180, 0, 7, 5, 46, 158, 0, 32, 42, 182, 0, 167, 27, 96, 42, 180, 0, 7, 6, 46]
abbrev dktX6_throwsFor_0 : List UInt8 := dkwX6_throwsFor_0 ++ dktX6_throwsFor_1
theorem dksX6_throwsFor_0 : cX6_throwsFor.data.toList.drop 0 = dktX6_throwsFor_0 := by decide +kernel
theorem dksX6_throwsFor_1 : cX6_throwsFor.data.toList.drop 23 = dktX6_throwsFor_1 := dk_seg dksX6_throwsFor_0 23 rfl rfl
theorem dX6_throwsFor_0 : decode cX6_throwsFor 0 = .ok (.iconst 0, 1) := dk_3 (dk_at dksX6_throwsFor_0 0 rfl rfl)
theorem dX6_throwsFor_1 : decode cX6_throwsFor 1 = .ok (.istore_n 2, 1) := dk_61 (dk_at dksX6_throwsFor_0 1 rfl rfl)
theorem dX6_throwsFor_2 : decode cX6_throwsFor 2 = .ok (.aload_n 0, 1) := dk_42 (dk_at dksX6_throwsFor_0 2 rfl rfl)
theorem dX6_throwsFor_3 : decode cX6_throwsFor 3 = .ok (.getfield 7, 3) := dk_180 0 7 (dk_at dksX6_throwsFor_0 3 rfl rfl)
theorem dX6_throwsFor_6 : decode cX6_throwsFor 6 = .ok (.iconst 2, 1) := dk_5 (dk_at dksX6_throwsFor_0 6 rfl rfl)
theorem dX6_throwsFor_7 : decode cX6_throwsFor 7 = .ok (.iaload, 1) := dk_46 (dk_at dksX6_throwsFor_0 7 rfl rfl)
theorem dX6_throwsFor_8 : decode cX6_throwsFor 8 = .ok (.ifCond .le 32, 3) := dk_158 0 32 (dk_at dksX6_throwsFor_0 8 rfl rfl)
theorem dX6_throwsFor_11 : decode cX6_throwsFor 11 = .ok (.aload_n 0, 1) := dk_42 (dk_at dksX6_throwsFor_0 11 rfl rfl)
theorem dX6_throwsFor_12 : decode cX6_throwsFor 12 = .ok (.invokevirtual 167, 3) := dk_182 0 167 (dk_at dksX6_throwsFor_0 12 rfl rfl)
theorem dX6_throwsFor_15 : decode cX6_throwsFor 15 = .ok (.iload_n 1, 1) := dk_27 (dk_at dksX6_throwsFor_0 15 rfl rfl)
theorem dX6_throwsFor_16 : decode cX6_throwsFor 16 = .ok (.iadd, 1) := dk_96 (dk_at dksX6_throwsFor_0 16 rfl rfl)
theorem dX6_throwsFor_17 : decode cX6_throwsFor 17 = .ok (.aload_n 0, 1) := dk_42 (dk_at dksX6_throwsFor_0 17 rfl rfl)
theorem dX6_throwsFor_18 : decode cX6_throwsFor 18 = .ok (.getfield 7, 3) := dk_180 0 7 (dk_at dksX6_throwsFor_0 18 rfl rfl)
theorem dX6_throwsFor_21 : decode cX6_throwsFor 21 = .ok (.iconst 3, 1) := dk_6 (dk_at dksX6_throwsFor_0 21 rfl rfl)
theorem dX6_throwsFor_22 : decode cX6_throwsFor 22 = .ok (.iaload, 1) := dk_46 (dk_at dksX6_throwsFor_0 22 rfl rfl)
theorem dX6_throwsFor_23 : decode cX6_throwsFor 23 = .ok (.if_icmp .le 17, 3) := dk_164 0 17 (dk_at dksX6_throwsFor_1 0 rfl rfl)
theorem dX6_throwsFor_26 : decode cX6_throwsFor 26 = .ok (.aload_n 0, 1) := dk_42 (dk_at dksX6_throwsFor_1 3 rfl rfl)
theorem dX6_throwsFor_27 : decode cX6_throwsFor 27 = .ok (.aload_n 0, 1) := dk_42 (dk_at dksX6_throwsFor_1 4 rfl rfl)
theorem dX6_throwsFor_28 : decode cX6_throwsFor 28 = .ok (.invokevirtual 170, 3) := dk_182 0 170 (dk_at dksX6_throwsFor_1 5 rfl rfl)
theorem dX6_throwsFor_31 : decode cX6_throwsFor 31 = .ok (.invokevirtual 173, 3) := dk_182 0 173 (dk_at dksX6_throwsFor_1 8 rfl rfl)
theorem dX6_throwsFor_34 : decode cX6_throwsFor 34 = .ok (.iinc 2 1, 3) := dk_132 2 1 (dk_at dksX6_throwsFor_1 11 rfl rfl)
theorem dX6_throwsFor_37 : decode cX6_throwsFor 37 = .ok (.goto (-35), 3) := dk_167 255 221 (dk_at dksX6_throwsFor_1 14 rfl rfl)
theorem dX6_throwsFor_40 : decode cX6_throwsFor 40 = .ok (.iload_n 2, 1) := dk_28 (dk_at dksX6_throwsFor_1 17 rfl rfl)
theorem dX6_throwsFor_41 : decode cX6_throwsFor 41 = .ok (.ireturn, 1) := dk_172 (dk_at dksX6_throwsFor_1 18 rfl rfl)
abbrev cX6_fullness : ByteArray := prog_19_method_28_code
def yX6_fullness : MethodName := ⟨RX6, "fullness", "()I"⟩
def dkwX6_fullness_1 : List UInt8 := [16, 66, 28, 96, 46, 46, 96, 60, 132, 2, 1, 167, 255, 226, 27, 172]
abbrev dktX6_fullness_1 : List UInt8 := dkwX6_fullness_1 ++ []
def dkwX6_fullness_0 : List UInt8 := [3, 60, 3, 61, 28, 42, 180, 0, 7, 5, 46, 162, 0, 26, 27, 42, 180, 0, 43, 42, 180, 0, 7]
abbrev dktX6_fullness_0 : List UInt8 := dkwX6_fullness_0 ++ dktX6_fullness_1
theorem dksX6_fullness_0 : cX6_fullness.data.toList.drop 0 = dktX6_fullness_0 := by decide +kernel
theorem dksX6_fullness_1 : cX6_fullness.data.toList.drop 23 = dktX6_fullness_1 := dk_seg dksX6_fullness_0 23 rfl rfl
theorem dX6_fullness_0 : decode cX6_fullness 0 = .ok (.iconst 0, 1) := dk_3 (dk_at dksX6_fullness_0 0 rfl rfl)
theorem dX6_fullness_1 : decode cX6_fullness 1 = .ok (.istore_n 1, 1) := dk_60 (dk_at dksX6_fullness_0 1 rfl rfl)
theorem dX6_fullness_2 : decode cX6_fullness 2 = .ok (.iconst 0, 1) := dk_3 (dk_at dksX6_fullness_0 2 rfl rfl)
theorem dX6_fullness_3 : decode cX6_fullness 3 = .ok (.istore_n 2, 1) := dk_61 (dk_at dksX6_fullness_0 3 rfl rfl)
theorem dX6_fullness_4 : decode cX6_fullness 4 = .ok (.iload_n 2, 1) := dk_28 (dk_at dksX6_fullness_0 4 rfl rfl)
theorem dX6_fullness_5 : decode cX6_fullness 5 = .ok (.aload_n 0, 1) := dk_42 (dk_at dksX6_fullness_0 5 rfl rfl)
theorem dX6_fullness_6 : decode cX6_fullness 6 = .ok (.getfield 7, 3) := dk_180 0 7 (dk_at dksX6_fullness_0 6 rfl rfl)
theorem dX6_fullness_9 : decode cX6_fullness 9 = .ok (.iconst 2, 1) := dk_5 (dk_at dksX6_fullness_0 9 rfl rfl)
theorem dX6_fullness_10 : decode cX6_fullness 10 = .ok (.iaload, 1) := dk_46 (dk_at dksX6_fullness_0 10 rfl rfl)
theorem dX6_fullness_11 : decode cX6_fullness 11 = .ok (.if_icmp .ge 26, 3) := dk_162 0 26 (dk_at dksX6_fullness_0 11 rfl rfl)
theorem dX6_fullness_14 : decode cX6_fullness 14 = .ok (.iload_n 1, 1) := dk_27 (dk_at dksX6_fullness_0 14 rfl rfl)
theorem dX6_fullness_15 : decode cX6_fullness 15 = .ok (.aload_n 0, 1) := dk_42 (dk_at dksX6_fullness_0 15 rfl rfl)
theorem dX6_fullness_16 : decode cX6_fullness 16 = .ok (.getfield 43, 3) := dk_180 0 43 (dk_at dksX6_fullness_0 16 rfl rfl)
theorem dX6_fullness_19 : decode cX6_fullness 19 = .ok (.aload_n 0, 1) := dk_42 (dk_at dksX6_fullness_0 19 rfl rfl)
theorem dX6_fullness_20 : decode cX6_fullness 20 = .ok (.getfield 7, 3) := dk_180 0 7 (dk_at dksX6_fullness_0 20 rfl rfl)
theorem dX6_fullness_23 : decode cX6_fullness 23 = .ok (.bipush 66, 2) := dk_16 66 (dk_at dksX6_fullness_1 0 rfl rfl)
theorem dX6_fullness_25 : decode cX6_fullness 25 = .ok (.iload_n 2, 1) := dk_28 (dk_at dksX6_fullness_1 2 rfl rfl)
theorem dX6_fullness_26 : decode cX6_fullness 26 = .ok (.iadd, 1) := dk_96 (dk_at dksX6_fullness_1 3 rfl rfl)
theorem dX6_fullness_27 : decode cX6_fullness 27 = .ok (.iaload, 1) := dk_46 (dk_at dksX6_fullness_1 4 rfl rfl)
theorem dX6_fullness_28 : decode cX6_fullness 28 = .ok (.iaload, 1) := dk_46 (dk_at dksX6_fullness_1 5 rfl rfl)
theorem dX6_fullness_29 : decode cX6_fullness 29 = .ok (.iadd, 1) := dk_96 (dk_at dksX6_fullness_1 6 rfl rfl)
theorem dX6_fullness_30 : decode cX6_fullness 30 = .ok (.istore_n 1, 1) := dk_60 (dk_at dksX6_fullness_1 7 rfl rfl)
theorem dX6_fullness_31 : decode cX6_fullness 31 = .ok (.iinc 2 1, 3) := dk_132 2 1 (dk_at dksX6_fullness_1 8 rfl rfl)
theorem dX6_fullness_34 : decode cX6_fullness 34 = .ok (.goto (-30), 3) := dk_167 255 226 (dk_at dksX6_fullness_1 11 rfl rfl)
theorem dX6_fullness_37 : decode cX6_fullness 37 = .ok (.iload_n 1, 1) := dk_27 (dk_at dksX6_fullness_1 14 rfl rfl)
theorem dX6_fullness_38 : decode cX6_fullness 38 = .ok (.ireturn, 1) := dk_172 (dk_at dksX6_fullness_1 15 rfl rfl)
abbrev cX6_goesFirst : ByteArray := prog_19_method_33_code
def yX6_goesFirst : MethodName := ⟨RX6, "goesFirst", "()I"⟩
def dkwX6_goesFirst_6 : List UInt8 := [54, 4, 132, 5, 1, 167, 255, 179, 29, 172]
abbrev dktX6_goesFirst_6 : List UInt8 := dkwX6_goesFirst_6 ++ []
def dkwX6_goesFirst_5 : List UInt8 := [182, 0, 164, 54, 6, 132, 2, 255, 29, 155, 0, 10, 21, 6, 21, 4, 164, 0, 10, 21, 5, 62, 21, 6]
abbrev dktX6_goesFirst_5 : List UInt8 := dkwX6_goesFirst_5 ++ dktX6_goesFirst_6
def dkwX6_goesFirst_4 : List UInt8 := [180, 0, 7, 7, 46, 6, 160, 0, 15, 28, 154, 0, 7, 4, 167, 0, 13, 3, 167, 0, 9, 42, 21, 5]
abbrev dktX6_goesFirst_4 : List UInt8 := dkwX6_goesFirst_4 ++ dktX6_goesFirst_5
def dkwX6_goesFirst_3 : List UInt8 := [42, 180, 0, 7, 5, 46, 162, 0, 72, 42, 21, 5, 182, 0, 161, 154, 0, 6, 167, 0, 54, 42]
abbrev dktX6_goesFirst_3 : List UInt8 := dkwX6_goesFirst_3 ++ dktX6_goesFirst_4
def dkwX6_goesFirst_2 : List UInt8 := [158, 0, 12, 42, 182, 0, 155, 27, 112, 167, 0, 4, 3, 61, 2, 62, 3, 54, 4, 3, 54, 5, 21, 5]
abbrev dktX6_goesFirst_2 : List UInt8 := dkwX6_goesFirst_2 ++ dktX6_goesFirst_3
def dkwX6_goesFirst_1 : List UInt8 := [167, 0, 4, 3, 96, 60, 132, 2, 1, 167, 255, 227, 42, 180, 0, 7, 7, 46, 6, 160, 0, 16, 27]
abbrev dktX6_goesFirst_1 : List UInt8 := dkwX6_goesFirst_1 ++ dktX6_goesFirst_2
def dkwX6_goesFirst_0 : List UInt8 := [3, 60, 3, 61, 28, 42, 180, 0, 7, 5, 46, 162, 0, 25, 27, 42, 28, 182, 0, 161, 153, 0, 7, 4]
abbrev dktX6_goesFirst_0 : List UInt8 := dkwX6_goesFirst_0 ++ dktX6_goesFirst_1
theorem dksX6_goesFirst_0 : cX6_goesFirst.data.toList.drop 0 = dktX6_goesFirst_0 := by decide +kernel
theorem dksX6_goesFirst_1 : cX6_goesFirst.data.toList.drop 24 = dktX6_goesFirst_1 := dk_seg dksX6_goesFirst_0 24 rfl rfl
theorem dksX6_goesFirst_2 : cX6_goesFirst.data.toList.drop 47 = dktX6_goesFirst_2 := dk_seg dksX6_goesFirst_1 23 rfl rfl
theorem dksX6_goesFirst_3 : cX6_goesFirst.data.toList.drop 71 = dktX6_goesFirst_3 := dk_seg dksX6_goesFirst_2 24 rfl rfl
theorem dksX6_goesFirst_4 : cX6_goesFirst.data.toList.drop 93 = dktX6_goesFirst_4 := dk_seg dksX6_goesFirst_3 22 rfl rfl
theorem dksX6_goesFirst_5 : cX6_goesFirst.data.toList.drop 117 = dktX6_goesFirst_5 := dk_seg dksX6_goesFirst_4 24 rfl rfl
theorem dksX6_goesFirst_6 : cX6_goesFirst.data.toList.drop 141 = dktX6_goesFirst_6 := dk_seg dksX6_goesFirst_5 24 rfl rfl
theorem dX6_goesFirst_0 : decode cX6_goesFirst 0 = .ok (.iconst 0, 1) := dk_3 (dk_at dksX6_goesFirst_0 0 rfl rfl)
theorem dX6_goesFirst_1 : decode cX6_goesFirst 1 = .ok (.istore_n 1, 1) := dk_60 (dk_at dksX6_goesFirst_0 1 rfl rfl)
theorem dX6_goesFirst_2 : decode cX6_goesFirst 2 = .ok (.iconst 0, 1) := dk_3 (dk_at dksX6_goesFirst_0 2 rfl rfl)
theorem dX6_goesFirst_3 : decode cX6_goesFirst 3 = .ok (.istore_n 2, 1) := dk_61 (dk_at dksX6_goesFirst_0 3 rfl rfl)
theorem dX6_goesFirst_4 : decode cX6_goesFirst 4 = .ok (.iload_n 2, 1) := dk_28 (dk_at dksX6_goesFirst_0 4 rfl rfl)
theorem dX6_goesFirst_5 : decode cX6_goesFirst 5 = .ok (.aload_n 0, 1) := dk_42 (dk_at dksX6_goesFirst_0 5 rfl rfl)
theorem dX6_goesFirst_6 : decode cX6_goesFirst 6 = .ok (.getfield 7, 3) := dk_180 0 7 (dk_at dksX6_goesFirst_0 6 rfl rfl)
theorem dX6_goesFirst_9 : decode cX6_goesFirst 9 = .ok (.iconst 2, 1) := dk_5 (dk_at dksX6_goesFirst_0 9 rfl rfl)
theorem dX6_goesFirst_10 : decode cX6_goesFirst 10 = .ok (.iaload, 1) := dk_46 (dk_at dksX6_goesFirst_0 10 rfl rfl)
theorem dX6_goesFirst_11 : decode cX6_goesFirst 11 = .ok (.if_icmp .ge 25, 3) := dk_162 0 25 (dk_at dksX6_goesFirst_0 11 rfl rfl)
theorem dX6_goesFirst_14 : decode cX6_goesFirst 14 = .ok (.iload_n 1, 1) := dk_27 (dk_at dksX6_goesFirst_0 14 rfl rfl)
theorem dX6_goesFirst_15 : decode cX6_goesFirst 15 = .ok (.aload_n 0, 1) := dk_42 (dk_at dksX6_goesFirst_0 15 rfl rfl)
theorem dX6_goesFirst_16 : decode cX6_goesFirst 16 = .ok (.iload_n 2, 1) := dk_28 (dk_at dksX6_goesFirst_0 16 rfl rfl)
theorem dX6_goesFirst_17 : decode cX6_goesFirst 17 = .ok (.invokevirtual 161, 3) := dk_182 0 161 (dk_at dksX6_goesFirst_0 17 rfl rfl)
theorem dX6_goesFirst_20 : decode cX6_goesFirst 20 = .ok (.ifCond .eq 7, 3) := dk_153 0 7 (dk_at dksX6_goesFirst_0 20 rfl rfl)
theorem dX6_goesFirst_23 : decode cX6_goesFirst 23 = .ok (.iconst 1, 1) := dk_4 (dk_at dksX6_goesFirst_0 23 rfl rfl)
theorem dX6_goesFirst_24 : decode cX6_goesFirst 24 = .ok (.goto 4, 3) := dk_167 0 4 (dk_at dksX6_goesFirst_1 0 rfl rfl)
theorem dX6_goesFirst_27 : decode cX6_goesFirst 27 = .ok (.iconst 0, 1) := dk_3 (dk_at dksX6_goesFirst_1 3 rfl rfl)
theorem dX6_goesFirst_28 : decode cX6_goesFirst 28 = .ok (.iadd, 1) := dk_96 (dk_at dksX6_goesFirst_1 4 rfl rfl)
theorem dX6_goesFirst_29 : decode cX6_goesFirst 29 = .ok (.istore_n 1, 1) := dk_60 (dk_at dksX6_goesFirst_1 5 rfl rfl)
theorem dX6_goesFirst_30 : decode cX6_goesFirst 30 = .ok (.iinc 2 1, 3) := dk_132 2 1 (dk_at dksX6_goesFirst_1 6 rfl rfl)
theorem dX6_goesFirst_33 : decode cX6_goesFirst 33 = .ok (.goto (-29), 3) := dk_167 255 227 (dk_at dksX6_goesFirst_1 9 rfl rfl)
theorem dX6_goesFirst_36 : decode cX6_goesFirst 36 = .ok (.aload_n 0, 1) := dk_42 (dk_at dksX6_goesFirst_1 12 rfl rfl)
theorem dX6_goesFirst_37 : decode cX6_goesFirst 37 = .ok (.getfield 7, 3) := dk_180 0 7 (dk_at dksX6_goesFirst_1 13 rfl rfl)
theorem dX6_goesFirst_40 : decode cX6_goesFirst 40 = .ok (.iconst 4, 1) := dk_7 (dk_at dksX6_goesFirst_1 16 rfl rfl)
theorem dX6_goesFirst_41 : decode cX6_goesFirst 41 = .ok (.iaload, 1) := dk_46 (dk_at dksX6_goesFirst_1 17 rfl rfl)
theorem dX6_goesFirst_42 : decode cX6_goesFirst 42 = .ok (.iconst 3, 1) := dk_6 (dk_at dksX6_goesFirst_1 18 rfl rfl)
theorem dX6_goesFirst_43 : decode cX6_goesFirst 43 = .ok (.if_icmp .ne 16, 3) := dk_160 0 16 (dk_at dksX6_goesFirst_1 19 rfl rfl)
theorem dX6_goesFirst_46 : decode cX6_goesFirst 46 = .ok (.iload_n 1, 1) := dk_27 (dk_at dksX6_goesFirst_1 22 rfl rfl)
theorem dX6_goesFirst_47 : decode cX6_goesFirst 47 = .ok (.ifCond .le 12, 3) := dk_158 0 12 (dk_at dksX6_goesFirst_2 0 rfl rfl)
theorem dX6_goesFirst_50 : decode cX6_goesFirst 50 = .ok (.aload_n 0, 1) := dk_42 (dk_at dksX6_goesFirst_2 3 rfl rfl)
theorem dX6_goesFirst_51 : decode cX6_goesFirst 51 = .ok (.invokevirtual 155, 3) := dk_182 0 155 (dk_at dksX6_goesFirst_2 4 rfl rfl)
theorem dX6_goesFirst_54 : decode cX6_goesFirst 54 = .ok (.iload_n 1, 1) := dk_27 (dk_at dksX6_goesFirst_2 7 rfl rfl)
theorem dX6_goesFirst_55 : decode cX6_goesFirst 55 = .ok (.irem, 1) := dk_112 (dk_at dksX6_goesFirst_2 8 rfl rfl)
theorem dX6_goesFirst_56 : decode cX6_goesFirst 56 = .ok (.goto 4, 3) := dk_167 0 4 (dk_at dksX6_goesFirst_2 9 rfl rfl)
theorem dX6_goesFirst_59 : decode cX6_goesFirst 59 = .ok (.iconst 0, 1) := dk_3 (dk_at dksX6_goesFirst_2 12 rfl rfl)
theorem dX6_goesFirst_60 : decode cX6_goesFirst 60 = .ok (.istore_n 2, 1) := dk_61 (dk_at dksX6_goesFirst_2 13 rfl rfl)
theorem dX6_goesFirst_61 : decode cX6_goesFirst 61 = .ok (.iconst (-1), 1) := dk_2 (dk_at dksX6_goesFirst_2 14 rfl rfl)
theorem dX6_goesFirst_62 : decode cX6_goesFirst 62 = .ok (.istore_n 3, 1) := dk_62 (dk_at dksX6_goesFirst_2 15 rfl rfl)
theorem dX6_goesFirst_63 : decode cX6_goesFirst 63 = .ok (.iconst 0, 1) := dk_3 (dk_at dksX6_goesFirst_2 16 rfl rfl)
theorem dX6_goesFirst_64 : decode cX6_goesFirst 64 = .ok (.istore 4, 2) := dk_54 4 (dk_at dksX6_goesFirst_2 17 rfl rfl)
theorem dX6_goesFirst_66 : decode cX6_goesFirst 66 = .ok (.iconst 0, 1) := dk_3 (dk_at dksX6_goesFirst_2 19 rfl rfl)
theorem dX6_goesFirst_67 : decode cX6_goesFirst 67 = .ok (.istore 5, 2) := dk_54 5 (dk_at dksX6_goesFirst_2 20 rfl rfl)
theorem dX6_goesFirst_69 : decode cX6_goesFirst 69 = .ok (.iload 5, 2) := dk_21 5 (dk_at dksX6_goesFirst_2 22 rfl rfl)
theorem dX6_goesFirst_71 : decode cX6_goesFirst 71 = .ok (.aload_n 0, 1) := dk_42 (dk_at dksX6_goesFirst_3 0 rfl rfl)
theorem dX6_goesFirst_72 : decode cX6_goesFirst 72 = .ok (.getfield 7, 3) := dk_180 0 7 (dk_at dksX6_goesFirst_3 1 rfl rfl)
theorem dX6_goesFirst_75 : decode cX6_goesFirst 75 = .ok (.iconst 2, 1) := dk_5 (dk_at dksX6_goesFirst_3 4 rfl rfl)
theorem dX6_goesFirst_76 : decode cX6_goesFirst 76 = .ok (.iaload, 1) := dk_46 (dk_at dksX6_goesFirst_3 5 rfl rfl)
theorem dX6_goesFirst_77 : decode cX6_goesFirst 77 = .ok (.if_icmp .ge 72, 3) := dk_162 0 72 (dk_at dksX6_goesFirst_3 6 rfl rfl)
theorem dX6_goesFirst_80 : decode cX6_goesFirst 80 = .ok (.aload_n 0, 1) := dk_42 (dk_at dksX6_goesFirst_3 9 rfl rfl)
theorem dX6_goesFirst_81 : decode cX6_goesFirst 81 = .ok (.iload 5, 2) := dk_21 5 (dk_at dksX6_goesFirst_3 10 rfl rfl)
theorem dX6_goesFirst_83 : decode cX6_goesFirst 83 = .ok (.invokevirtual 161, 3) := dk_182 0 161 (dk_at dksX6_goesFirst_3 12 rfl rfl)
theorem dX6_goesFirst_86 : decode cX6_goesFirst 86 = .ok (.ifCond .ne 6, 3) := dk_154 0 6 (dk_at dksX6_goesFirst_3 15 rfl rfl)
theorem dX6_goesFirst_89 : decode cX6_goesFirst 89 = .ok (.goto 54, 3) := dk_167 0 54 (dk_at dksX6_goesFirst_3 18 rfl rfl)
theorem dX6_goesFirst_92 : decode cX6_goesFirst 92 = .ok (.aload_n 0, 1) := dk_42 (dk_at dksX6_goesFirst_3 21 rfl rfl)
theorem dX6_goesFirst_93 : decode cX6_goesFirst 93 = .ok (.getfield 7, 3) := dk_180 0 7 (dk_at dksX6_goesFirst_4 0 rfl rfl)
theorem dX6_goesFirst_96 : decode cX6_goesFirst 96 = .ok (.iconst 4, 1) := dk_7 (dk_at dksX6_goesFirst_4 3 rfl rfl)
theorem dX6_goesFirst_97 : decode cX6_goesFirst 97 = .ok (.iaload, 1) := dk_46 (dk_at dksX6_goesFirst_4 4 rfl rfl)
theorem dX6_goesFirst_98 : decode cX6_goesFirst 98 = .ok (.iconst 3, 1) := dk_6 (dk_at dksX6_goesFirst_4 5 rfl rfl)
theorem dX6_goesFirst_99 : decode cX6_goesFirst 99 = .ok (.if_icmp .ne 15, 3) := dk_160 0 15 (dk_at dksX6_goesFirst_4 6 rfl rfl)
theorem dX6_goesFirst_102 : decode cX6_goesFirst 102 = .ok (.iload_n 2, 1) := dk_28 (dk_at dksX6_goesFirst_4 9 rfl rfl)
theorem dX6_goesFirst_103 : decode cX6_goesFirst 103 = .ok (.ifCond .ne 7, 3) := dk_154 0 7 (dk_at dksX6_goesFirst_4 10 rfl rfl)
theorem dX6_goesFirst_106 : decode cX6_goesFirst 106 = .ok (.iconst 1, 1) := dk_4 (dk_at dksX6_goesFirst_4 13 rfl rfl)
theorem dX6_goesFirst_107 : decode cX6_goesFirst 107 = .ok (.goto 13, 3) := dk_167 0 13 (dk_at dksX6_goesFirst_4 14 rfl rfl)
theorem dX6_goesFirst_110 : decode cX6_goesFirst 110 = .ok (.iconst 0, 1) := dk_3 (dk_at dksX6_goesFirst_4 17 rfl rfl)
theorem dX6_goesFirst_111 : decode cX6_goesFirst 111 = .ok (.goto 9, 3) := dk_167 0 9 (dk_at dksX6_goesFirst_4 18 rfl rfl)
theorem dX6_goesFirst_114 : decode cX6_goesFirst 114 = .ok (.aload_n 0, 1) := dk_42 (dk_at dksX6_goesFirst_4 21 rfl rfl)
theorem dX6_goesFirst_115 : decode cX6_goesFirst 115 = .ok (.iload 5, 2) := dk_21 5 (dk_at dksX6_goesFirst_4 22 rfl rfl)
theorem dX6_goesFirst_117 : decode cX6_goesFirst 117 = .ok (.invokevirtual 164, 3) := dk_182 0 164 (dk_at dksX6_goesFirst_5 0 rfl rfl)
theorem dX6_goesFirst_120 : decode cX6_goesFirst 120 = .ok (.istore 6, 2) := dk_54 6 (dk_at dksX6_goesFirst_5 3 rfl rfl)
theorem dX6_goesFirst_122 : decode cX6_goesFirst 122 = .ok (.iinc 2 (-1), 3) := dk_132 2 255 (dk_at dksX6_goesFirst_5 5 rfl rfl)
theorem dX6_goesFirst_125 : decode cX6_goesFirst 125 = .ok (.iload_n 3, 1) := dk_29 (dk_at dksX6_goesFirst_5 8 rfl rfl)
theorem dX6_goesFirst_126 : decode cX6_goesFirst 126 = .ok (.ifCond .lt 10, 3) := dk_155 0 10 (dk_at dksX6_goesFirst_5 9 rfl rfl)
theorem dX6_goesFirst_129 : decode cX6_goesFirst 129 = .ok (.iload 6, 2) := dk_21 6 (dk_at dksX6_goesFirst_5 12 rfl rfl)
theorem dX6_goesFirst_131 : decode cX6_goesFirst 131 = .ok (.iload 4, 2) := dk_21 4 (dk_at dksX6_goesFirst_5 14 rfl rfl)
theorem dX6_goesFirst_133 : decode cX6_goesFirst 133 = .ok (.if_icmp .le 10, 3) := dk_164 0 10 (dk_at dksX6_goesFirst_5 16 rfl rfl)
theorem dX6_goesFirst_136 : decode cX6_goesFirst 136 = .ok (.iload 5, 2) := dk_21 5 (dk_at dksX6_goesFirst_5 19 rfl rfl)
theorem dX6_goesFirst_138 : decode cX6_goesFirst 138 = .ok (.istore_n 3, 1) := dk_62 (dk_at dksX6_goesFirst_5 21 rfl rfl)
theorem dX6_goesFirst_139 : decode cX6_goesFirst 139 = .ok (.iload 6, 2) := dk_21 6 (dk_at dksX6_goesFirst_5 22 rfl rfl)
theorem dX6_goesFirst_141 : decode cX6_goesFirst 141 = .ok (.istore 4, 2) := dk_54 4 (dk_at dksX6_goesFirst_6 0 rfl rfl)
theorem dX6_goesFirst_143 : decode cX6_goesFirst 143 = .ok (.iinc 5 1, 3) := dk_132 5 1 (dk_at dksX6_goesFirst_6 2 rfl rfl)
theorem dX6_goesFirst_146 : decode cX6_goesFirst 146 = .ok (.goto (-77), 3) := dk_167 255 179 (dk_at dksX6_goesFirst_6 5 rfl rfl)
theorem dX6_goesFirst_149 : decode cX6_goesFirst 149 = .ok (.iload_n 3, 1) := dk_29 (dk_at dksX6_goesFirst_6 8 rfl rfl)
theorem dX6_goesFirst_150 : decode cX6_goesFirst 150 = .ok (.ireturn, 1) := dk_172 (dk_at dksX6_goesFirst_6 9 rfl rfl)
abbrev cX6_mayGo : ByteArray := prog_19_method_31_code
def yX6_mayGo : MethodName := ⟨RX6, "mayGo", "(I)Z"⟩
def dkwX6_mayGo_1 : List UInt8 := [154, 0, 7, 4, 167, 0, 4, 3, 172]
abbrev dktX6_mayGo_1 : List UInt8 := dkwX6_mayGo_1 ++ []
def dkwX6_mayGo_0 : List UInt8 := [42, 180, 0, 7, 8, 46, 153, 0, 19, 42, 42, 180, 0, 7, 16, 66, 27, 96, 46, 182, 0, 158]
abbrev dktX6_mayGo_0 : List UInt8 := dkwX6_mayGo_0 ++ dktX6_mayGo_1
theorem dksX6_mayGo_0 : cX6_mayGo.data.toList.drop 0 = dktX6_mayGo_0 := by decide +kernel
theorem dksX6_mayGo_1 : cX6_mayGo.data.toList.drop 22 = dktX6_mayGo_1 := dk_seg dksX6_mayGo_0 22 rfl rfl
theorem dX6_mayGo_0 : decode cX6_mayGo 0 = .ok (.aload_n 0, 1) := dk_42 (dk_at dksX6_mayGo_0 0 rfl rfl)
theorem dX6_mayGo_1 : decode cX6_mayGo 1 = .ok (.getfield 7, 3) := dk_180 0 7 (dk_at dksX6_mayGo_0 1 rfl rfl)
theorem dX6_mayGo_4 : decode cX6_mayGo 4 = .ok (.iconst 5, 1) := dk_8 (dk_at dksX6_mayGo_0 4 rfl rfl)
theorem dX6_mayGo_5 : decode cX6_mayGo 5 = .ok (.iaload, 1) := dk_46 (dk_at dksX6_mayGo_0 5 rfl rfl)
theorem dX6_mayGo_6 : decode cX6_mayGo 6 = .ok (.ifCond .eq 19, 3) := dk_153 0 19 (dk_at dksX6_mayGo_0 6 rfl rfl)
theorem dX6_mayGo_9 : decode cX6_mayGo 9 = .ok (.aload_n 0, 1) := dk_42 (dk_at dksX6_mayGo_0 9 rfl rfl)
theorem dX6_mayGo_10 : decode cX6_mayGo 10 = .ok (.aload_n 0, 1) := dk_42 (dk_at dksX6_mayGo_0 10 rfl rfl)
theorem dX6_mayGo_11 : decode cX6_mayGo 11 = .ok (.getfield 7, 3) := dk_180 0 7 (dk_at dksX6_mayGo_0 11 rfl rfl)
theorem dX6_mayGo_14 : decode cX6_mayGo 14 = .ok (.bipush 66, 2) := dk_16 66 (dk_at dksX6_mayGo_0 14 rfl rfl)
theorem dX6_mayGo_16 : decode cX6_mayGo 16 = .ok (.iload_n 1, 1) := dk_27 (dk_at dksX6_mayGo_0 16 rfl rfl)
theorem dX6_mayGo_17 : decode cX6_mayGo 17 = .ok (.iadd, 1) := dk_96 (dk_at dksX6_mayGo_0 17 rfl rfl)
theorem dX6_mayGo_18 : decode cX6_mayGo 18 = .ok (.iaload, 1) := dk_46 (dk_at dksX6_mayGo_0 18 rfl rfl)
theorem dX6_mayGo_19 : decode cX6_mayGo 19 = .ok (.invokevirtual 158, 3) := dk_182 0 158 (dk_at dksX6_mayGo_0 19 rfl rfl)
theorem dX6_mayGo_22 : decode cX6_mayGo 22 = .ok (.ifCond .ne 7, 3) := dk_154 0 7 (dk_at dksX6_mayGo_1 0 rfl rfl)
theorem dX6_mayGo_25 : decode cX6_mayGo 25 = .ok (.iconst 1, 1) := dk_4 (dk_at dksX6_mayGo_1 3 rfl rfl)
theorem dX6_mayGo_26 : decode cX6_mayGo 26 = .ok (.goto 4, 3) := dk_167 0 4 (dk_at dksX6_mayGo_1 4 rfl rfl)
theorem dX6_mayGo_29 : decode cX6_mayGo 29 = .ok (.iconst 0, 1) := dk_3 (dk_at dksX6_mayGo_1 7 rfl rfl)
theorem dX6_mayGo_30 : decode cX6_mayGo 30 = .ok (.ireturn, 1) := dk_172 (dk_at dksX6_mayGo_1 8 rfl rfl)
abbrev cX6_isLeaned : ByteArray := prog_19_method_30_code
def yX6_isLeaned : MethodName := ⟨RX6, "isLeaned", "(I)Z"⟩
def dkwX6_isLeaned_2 : List UInt8 := [132, 3, 1, 167, 255, 209, 28, 172]
abbrev dktX6_isLeaned_2 : List UInt8 := dkwX6_isLeaned_2 ++ []
def dkwX6_isLeaned_1 : List UInt8 := [180, 0, 7, 16, 66, 29, 96, 46, 182, 0, 92, 7, 96, 46, 27, 160, 0, 7, 4, 167, 0, 4, 3, 61]
abbrev dktX6_isLeaned_1 : List UInt8 := dkwX6_isLeaned_1 ++ dktX6_isLeaned_2
def dkwX6_isLeaned_0 : List UInt8 := [3, 61, 3, 62, 29, 42, 180, 0, 7, 5, 46, 162, 0, 43, 28, 154, 0, 27, 42, 180, 0, 7, 42, 42]
abbrev dktX6_isLeaned_0 : List UInt8 := dkwX6_isLeaned_0 ++ dktX6_isLeaned_1
theorem dksX6_isLeaned_0 : cX6_isLeaned.data.toList.drop 0 = dktX6_isLeaned_0 := by decide +kernel
theorem dksX6_isLeaned_1 : cX6_isLeaned.data.toList.drop 24 = dktX6_isLeaned_1 := dk_seg dksX6_isLeaned_0 24 rfl rfl
theorem dksX6_isLeaned_2 : cX6_isLeaned.data.toList.drop 48 = dktX6_isLeaned_2 := dk_seg dksX6_isLeaned_1 24 rfl rfl
theorem dX6_isLeaned_0 : decode cX6_isLeaned 0 = .ok (.iconst 0, 1) := dk_3 (dk_at dksX6_isLeaned_0 0 rfl rfl)
theorem dX6_isLeaned_1 : decode cX6_isLeaned 1 = .ok (.istore_n 2, 1) := dk_61 (dk_at dksX6_isLeaned_0 1 rfl rfl)
theorem dX6_isLeaned_2 : decode cX6_isLeaned 2 = .ok (.iconst 0, 1) := dk_3 (dk_at dksX6_isLeaned_0 2 rfl rfl)
theorem dX6_isLeaned_3 : decode cX6_isLeaned 3 = .ok (.istore_n 3, 1) := dk_62 (dk_at dksX6_isLeaned_0 3 rfl rfl)
theorem dX6_isLeaned_4 : decode cX6_isLeaned 4 = .ok (.iload_n 3, 1) := dk_29 (dk_at dksX6_isLeaned_0 4 rfl rfl)
theorem dX6_isLeaned_5 : decode cX6_isLeaned 5 = .ok (.aload_n 0, 1) := dk_42 (dk_at dksX6_isLeaned_0 5 rfl rfl)
theorem dX6_isLeaned_6 : decode cX6_isLeaned 6 = .ok (.getfield 7, 3) := dk_180 0 7 (dk_at dksX6_isLeaned_0 6 rfl rfl)
theorem dX6_isLeaned_9 : decode cX6_isLeaned 9 = .ok (.iconst 2, 1) := dk_5 (dk_at dksX6_isLeaned_0 9 rfl rfl)
theorem dX6_isLeaned_10 : decode cX6_isLeaned 10 = .ok (.iaload, 1) := dk_46 (dk_at dksX6_isLeaned_0 10 rfl rfl)
theorem dX6_isLeaned_11 : decode cX6_isLeaned 11 = .ok (.if_icmp .ge 43, 3) := dk_162 0 43 (dk_at dksX6_isLeaned_0 11 rfl rfl)
theorem dX6_isLeaned_14 : decode cX6_isLeaned 14 = .ok (.iload_n 2, 1) := dk_28 (dk_at dksX6_isLeaned_0 14 rfl rfl)
theorem dX6_isLeaned_15 : decode cX6_isLeaned 15 = .ok (.ifCond .ne 27, 3) := dk_154 0 27 (dk_at dksX6_isLeaned_0 15 rfl rfl)
theorem dX6_isLeaned_18 : decode cX6_isLeaned 18 = .ok (.aload_n 0, 1) := dk_42 (dk_at dksX6_isLeaned_0 18 rfl rfl)
theorem dX6_isLeaned_19 : decode cX6_isLeaned 19 = .ok (.getfield 7, 3) := dk_180 0 7 (dk_at dksX6_isLeaned_0 19 rfl rfl)
theorem dX6_isLeaned_22 : decode cX6_isLeaned 22 = .ok (.aload_n 0, 1) := dk_42 (dk_at dksX6_isLeaned_0 22 rfl rfl)
theorem dX6_isLeaned_23 : decode cX6_isLeaned 23 = .ok (.aload_n 0, 1) := dk_42 (dk_at dksX6_isLeaned_0 23 rfl rfl)
theorem dX6_isLeaned_24 : decode cX6_isLeaned 24 = .ok (.getfield 7, 3) := dk_180 0 7 (dk_at dksX6_isLeaned_1 0 rfl rfl)
theorem dX6_isLeaned_27 : decode cX6_isLeaned 27 = .ok (.bipush 66, 2) := dk_16 66 (dk_at dksX6_isLeaned_1 3 rfl rfl)
theorem dX6_isLeaned_29 : decode cX6_isLeaned 29 = .ok (.iload_n 3, 1) := dk_29 (dk_at dksX6_isLeaned_1 5 rfl rfl)
theorem dX6_isLeaned_30 : decode cX6_isLeaned 30 = .ok (.iadd, 1) := dk_96 (dk_at dksX6_isLeaned_1 6 rfl rfl)
theorem dX6_isLeaned_31 : decode cX6_isLeaned 31 = .ok (.iaload, 1) := dk_46 (dk_at dksX6_isLeaned_1 7 rfl rfl)
theorem dX6_isLeaned_32 : decode cX6_isLeaned 32 = .ok (.invokevirtual 92, 3) := dk_182 0 92 (dk_at dksX6_isLeaned_1 8 rfl rfl)
theorem dX6_isLeaned_35 : decode cX6_isLeaned 35 = .ok (.iconst 4, 1) := dk_7 (dk_at dksX6_isLeaned_1 11 rfl rfl)
theorem dX6_isLeaned_36 : decode cX6_isLeaned 36 = .ok (.iadd, 1) := dk_96 (dk_at dksX6_isLeaned_1 12 rfl rfl)
theorem dX6_isLeaned_37 : decode cX6_isLeaned 37 = .ok (.iaload, 1) := dk_46 (dk_at dksX6_isLeaned_1 13 rfl rfl)
theorem dX6_isLeaned_38 : decode cX6_isLeaned 38 = .ok (.iload_n 1, 1) := dk_27 (dk_at dksX6_isLeaned_1 14 rfl rfl)
theorem dX6_isLeaned_39 : decode cX6_isLeaned 39 = .ok (.if_icmp .ne 7, 3) := dk_160 0 7 (dk_at dksX6_isLeaned_1 15 rfl rfl)
theorem dX6_isLeaned_42 : decode cX6_isLeaned 42 = .ok (.iconst 1, 1) := dk_4 (dk_at dksX6_isLeaned_1 18 rfl rfl)
theorem dX6_isLeaned_43 : decode cX6_isLeaned 43 = .ok (.goto 4, 3) := dk_167 0 4 (dk_at dksX6_isLeaned_1 19 rfl rfl)
theorem dX6_isLeaned_46 : decode cX6_isLeaned 46 = .ok (.iconst 0, 1) := dk_3 (dk_at dksX6_isLeaned_1 22 rfl rfl)
theorem dX6_isLeaned_47 : decode cX6_isLeaned 47 = .ok (.istore_n 2, 1) := dk_61 (dk_at dksX6_isLeaned_1 23 rfl rfl)
theorem dX6_isLeaned_48 : decode cX6_isLeaned 48 = .ok (.iinc 3 1, 3) := dk_132 3 1 (dk_at dksX6_isLeaned_2 0 rfl rfl)
theorem dX6_isLeaned_51 : decode cX6_isLeaned 51 = .ok (.goto (-47), 3) := dk_167 255 209 (dk_at dksX6_isLeaned_2 3 rfl rfl)
theorem dX6_isLeaned_54 : decode cX6_isLeaned 54 = .ok (.iload_n 2, 1) := dk_28 (dk_at dksX6_isLeaned_2 6 rfl rfl)
theorem dX6_isLeaned_55 : decode cX6_isLeaned 55 = .ok (.ireturn, 1) := dk_172 (dk_at dksX6_isLeaned_2 7 rfl rfl)
abbrev cX6_speaks : ByteArray := prog_19_method_32_code
def yX6_speaks : MethodName := ⟨RX6, "speaks", "(I)I"⟩
def dkwX6_speaks_6 : List UInt8 := [21, 4, 182, 0, 95, 172]
abbrev dktX6_speaks_6 : List UInt8 := dkwX6_speaks_6 ++ []
def dkwX6_speaks_5 : List UInt8 := [79, 42, 180, 0, 67, 16, 114, 42, 180, 0, 43, 28, 46, 79, 42, 180, 0, 67, 16, 110, 28, 79, 42]
abbrev dktX6_speaks_5 : List UInt8 := dkwX6_speaks_5 ++ dktX6_speaks_6
def dkwX6_speaks_4 : List UInt8 := [180, 0, 7, 29, 16, 6, 96, 46, 100, 79, 42, 180, 0, 67, 16, 116, 42, 180, 0, 7, 29, 8, 96, 46]
abbrev dktX6_speaks_4 : List UInt8 := dkwX6_speaks_4 ++ dktX6_speaks_5
def dkwX6_speaks_3 : List UInt8 := [161, 0, 8, 21, 4, 156, 0, 5, 3, 172, 42, 180, 0, 67, 16, 97, 42, 180, 0, 7, 16, 6, 46, 42]
abbrev dktX6_speaks_3 : List UInt8 := dkwX6_speaks_3 ++ dktX6_speaks_4
def dkwX6_speaks_2 : List UInt8 := [7, 46, 5, 160, 0, 13, 42, 180, 0, 7, 29, 8, 96, 46, 116, 172, 42, 180, 0, 7, 7, 46, 7]
abbrev dktX6_speaks_2 : List UInt8 := dkwX6_speaks_2 ++ dktX6_speaks_3
def dkwX6_speaks_1 : List UInt8 := [180, 0, 7, 7, 46, 4, 160, 0, 14, 42, 180, 0, 7, 29, 16, 6, 96, 46, 116, 172, 42, 180, 0, 7]
abbrev dktX6_speaks_1 : List UInt8 := dkwX6_speaks_1 ++ dktX6_speaks_2
def dkwX6_speaks_0 : List UInt8 := [42, 180, 0, 7, 16, 66, 27, 96, 46, 61, 42, 28, 182, 0, 92, 62, 42, 5, 182, 0, 88, 54, 4, 42]
abbrev dktX6_speaks_0 : List UInt8 := dkwX6_speaks_0 ++ dktX6_speaks_1
theorem dksX6_speaks_0 : cX6_speaks.data.toList.drop 0 = dktX6_speaks_0 := by decide +kernel
theorem dksX6_speaks_1 : cX6_speaks.data.toList.drop 24 = dktX6_speaks_1 := dk_seg dksX6_speaks_0 24 rfl rfl
theorem dksX6_speaks_2 : cX6_speaks.data.toList.drop 48 = dktX6_speaks_2 := dk_seg dksX6_speaks_1 24 rfl rfl
theorem dksX6_speaks_3 : cX6_speaks.data.toList.drop 71 = dktX6_speaks_3 := dk_seg dksX6_speaks_2 23 rfl rfl
theorem dksX6_speaks_4 : cX6_speaks.data.toList.drop 95 = dktX6_speaks_4 := dk_seg dksX6_speaks_3 24 rfl rfl
theorem dksX6_speaks_5 : cX6_speaks.data.toList.drop 119 = dktX6_speaks_5 := dk_seg dksX6_speaks_4 24 rfl rfl
theorem dksX6_speaks_6 : cX6_speaks.data.toList.drop 142 = dktX6_speaks_6 := dk_seg dksX6_speaks_5 23 rfl rfl
theorem dX6_speaks_0 : decode cX6_speaks 0 = .ok (.aload_n 0, 1) := dk_42 (dk_at dksX6_speaks_0 0 rfl rfl)
theorem dX6_speaks_1 : decode cX6_speaks 1 = .ok (.getfield 7, 3) := dk_180 0 7 (dk_at dksX6_speaks_0 1 rfl rfl)
theorem dX6_speaks_4 : decode cX6_speaks 4 = .ok (.bipush 66, 2) := dk_16 66 (dk_at dksX6_speaks_0 4 rfl rfl)
theorem dX6_speaks_6 : decode cX6_speaks 6 = .ok (.iload_n 1, 1) := dk_27 (dk_at dksX6_speaks_0 6 rfl rfl)
theorem dX6_speaks_7 : decode cX6_speaks 7 = .ok (.iadd, 1) := dk_96 (dk_at dksX6_speaks_0 7 rfl rfl)
theorem dX6_speaks_8 : decode cX6_speaks 8 = .ok (.iaload, 1) := dk_46 (dk_at dksX6_speaks_0 8 rfl rfl)
theorem dX6_speaks_9 : decode cX6_speaks 9 = .ok (.istore_n 2, 1) := dk_61 (dk_at dksX6_speaks_0 9 rfl rfl)
theorem dX6_speaks_10 : decode cX6_speaks 10 = .ok (.aload_n 0, 1) := dk_42 (dk_at dksX6_speaks_0 10 rfl rfl)
theorem dX6_speaks_11 : decode cX6_speaks 11 = .ok (.iload_n 2, 1) := dk_28 (dk_at dksX6_speaks_0 11 rfl rfl)
theorem dX6_speaks_12 : decode cX6_speaks 12 = .ok (.invokevirtual 92, 3) := dk_182 0 92 (dk_at dksX6_speaks_0 12 rfl rfl)
theorem dX6_speaks_15 : decode cX6_speaks 15 = .ok (.istore_n 3, 1) := dk_62 (dk_at dksX6_speaks_0 15 rfl rfl)
theorem dX6_speaks_16 : decode cX6_speaks 16 = .ok (.aload_n 0, 1) := dk_42 (dk_at dksX6_speaks_0 16 rfl rfl)
theorem dX6_speaks_17 : decode cX6_speaks 17 = .ok (.iconst 2, 1) := dk_5 (dk_at dksX6_speaks_0 17 rfl rfl)
theorem dX6_speaks_18 : decode cX6_speaks 18 = .ok (.invokevirtual 88, 3) := dk_182 0 88 (dk_at dksX6_speaks_0 18 rfl rfl)
theorem dX6_speaks_21 : decode cX6_speaks 21 = .ok (.istore 4, 2) := dk_54 4 (dk_at dksX6_speaks_0 21 rfl rfl)
theorem dX6_speaks_23 : decode cX6_speaks 23 = .ok (.aload_n 0, 1) := dk_42 (dk_at dksX6_speaks_0 23 rfl rfl)
theorem dX6_speaks_24 : decode cX6_speaks 24 = .ok (.getfield 7, 3) := dk_180 0 7 (dk_at dksX6_speaks_1 0 rfl rfl)
theorem dX6_speaks_27 : decode cX6_speaks 27 = .ok (.iconst 4, 1) := dk_7 (dk_at dksX6_speaks_1 3 rfl rfl)
theorem dX6_speaks_28 : decode cX6_speaks 28 = .ok (.iaload, 1) := dk_46 (dk_at dksX6_speaks_1 4 rfl rfl)
theorem dX6_speaks_29 : decode cX6_speaks 29 = .ok (.iconst 1, 1) := dk_4 (dk_at dksX6_speaks_1 5 rfl rfl)
theorem dX6_speaks_30 : decode cX6_speaks 30 = .ok (.if_icmp .ne 14, 3) := dk_160 0 14 (dk_at dksX6_speaks_1 6 rfl rfl)
theorem dX6_speaks_33 : decode cX6_speaks 33 = .ok (.aload_n 0, 1) := dk_42 (dk_at dksX6_speaks_1 9 rfl rfl)
theorem dX6_speaks_34 : decode cX6_speaks 34 = .ok (.getfield 7, 3) := dk_180 0 7 (dk_at dksX6_speaks_1 10 rfl rfl)
theorem dX6_speaks_37 : decode cX6_speaks 37 = .ok (.iload_n 3, 1) := dk_29 (dk_at dksX6_speaks_1 13 rfl rfl)
theorem dX6_speaks_38 : decode cX6_speaks 38 = .ok (.bipush 6, 2) := dk_16 6 (dk_at dksX6_speaks_1 14 rfl rfl)
theorem dX6_speaks_40 : decode cX6_speaks 40 = .ok (.iadd, 1) := dk_96 (dk_at dksX6_speaks_1 16 rfl rfl)
theorem dX6_speaks_41 : decode cX6_speaks 41 = .ok (.iaload, 1) := dk_46 (dk_at dksX6_speaks_1 17 rfl rfl)
theorem dX6_speaks_42 : decode cX6_speaks 42 = .ok (.ineg, 1) := dk_116 (dk_at dksX6_speaks_1 18 rfl rfl)
theorem dX6_speaks_43 : decode cX6_speaks 43 = .ok (.ireturn, 1) := dk_172 (dk_at dksX6_speaks_1 19 rfl rfl)
theorem dX6_speaks_44 : decode cX6_speaks 44 = .ok (.aload_n 0, 1) := dk_42 (dk_at dksX6_speaks_1 20 rfl rfl)
theorem dX6_speaks_45 : decode cX6_speaks 45 = .ok (.getfield 7, 3) := dk_180 0 7 (dk_at dksX6_speaks_1 21 rfl rfl)
theorem dX6_speaks_48 : decode cX6_speaks 48 = .ok (.iconst 4, 1) := dk_7 (dk_at dksX6_speaks_2 0 rfl rfl)
theorem dX6_speaks_49 : decode cX6_speaks 49 = .ok (.iaload, 1) := dk_46 (dk_at dksX6_speaks_2 1 rfl rfl)
theorem dX6_speaks_50 : decode cX6_speaks 50 = .ok (.iconst 2, 1) := dk_5 (dk_at dksX6_speaks_2 2 rfl rfl)
theorem dX6_speaks_51 : decode cX6_speaks 51 = .ok (.if_icmp .ne 13, 3) := dk_160 0 13 (dk_at dksX6_speaks_2 3 rfl rfl)
theorem dX6_speaks_54 : decode cX6_speaks 54 = .ok (.aload_n 0, 1) := dk_42 (dk_at dksX6_speaks_2 6 rfl rfl)
theorem dX6_speaks_55 : decode cX6_speaks 55 = .ok (.getfield 7, 3) := dk_180 0 7 (dk_at dksX6_speaks_2 7 rfl rfl)
theorem dX6_speaks_58 : decode cX6_speaks 58 = .ok (.iload_n 3, 1) := dk_29 (dk_at dksX6_speaks_2 10 rfl rfl)
theorem dX6_speaks_59 : decode cX6_speaks 59 = .ok (.iconst 5, 1) := dk_8 (dk_at dksX6_speaks_2 11 rfl rfl)
theorem dX6_speaks_60 : decode cX6_speaks 60 = .ok (.iadd, 1) := dk_96 (dk_at dksX6_speaks_2 12 rfl rfl)
theorem dX6_speaks_61 : decode cX6_speaks 61 = .ok (.iaload, 1) := dk_46 (dk_at dksX6_speaks_2 13 rfl rfl)
theorem dX6_speaks_62 : decode cX6_speaks 62 = .ok (.ineg, 1) := dk_116 (dk_at dksX6_speaks_2 14 rfl rfl)
theorem dX6_speaks_63 : decode cX6_speaks 63 = .ok (.ireturn, 1) := dk_172 (dk_at dksX6_speaks_2 15 rfl rfl)
theorem dX6_speaks_64 : decode cX6_speaks 64 = .ok (.aload_n 0, 1) := dk_42 (dk_at dksX6_speaks_2 16 rfl rfl)
theorem dX6_speaks_65 : decode cX6_speaks 65 = .ok (.getfield 7, 3) := dk_180 0 7 (dk_at dksX6_speaks_2 17 rfl rfl)
theorem dX6_speaks_68 : decode cX6_speaks 68 = .ok (.iconst 4, 1) := dk_7 (dk_at dksX6_speaks_2 20 rfl rfl)
theorem dX6_speaks_69 : decode cX6_speaks 69 = .ok (.iaload, 1) := dk_46 (dk_at dksX6_speaks_2 21 rfl rfl)
theorem dX6_speaks_70 : decode cX6_speaks 70 = .ok (.iconst 4, 1) := dk_7 (dk_at dksX6_speaks_2 22 rfl rfl)
theorem dX6_speaks_71 : decode cX6_speaks 71 = .ok (.if_icmp .lt 8, 3) := dk_161 0 8 (dk_at dksX6_speaks_3 0 rfl rfl)
theorem dX6_speaks_74 : decode cX6_speaks 74 = .ok (.iload 4, 2) := dk_21 4 (dk_at dksX6_speaks_3 3 rfl rfl)
theorem dX6_speaks_76 : decode cX6_speaks 76 = .ok (.ifCond .ge 5, 3) := dk_156 0 5 (dk_at dksX6_speaks_3 5 rfl rfl)
theorem dX6_speaks_79 : decode cX6_speaks 79 = .ok (.iconst 0, 1) := dk_3 (dk_at dksX6_speaks_3 8 rfl rfl)
theorem dX6_speaks_80 : decode cX6_speaks 80 = .ok (.ireturn, 1) := dk_172 (dk_at dksX6_speaks_3 9 rfl rfl)
theorem dX6_speaks_81 : decode cX6_speaks 81 = .ok (.aload_n 0, 1) := dk_42 (dk_at dksX6_speaks_3 10 rfl rfl)
theorem dX6_speaks_82 : decode cX6_speaks 82 = .ok (.getfield 67, 3) := dk_180 0 67 (dk_at dksX6_speaks_3 11 rfl rfl)
theorem dX6_speaks_85 : decode cX6_speaks 85 = .ok (.bipush 97, 2) := dk_16 97 (dk_at dksX6_speaks_3 14 rfl rfl)
theorem dX6_speaks_87 : decode cX6_speaks 87 = .ok (.aload_n 0, 1) := dk_42 (dk_at dksX6_speaks_3 16 rfl rfl)
theorem dX6_speaks_88 : decode cX6_speaks 88 = .ok (.getfield 7, 3) := dk_180 0 7 (dk_at dksX6_speaks_3 17 rfl rfl)
theorem dX6_speaks_91 : decode cX6_speaks 91 = .ok (.bipush 6, 2) := dk_16 6 (dk_at dksX6_speaks_3 20 rfl rfl)
theorem dX6_speaks_93 : decode cX6_speaks 93 = .ok (.iaload, 1) := dk_46 (dk_at dksX6_speaks_3 22 rfl rfl)
theorem dX6_speaks_94 : decode cX6_speaks 94 = .ok (.aload_n 0, 1) := dk_42 (dk_at dksX6_speaks_3 23 rfl rfl)
theorem dX6_speaks_95 : decode cX6_speaks 95 = .ok (.getfield 7, 3) := dk_180 0 7 (dk_at dksX6_speaks_4 0 rfl rfl)
theorem dX6_speaks_98 : decode cX6_speaks 98 = .ok (.iload_n 3, 1) := dk_29 (dk_at dksX6_speaks_4 3 rfl rfl)
theorem dX6_speaks_99 : decode cX6_speaks 99 = .ok (.bipush 6, 2) := dk_16 6 (dk_at dksX6_speaks_4 4 rfl rfl)
theorem dX6_speaks_101 : decode cX6_speaks 101 = .ok (.iadd, 1) := dk_96 (dk_at dksX6_speaks_4 6 rfl rfl)
theorem dX6_speaks_102 : decode cX6_speaks 102 = .ok (.iaload, 1) := dk_46 (dk_at dksX6_speaks_4 7 rfl rfl)
theorem dX6_speaks_103 : decode cX6_speaks 103 = .ok (.isub, 1) := dk_100 (dk_at dksX6_speaks_4 8 rfl rfl)
theorem dX6_speaks_104 : decode cX6_speaks 104 = .ok (.iastore, 1) := dk_79 (dk_at dksX6_speaks_4 9 rfl rfl)
theorem dX6_speaks_105 : decode cX6_speaks 105 = .ok (.aload_n 0, 1) := dk_42 (dk_at dksX6_speaks_4 10 rfl rfl)
theorem dX6_speaks_106 : decode cX6_speaks 106 = .ok (.getfield 67, 3) := dk_180 0 67 (dk_at dksX6_speaks_4 11 rfl rfl)
theorem dX6_speaks_109 : decode cX6_speaks 109 = .ok (.bipush 116, 2) := dk_16 116 (dk_at dksX6_speaks_4 14 rfl rfl)
theorem dX6_speaks_111 : decode cX6_speaks 111 = .ok (.aload_n 0, 1) := dk_42 (dk_at dksX6_speaks_4 16 rfl rfl)
theorem dX6_speaks_112 : decode cX6_speaks 112 = .ok (.getfield 7, 3) := dk_180 0 7 (dk_at dksX6_speaks_4 17 rfl rfl)
theorem dX6_speaks_115 : decode cX6_speaks 115 = .ok (.iload_n 3, 1) := dk_29 (dk_at dksX6_speaks_4 20 rfl rfl)
theorem dX6_speaks_116 : decode cX6_speaks 116 = .ok (.iconst 5, 1) := dk_8 (dk_at dksX6_speaks_4 21 rfl rfl)
theorem dX6_speaks_117 : decode cX6_speaks 117 = .ok (.iadd, 1) := dk_96 (dk_at dksX6_speaks_4 22 rfl rfl)
theorem dX6_speaks_118 : decode cX6_speaks 118 = .ok (.iaload, 1) := dk_46 (dk_at dksX6_speaks_4 23 rfl rfl)
theorem dX6_speaks_119 : decode cX6_speaks 119 = .ok (.iastore, 1) := dk_79 (dk_at dksX6_speaks_5 0 rfl rfl)
theorem dX6_speaks_120 : decode cX6_speaks 120 = .ok (.aload_n 0, 1) := dk_42 (dk_at dksX6_speaks_5 1 rfl rfl)
theorem dX6_speaks_121 : decode cX6_speaks 121 = .ok (.getfield 67, 3) := dk_180 0 67 (dk_at dksX6_speaks_5 2 rfl rfl)
theorem dX6_speaks_124 : decode cX6_speaks 124 = .ok (.bipush 114, 2) := dk_16 114 (dk_at dksX6_speaks_5 5 rfl rfl)
theorem dX6_speaks_126 : decode cX6_speaks 126 = .ok (.aload_n 0, 1) := dk_42 (dk_at dksX6_speaks_5 7 rfl rfl)
theorem dX6_speaks_127 : decode cX6_speaks 127 = .ok (.getfield 43, 3) := dk_180 0 43 (dk_at dksX6_speaks_5 8 rfl rfl)
theorem dX6_speaks_130 : decode cX6_speaks 130 = .ok (.iload_n 2, 1) := dk_28 (dk_at dksX6_speaks_5 11 rfl rfl)
theorem dX6_speaks_131 : decode cX6_speaks 131 = .ok (.iaload, 1) := dk_46 (dk_at dksX6_speaks_5 12 rfl rfl)
theorem dX6_speaks_132 : decode cX6_speaks 132 = .ok (.iastore, 1) := dk_79 (dk_at dksX6_speaks_5 13 rfl rfl)
theorem dX6_speaks_133 : decode cX6_speaks 133 = .ok (.aload_n 0, 1) := dk_42 (dk_at dksX6_speaks_5 14 rfl rfl)
theorem dX6_speaks_134 : decode cX6_speaks 134 = .ok (.getfield 67, 3) := dk_180 0 67 (dk_at dksX6_speaks_5 15 rfl rfl)
theorem dX6_speaks_137 : decode cX6_speaks 137 = .ok (.bipush 110, 2) := dk_16 110 (dk_at dksX6_speaks_5 18 rfl rfl)
theorem dX6_speaks_139 : decode cX6_speaks 139 = .ok (.iload_n 2, 1) := dk_28 (dk_at dksX6_speaks_5 20 rfl rfl)
theorem dX6_speaks_140 : decode cX6_speaks 140 = .ok (.iastore, 1) := dk_79 (dk_at dksX6_speaks_5 21 rfl rfl)
theorem dX6_speaks_141 : decode cX6_speaks 141 = .ok (.aload_n 0, 1) := dk_42 (dk_at dksX6_speaks_5 22 rfl rfl)
theorem dX6_speaks_142 : decode cX6_speaks 142 = .ok (.iload 4, 2) := dk_21 4 (dk_at dksX6_speaks_6 0 rfl rfl)
theorem dX6_speaks_144 : decode cX6_speaks 144 = .ok (.invokevirtual 95, 3) := dk_182 0 95 (dk_at dksX6_speaks_6 2 rfl rfl)
theorem dX6_speaks_147 : decode cX6_speaks 147 = .ok (.ireturn, 1) := dk_172 (dk_at dksX6_speaks_6 5 rfl rfl)
abbrev cX6_leaves : ByteArray := prog_19_method_29_code
def yX6_leaves : MethodName := ⟨RX6, "leaves", "(I)V"⟩
def dkwX6_leaves_2 : List UInt8 := [167, 255, 223, 177]
abbrev dktX6_leaves_2 : List UInt8 := dkwX6_leaves_2 ++ []
def dkwX6_leaves_1 : List UInt8 := [180, 0, 7, 16, 66, 28, 96, 42, 180, 0, 7, 16, 66, 28, 96, 4, 96, 46, 79, 132, 2, 1]
abbrev dktX6_leaves_1 : List UInt8 := dkwX6_leaves_1 ++ dktX6_leaves_2
def dkwX6_leaves_0 : List UInt8 := [42, 180, 0, 7, 5, 92, 46, 4, 100, 79, 27, 61, 28, 42, 180, 0, 7, 5, 46, 162, 0, 29, 42]
abbrev dktX6_leaves_0 : List UInt8 := dkwX6_leaves_0 ++ dktX6_leaves_1
theorem dksX6_leaves_0 : cX6_leaves.data.toList.drop 0 = dktX6_leaves_0 := by decide +kernel
theorem dksX6_leaves_1 : cX6_leaves.data.toList.drop 23 = dktX6_leaves_1 := dk_seg dksX6_leaves_0 23 rfl rfl
theorem dksX6_leaves_2 : cX6_leaves.data.toList.drop 45 = dktX6_leaves_2 := dk_seg dksX6_leaves_1 22 rfl rfl
theorem dX6_leaves_0 : decode cX6_leaves 0 = .ok (.aload_n 0, 1) := dk_42 (dk_at dksX6_leaves_0 0 rfl rfl)
theorem dX6_leaves_1 : decode cX6_leaves 1 = .ok (.getfield 7, 3) := dk_180 0 7 (dk_at dksX6_leaves_0 1 rfl rfl)
theorem dX6_leaves_4 : decode cX6_leaves 4 = .ok (.iconst 2, 1) := dk_5 (dk_at dksX6_leaves_0 4 rfl rfl)
theorem dX6_leaves_5 : decode cX6_leaves 5 = .ok (.dup2, 1) := dk_92 (dk_at dksX6_leaves_0 5 rfl rfl)
theorem dX6_leaves_6 : decode cX6_leaves 6 = .ok (.iaload, 1) := dk_46 (dk_at dksX6_leaves_0 6 rfl rfl)
theorem dX6_leaves_7 : decode cX6_leaves 7 = .ok (.iconst 1, 1) := dk_4 (dk_at dksX6_leaves_0 7 rfl rfl)
theorem dX6_leaves_8 : decode cX6_leaves 8 = .ok (.isub, 1) := dk_100 (dk_at dksX6_leaves_0 8 rfl rfl)
theorem dX6_leaves_9 : decode cX6_leaves 9 = .ok (.iastore, 1) := dk_79 (dk_at dksX6_leaves_0 9 rfl rfl)
theorem dX6_leaves_10 : decode cX6_leaves 10 = .ok (.iload_n 1, 1) := dk_27 (dk_at dksX6_leaves_0 10 rfl rfl)
theorem dX6_leaves_11 : decode cX6_leaves 11 = .ok (.istore_n 2, 1) := dk_61 (dk_at dksX6_leaves_0 11 rfl rfl)
theorem dX6_leaves_12 : decode cX6_leaves 12 = .ok (.iload_n 2, 1) := dk_28 (dk_at dksX6_leaves_0 12 rfl rfl)
theorem dX6_leaves_13 : decode cX6_leaves 13 = .ok (.aload_n 0, 1) := dk_42 (dk_at dksX6_leaves_0 13 rfl rfl)
theorem dX6_leaves_14 : decode cX6_leaves 14 = .ok (.getfield 7, 3) := dk_180 0 7 (dk_at dksX6_leaves_0 14 rfl rfl)
theorem dX6_leaves_17 : decode cX6_leaves 17 = .ok (.iconst 2, 1) := dk_5 (dk_at dksX6_leaves_0 17 rfl rfl)
theorem dX6_leaves_18 : decode cX6_leaves 18 = .ok (.iaload, 1) := dk_46 (dk_at dksX6_leaves_0 18 rfl rfl)
theorem dX6_leaves_19 : decode cX6_leaves 19 = .ok (.if_icmp .ge 29, 3) := dk_162 0 29 (dk_at dksX6_leaves_0 19 rfl rfl)
theorem dX6_leaves_22 : decode cX6_leaves 22 = .ok (.aload_n 0, 1) := dk_42 (dk_at dksX6_leaves_0 22 rfl rfl)
theorem dX6_leaves_23 : decode cX6_leaves 23 = .ok (.getfield 7, 3) := dk_180 0 7 (dk_at dksX6_leaves_1 0 rfl rfl)
theorem dX6_leaves_26 : decode cX6_leaves 26 = .ok (.bipush 66, 2) := dk_16 66 (dk_at dksX6_leaves_1 3 rfl rfl)
theorem dX6_leaves_28 : decode cX6_leaves 28 = .ok (.iload_n 2, 1) := dk_28 (dk_at dksX6_leaves_1 5 rfl rfl)
theorem dX6_leaves_29 : decode cX6_leaves 29 = .ok (.iadd, 1) := dk_96 (dk_at dksX6_leaves_1 6 rfl rfl)
theorem dX6_leaves_30 : decode cX6_leaves 30 = .ok (.aload_n 0, 1) := dk_42 (dk_at dksX6_leaves_1 7 rfl rfl)
theorem dX6_leaves_31 : decode cX6_leaves 31 = .ok (.getfield 7, 3) := dk_180 0 7 (dk_at dksX6_leaves_1 8 rfl rfl)
theorem dX6_leaves_34 : decode cX6_leaves 34 = .ok (.bipush 66, 2) := dk_16 66 (dk_at dksX6_leaves_1 11 rfl rfl)
theorem dX6_leaves_36 : decode cX6_leaves 36 = .ok (.iload_n 2, 1) := dk_28 (dk_at dksX6_leaves_1 13 rfl rfl)
theorem dX6_leaves_37 : decode cX6_leaves 37 = .ok (.iadd, 1) := dk_96 (dk_at dksX6_leaves_1 14 rfl rfl)
theorem dX6_leaves_38 : decode cX6_leaves 38 = .ok (.iconst 1, 1) := dk_4 (dk_at dksX6_leaves_1 15 rfl rfl)
theorem dX6_leaves_39 : decode cX6_leaves 39 = .ok (.iadd, 1) := dk_96 (dk_at dksX6_leaves_1 16 rfl rfl)
theorem dX6_leaves_40 : decode cX6_leaves 40 = .ok (.iaload, 1) := dk_46 (dk_at dksX6_leaves_1 17 rfl rfl)
theorem dX6_leaves_41 : decode cX6_leaves 41 = .ok (.iastore, 1) := dk_79 (dk_at dksX6_leaves_1 18 rfl rfl)
theorem dX6_leaves_42 : decode cX6_leaves 42 = .ok (.iinc 2 1, 3) := dk_132 2 1 (dk_at dksX6_leaves_1 19 rfl rfl)
theorem dX6_leaves_45 : decode cX6_leaves 45 = .ok (.goto (-33), 3) := dk_167 255 223 (dk_at dksX6_leaves_2 0 rfl rfl)
theorem dX6_leaves_48 : decode cX6_leaves 48 = .ok (.return_, 1) := dk_177 (dk_at dksX6_leaves_2 3 rfl rfl)
abbrev cX6_rule : ByteArray := prog_19_method_37_code
def yX6_rule : MethodName := ⟨RX6, "rule", "(I)I"⟩
def dkwX6_rule_0 : List UInt8 := [27, 133, 9, 20, 0, 185, 184, 0, 83, 153, 0, 12, 42, 7, 27, 182, 0, 147, 167, 0, 5, 18, 120, 172]
abbrev dktX6_rule_0 : List UInt8 := dkwX6_rule_0 ++ []
theorem dksX6_rule_0 : cX6_rule.data.toList.drop 0 = dktX6_rule_0 := by decide +kernel
theorem dX6_rule_0 : decode cX6_rule 0 = .ok (.iload_n 1, 1) := dk_27 (dk_at dksX6_rule_0 0 rfl rfl)
theorem dX6_rule_1 : decode cX6_rule 1 = .ok (.i2l, 1) := dk_133 (dk_at dksX6_rule_0 1 rfl rfl)
theorem dX6_rule_2 : decode cX6_rule 2 = .ok (.lconst 0, 1) := dk_9 (dk_at dksX6_rule_0 2 rfl rfl)
theorem dX6_rule_3 : decode cX6_rule 3 = .ok (.ldc2_w 185, 3) := dk_20 0 185 (dk_at dksX6_rule_0 3 rfl rfl)
theorem dX6_rule_6 : decode cX6_rule 6 = .ok (.invokestatic 83, 3) := dk_184 0 83 (dk_at dksX6_rule_0 6 rfl rfl)
theorem dX6_rule_9 : decode cX6_rule 9 = .ok (.ifCond .eq 12, 3) := dk_153 0 12 (dk_at dksX6_rule_0 9 rfl rfl)
theorem dX6_rule_12 : decode cX6_rule 12 = .ok (.aload_n 0, 1) := dk_42 (dk_at dksX6_rule_0 12 rfl rfl)
theorem dX6_rule_13 : decode cX6_rule 13 = .ok (.iconst 4, 1) := dk_7 (dk_at dksX6_rule_0 13 rfl rfl)
theorem dX6_rule_14 : decode cX6_rule 14 = .ok (.iload_n 1, 1) := dk_27 (dk_at dksX6_rule_0 14 rfl rfl)
theorem dX6_rule_15 : decode cX6_rule 15 = .ok (.invokevirtual 147, 3) := dk_182 0 147 (dk_at dksX6_rule_0 15 rfl rfl)
theorem dX6_rule_18 : decode cX6_rule 18 = .ok (.goto 5, 3) := dk_167 0 5 (dk_at dksX6_rule_0 18 rfl rfl)
theorem dX6_rule_21 : decode cX6_rule 21 = .ok (.ldc 120, 2) := dk_18 120 (dk_at dksX6_rule_0 21 rfl rfl)
theorem dX6_rule_23 : decode cX6_rule 23 = .ok (.ireturn, 1) := dk_172 (dk_at dksX6_rule_0 23 rfl rfl)
abbrev cX6_care : ByteArray := prog_19_method_38_code
def yX6_care : MethodName := ⟨RX6, "care", "(I)I"⟩
def dkwX6_care_0 : List UInt8 := [27, 133, 9, 10, 184, 0, 83, 153, 0, 12, 42, 8, 27, 182, 0, 147, 167, 0, 5, 18, 120, 172]
abbrev dktX6_care_0 : List UInt8 := dkwX6_care_0 ++ []
theorem dksX6_care_0 : cX6_care.data.toList.drop 0 = dktX6_care_0 := by decide +kernel
theorem dX6_care_0 : decode cX6_care 0 = .ok (.iload_n 1, 1) := dk_27 (dk_at dksX6_care_0 0 rfl rfl)
theorem dX6_care_1 : decode cX6_care 1 = .ok (.i2l, 1) := dk_133 (dk_at dksX6_care_0 1 rfl rfl)
theorem dX6_care_2 : decode cX6_care 2 = .ok (.lconst 0, 1) := dk_9 (dk_at dksX6_care_0 2 rfl rfl)
theorem dX6_care_3 : decode cX6_care 3 = .ok (.lconst 1, 1) := dk_10 (dk_at dksX6_care_0 3 rfl rfl)
theorem dX6_care_4 : decode cX6_care 4 = .ok (.invokestatic 83, 3) := dk_184 0 83 (dk_at dksX6_care_0 4 rfl rfl)
theorem dX6_care_7 : decode cX6_care 7 = .ok (.ifCond .eq 12, 3) := dk_153 0 12 (dk_at dksX6_care_0 7 rfl rfl)
theorem dX6_care_10 : decode cX6_care 10 = .ok (.aload_n 0, 1) := dk_42 (dk_at dksX6_care_0 10 rfl rfl)
theorem dX6_care_11 : decode cX6_care 11 = .ok (.iconst 5, 1) := dk_8 (dk_at dksX6_care_0 11 rfl rfl)
theorem dX6_care_12 : decode cX6_care 12 = .ok (.iload_n 1, 1) := dk_27 (dk_at dksX6_care_0 12 rfl rfl)
theorem dX6_care_13 : decode cX6_care 13 = .ok (.invokevirtual 147, 3) := dk_182 0 147 (dk_at dksX6_care_0 13 rfl rfl)
theorem dX6_care_16 : decode cX6_care 16 = .ok (.goto 5, 3) := dk_167 0 5 (dk_at dksX6_care_0 16 rfl rfl)
theorem dX6_care_19 : decode cX6_care 19 = .ok (.ldc 120, 2) := dk_18 120 (dk_at dksX6_care_0 19 rfl rfl)
theorem dX6_care_21 : decode cX6_care 21 = .ok (.ireturn, 1) := dk_172 (dk_at dksX6_care_0 21 rfl rfl)
abbrev cX6_want : ByteArray := prog_19_method_39_code
def yX6_want : MethodName := ⟨RX6, "want", "(I)I"⟩
def dkwX6_want_1 : List UInt8 := [167, 0, 4, 3, 172]
abbrev dktX6_want_1 : List UInt8 := dkwX6_want_1 ++ []
def dkwX6_want_0 : List UInt8 := [42, 27, 182, 0, 116, 154, 0, 6, 18, 120, 172, 42, 182, 0, 182, 42, 27, 182, 0, 187, 153, 0, 7, 4]
abbrev dktX6_want_0 : List UInt8 := dkwX6_want_0 ++ dktX6_want_1
theorem dksX6_want_0 : cX6_want.data.toList.drop 0 = dktX6_want_0 := by decide +kernel
theorem dksX6_want_1 : cX6_want.data.toList.drop 24 = dktX6_want_1 := dk_seg dksX6_want_0 24 rfl rfl
theorem dX6_want_0 : decode cX6_want 0 = .ok (.aload_n 0, 1) := dk_42 (dk_at dksX6_want_0 0 rfl rfl)
theorem dX6_want_1 : decode cX6_want 1 = .ok (.iload_n 1, 1) := dk_27 (dk_at dksX6_want_0 1 rfl rfl)
theorem dX6_want_2 : decode cX6_want 2 = .ok (.invokevirtual 116, 3) := dk_182 0 116 (dk_at dksX6_want_0 2 rfl rfl)
theorem dX6_want_5 : decode cX6_want 5 = .ok (.ifCond .ne 6, 3) := dk_154 0 6 (dk_at dksX6_want_0 5 rfl rfl)
theorem dX6_want_8 : decode cX6_want 8 = .ok (.ldc 120, 2) := dk_18 120 (dk_at dksX6_want_0 8 rfl rfl)
theorem dX6_want_10 : decode cX6_want 10 = .ok (.ireturn, 1) := dk_172 (dk_at dksX6_want_0 10 rfl rfl)
theorem dX6_want_11 : decode cX6_want 11 = .ok (.aload_n 0, 1) := dk_42 (dk_at dksX6_want_0 11 rfl rfl)
theorem dX6_want_12 : decode cX6_want 12 = .ok (.invokevirtual 182, 3) := dk_182 0 182 (dk_at dksX6_want_0 12 rfl rfl)
theorem dX6_want_15 : decode cX6_want 15 = .ok (.aload_n 0, 1) := dk_42 (dk_at dksX6_want_0 15 rfl rfl)
theorem dX6_want_16 : decode cX6_want 16 = .ok (.iload_n 1, 1) := dk_27 (dk_at dksX6_want_0 16 rfl rfl)
theorem dX6_want_17 : decode cX6_want 17 = .ok (.invokevirtual 187, 3) := dk_182 0 187 (dk_at dksX6_want_0 17 rfl rfl)
theorem dX6_want_20 : decode cX6_want 20 = .ok (.ifCond .eq 7, 3) := dk_153 0 7 (dk_at dksX6_want_0 20 rfl rfl)
theorem dX6_want_23 : decode cX6_want 23 = .ok (.iconst 1, 1) := dk_4 (dk_at dksX6_want_0 23 rfl rfl)
theorem dX6_want_24 : decode cX6_want 24 = .ok (.goto 4, 3) := dk_167 0 4 (dk_at dksX6_want_1 0 rfl rfl)
theorem dX6_want_27 : decode cX6_want 27 = .ok (.iconst 0, 1) := dk_3 (dk_at dksX6_want_1 3 rfl rfl)
theorem dX6_want_28 : decode cX6_want 28 = .ok (.ireturn, 1) := dk_172 (dk_at dksX6_want_1 4 rfl rfl)
abbrev cX6_asks : ByteArray := prog_19_method_35_code
def yX6_asks : MethodName := ⟨RX6, "asks", "(I)Z"⟩
def dkwX6_asks_8 : List UInt8 := [16, 6, 46, 167, 0, 12, 42, 180, 0, 7, 28, 16, 6, 96, 46, 79, 3, 172]
abbrev dktX6_asks_8 : List UInt8 := dkwX6_asks_8 ++ []
def dkwX6_asks_7 : List UInt8 := [5, 92, 46, 4, 96, 79, 4, 62, 42, 180, 0, 7, 28, 16, 6, 96, 29, 153, 0, 13, 42, 180, 0, 7]
abbrev dktX6_asks_7 : List UInt8 := dkwX6_asks_7 ++ dktX6_asks_8
def dkwX6_asks_6 : List UInt8 := [46, 182, 0, 177, 87, 42, 180, 0, 7, 16, 66, 42, 180, 0, 7, 5, 46, 96, 27, 79, 42, 180, 0, 7]
abbrev dktX6_asks_6 : List UInt8 := dkwX6_asks_6 ++ dktX6_asks_7
def dkwX6_asks_5 : List UInt8 := [154, 0, 56, 42, 180, 0, 43, 27, 46, 42, 180, 0, 7, 6, 46, 163, 0, 41, 42, 42, 180, 0, 43, 27]
abbrev dktX6_asks_5 : List UInt8 := dkwX6_asks_5 ++ dktX6_asks_6
def dkwX6_asks_4 : List UInt8 := [180, 0, 46, 27, 46, 96, 79, 42, 27, 182, 0, 129, 155, 0, 7, 4, 167, 0, 4, 3, 62, 29]
abbrev dktX6_asks_4 : List UInt8 := dkwX6_asks_4 ++ dktX6_asks_5
def dkwX6_asks_3 : List UInt8 := [29, 182, 0, 92, 7, 96, 46, 62, 167, 255, 219, 4, 172, 42, 180, 0, 7, 16, 7, 92, 46, 42]
abbrev dktX6_asks_3 : List UInt8 := dkwX6_asks_3 ++ dktX6_asks_4
def dkwX6_asks_2 : List UInt8 := [180, 0, 7, 42, 29, 182, 0, 92, 16, 6, 96, 42, 180, 0, 7, 16, 6, 46, 79, 42, 180, 0, 7, 42]
abbrev dktX6_asks_2 : List UInt8 := dkwX6_asks_2 ++ dktX6_asks_3
def dkwX6_asks_1 : List UInt8 := [92, 46, 4, 96, 79, 42, 42, 182, 0, 132, 27, 182, 0, 136, 153, 0, 47, 27, 62, 29, 155, 0, 39, 42]
abbrev dktX6_asks_1 : List UInt8 := dkwX6_asks_1 ++ dktX6_asks_2
def dkwX6_asks_0 : List UInt8 := [42, 27, 182, 0, 92, 61, 42, 180, 0, 7, 16, 6, 92, 46, 4, 96, 79, 42, 180, 0, 7, 28, 8, 96]
abbrev dktX6_asks_0 : List UInt8 := dkwX6_asks_0 ++ dktX6_asks_1
theorem dksX6_asks_0 : cX6_asks.data.toList.drop 0 = dktX6_asks_0 := by decide +kernel
theorem dksX6_asks_1 : cX6_asks.data.toList.drop 24 = dktX6_asks_1 := dk_seg dksX6_asks_0 24 rfl rfl
theorem dksX6_asks_2 : cX6_asks.data.toList.drop 48 = dktX6_asks_2 := dk_seg dksX6_asks_1 24 rfl rfl
theorem dksX6_asks_3 : cX6_asks.data.toList.drop 72 = dktX6_asks_3 := dk_seg dksX6_asks_2 24 rfl rfl
theorem dksX6_asks_4 : cX6_asks.data.toList.drop 94 = dktX6_asks_4 := dk_seg dksX6_asks_3 22 rfl rfl
theorem dksX6_asks_5 : cX6_asks.data.toList.drop 116 = dktX6_asks_5 := dk_seg dksX6_asks_4 22 rfl rfl
theorem dksX6_asks_6 : cX6_asks.data.toList.drop 140 = dktX6_asks_6 := dk_seg dksX6_asks_5 24 rfl rfl
theorem dksX6_asks_7 : cX6_asks.data.toList.drop 164 = dktX6_asks_7 := dk_seg dksX6_asks_6 24 rfl rfl
theorem dksX6_asks_8 : cX6_asks.data.toList.drop 188 = dktX6_asks_8 := dk_seg dksX6_asks_7 24 rfl rfl
theorem dX6_asks_0 : decode cX6_asks 0 = .ok (.aload_n 0, 1) := dk_42 (dk_at dksX6_asks_0 0 rfl rfl)
theorem dX6_asks_1 : decode cX6_asks 1 = .ok (.iload_n 1, 1) := dk_27 (dk_at dksX6_asks_0 1 rfl rfl)
theorem dX6_asks_2 : decode cX6_asks 2 = .ok (.invokevirtual 92, 3) := dk_182 0 92 (dk_at dksX6_asks_0 2 rfl rfl)
theorem dX6_asks_5 : decode cX6_asks 5 = .ok (.istore_n 2, 1) := dk_61 (dk_at dksX6_asks_0 5 rfl rfl)
theorem dX6_asks_6 : decode cX6_asks 6 = .ok (.aload_n 0, 1) := dk_42 (dk_at dksX6_asks_0 6 rfl rfl)
theorem dX6_asks_7 : decode cX6_asks 7 = .ok (.getfield 7, 3) := dk_180 0 7 (dk_at dksX6_asks_0 7 rfl rfl)
theorem dX6_asks_10 : decode cX6_asks 10 = .ok (.bipush 6, 2) := dk_16 6 (dk_at dksX6_asks_0 10 rfl rfl)
theorem dX6_asks_12 : decode cX6_asks 12 = .ok (.dup2, 1) := dk_92 (dk_at dksX6_asks_0 12 rfl rfl)
theorem dX6_asks_13 : decode cX6_asks 13 = .ok (.iaload, 1) := dk_46 (dk_at dksX6_asks_0 13 rfl rfl)
theorem dX6_asks_14 : decode cX6_asks 14 = .ok (.iconst 1, 1) := dk_4 (dk_at dksX6_asks_0 14 rfl rfl)
theorem dX6_asks_15 : decode cX6_asks 15 = .ok (.iadd, 1) := dk_96 (dk_at dksX6_asks_0 15 rfl rfl)
theorem dX6_asks_16 : decode cX6_asks 16 = .ok (.iastore, 1) := dk_79 (dk_at dksX6_asks_0 16 rfl rfl)
theorem dX6_asks_17 : decode cX6_asks 17 = .ok (.aload_n 0, 1) := dk_42 (dk_at dksX6_asks_0 17 rfl rfl)
theorem dX6_asks_18 : decode cX6_asks 18 = .ok (.getfield 7, 3) := dk_180 0 7 (dk_at dksX6_asks_0 18 rfl rfl)
theorem dX6_asks_21 : decode cX6_asks 21 = .ok (.iload_n 2, 1) := dk_28 (dk_at dksX6_asks_0 21 rfl rfl)
theorem dX6_asks_22 : decode cX6_asks 22 = .ok (.iconst 5, 1) := dk_8 (dk_at dksX6_asks_0 22 rfl rfl)
theorem dX6_asks_23 : decode cX6_asks 23 = .ok (.iadd, 1) := dk_96 (dk_at dksX6_asks_0 23 rfl rfl)
theorem dX6_asks_24 : decode cX6_asks 24 = .ok (.dup2, 1) := dk_92 (dk_at dksX6_asks_1 0 rfl rfl)
theorem dX6_asks_25 : decode cX6_asks 25 = .ok (.iaload, 1) := dk_46 (dk_at dksX6_asks_1 1 rfl rfl)
theorem dX6_asks_26 : decode cX6_asks 26 = .ok (.iconst 1, 1) := dk_4 (dk_at dksX6_asks_1 2 rfl rfl)
theorem dX6_asks_27 : decode cX6_asks 27 = .ok (.iadd, 1) := dk_96 (dk_at dksX6_asks_1 3 rfl rfl)
theorem dX6_asks_28 : decode cX6_asks 28 = .ok (.iastore, 1) := dk_79 (dk_at dksX6_asks_1 4 rfl rfl)
theorem dX6_asks_29 : decode cX6_asks 29 = .ok (.aload_n 0, 1) := dk_42 (dk_at dksX6_asks_1 5 rfl rfl)
theorem dX6_asks_30 : decode cX6_asks 30 = .ok (.aload_n 0, 1) := dk_42 (dk_at dksX6_asks_1 6 rfl rfl)
theorem dX6_asks_31 : decode cX6_asks 31 = .ok (.invokevirtual 132, 3) := dk_182 0 132 (dk_at dksX6_asks_1 7 rfl rfl)
theorem dX6_asks_34 : decode cX6_asks 34 = .ok (.iload_n 1, 1) := dk_27 (dk_at dksX6_asks_1 10 rfl rfl)
theorem dX6_asks_35 : decode cX6_asks 35 = .ok (.invokevirtual 136, 3) := dk_182 0 136 (dk_at dksX6_asks_1 11 rfl rfl)
theorem dX6_asks_38 : decode cX6_asks 38 = .ok (.ifCond .eq 47, 3) := dk_153 0 47 (dk_at dksX6_asks_1 14 rfl rfl)
theorem dX6_asks_41 : decode cX6_asks 41 = .ok (.iload_n 1, 1) := dk_27 (dk_at dksX6_asks_1 17 rfl rfl)
theorem dX6_asks_42 : decode cX6_asks 42 = .ok (.istore_n 3, 1) := dk_62 (dk_at dksX6_asks_1 18 rfl rfl)
theorem dX6_asks_43 : decode cX6_asks 43 = .ok (.iload_n 3, 1) := dk_29 (dk_at dksX6_asks_1 19 rfl rfl)
theorem dX6_asks_44 : decode cX6_asks 44 = .ok (.ifCond .lt 39, 3) := dk_155 0 39 (dk_at dksX6_asks_1 20 rfl rfl)
theorem dX6_asks_47 : decode cX6_asks 47 = .ok (.aload_n 0, 1) := dk_42 (dk_at dksX6_asks_1 23 rfl rfl)
theorem dX6_asks_48 : decode cX6_asks 48 = .ok (.getfield 7, 3) := dk_180 0 7 (dk_at dksX6_asks_2 0 rfl rfl)
theorem dX6_asks_51 : decode cX6_asks 51 = .ok (.aload_n 0, 1) := dk_42 (dk_at dksX6_asks_2 3 rfl rfl)
theorem dX6_asks_52 : decode cX6_asks 52 = .ok (.iload_n 3, 1) := dk_29 (dk_at dksX6_asks_2 4 rfl rfl)
theorem dX6_asks_53 : decode cX6_asks 53 = .ok (.invokevirtual 92, 3) := dk_182 0 92 (dk_at dksX6_asks_2 5 rfl rfl)
theorem dX6_asks_56 : decode cX6_asks 56 = .ok (.bipush 6, 2) := dk_16 6 (dk_at dksX6_asks_2 8 rfl rfl)
theorem dX6_asks_58 : decode cX6_asks 58 = .ok (.iadd, 1) := dk_96 (dk_at dksX6_asks_2 10 rfl rfl)
theorem dX6_asks_59 : decode cX6_asks 59 = .ok (.aload_n 0, 1) := dk_42 (dk_at dksX6_asks_2 11 rfl rfl)
theorem dX6_asks_60 : decode cX6_asks 60 = .ok (.getfield 7, 3) := dk_180 0 7 (dk_at dksX6_asks_2 12 rfl rfl)
theorem dX6_asks_63 : decode cX6_asks 63 = .ok (.bipush 6, 2) := dk_16 6 (dk_at dksX6_asks_2 15 rfl rfl)
theorem dX6_asks_65 : decode cX6_asks 65 = .ok (.iaload, 1) := dk_46 (dk_at dksX6_asks_2 17 rfl rfl)
theorem dX6_asks_66 : decode cX6_asks 66 = .ok (.iastore, 1) := dk_79 (dk_at dksX6_asks_2 18 rfl rfl)
theorem dX6_asks_67 : decode cX6_asks 67 = .ok (.aload_n 0, 1) := dk_42 (dk_at dksX6_asks_2 19 rfl rfl)
theorem dX6_asks_68 : decode cX6_asks 68 = .ok (.getfield 7, 3) := dk_180 0 7 (dk_at dksX6_asks_2 20 rfl rfl)
theorem dX6_asks_71 : decode cX6_asks 71 = .ok (.aload_n 0, 1) := dk_42 (dk_at dksX6_asks_2 23 rfl rfl)
theorem dX6_asks_72 : decode cX6_asks 72 = .ok (.iload_n 3, 1) := dk_29 (dk_at dksX6_asks_3 0 rfl rfl)
theorem dX6_asks_73 : decode cX6_asks 73 = .ok (.invokevirtual 92, 3) := dk_182 0 92 (dk_at dksX6_asks_3 1 rfl rfl)
theorem dX6_asks_76 : decode cX6_asks 76 = .ok (.iconst 4, 1) := dk_7 (dk_at dksX6_asks_3 4 rfl rfl)
theorem dX6_asks_77 : decode cX6_asks 77 = .ok (.iadd, 1) := dk_96 (dk_at dksX6_asks_3 5 rfl rfl)
theorem dX6_asks_78 : decode cX6_asks 78 = .ok (.iaload, 1) := dk_46 (dk_at dksX6_asks_3 6 rfl rfl)
theorem dX6_asks_79 : decode cX6_asks 79 = .ok (.istore_n 3, 1) := dk_62 (dk_at dksX6_asks_3 7 rfl rfl)
theorem dX6_asks_80 : decode cX6_asks 80 = .ok (.goto (-37), 3) := dk_167 255 219 (dk_at dksX6_asks_3 8 rfl rfl)
theorem dX6_asks_83 : decode cX6_asks 83 = .ok (.iconst 1, 1) := dk_4 (dk_at dksX6_asks_3 11 rfl rfl)
theorem dX6_asks_84 : decode cX6_asks 84 = .ok (.ireturn, 1) := dk_172 (dk_at dksX6_asks_3 12 rfl rfl)
theorem dX6_asks_85 : decode cX6_asks 85 = .ok (.aload_n 0, 1) := dk_42 (dk_at dksX6_asks_3 13 rfl rfl)
theorem dX6_asks_86 : decode cX6_asks 86 = .ok (.getfield 7, 3) := dk_180 0 7 (dk_at dksX6_asks_3 14 rfl rfl)
theorem dX6_asks_89 : decode cX6_asks 89 = .ok (.bipush 7, 2) := dk_16 7 (dk_at dksX6_asks_3 17 rfl rfl)
theorem dX6_asks_91 : decode cX6_asks 91 = .ok (.dup2, 1) := dk_92 (dk_at dksX6_asks_3 19 rfl rfl)
theorem dX6_asks_92 : decode cX6_asks 92 = .ok (.iaload, 1) := dk_46 (dk_at dksX6_asks_3 20 rfl rfl)
theorem dX6_asks_93 : decode cX6_asks 93 = .ok (.aload_n 0, 1) := dk_42 (dk_at dksX6_asks_3 21 rfl rfl)
theorem dX6_asks_94 : decode cX6_asks 94 = .ok (.getfield 46, 3) := dk_180 0 46 (dk_at dksX6_asks_4 0 rfl rfl)
theorem dX6_asks_97 : decode cX6_asks 97 = .ok (.iload_n 1, 1) := dk_27 (dk_at dksX6_asks_4 3 rfl rfl)
theorem dX6_asks_98 : decode cX6_asks 98 = .ok (.iaload, 1) := dk_46 (dk_at dksX6_asks_4 4 rfl rfl)
theorem dX6_asks_99 : decode cX6_asks 99 = .ok (.iadd, 1) := dk_96 (dk_at dksX6_asks_4 5 rfl rfl)
theorem dX6_asks_100 : decode cX6_asks 100 = .ok (.iastore, 1) := dk_79 (dk_at dksX6_asks_4 6 rfl rfl)
theorem dX6_asks_101 : decode cX6_asks 101 = .ok (.aload_n 0, 1) := dk_42 (dk_at dksX6_asks_4 7 rfl rfl)
theorem dX6_asks_102 : decode cX6_asks 102 = .ok (.iload_n 1, 1) := dk_27 (dk_at dksX6_asks_4 8 rfl rfl)
theorem dX6_asks_103 : decode cX6_asks 103 = .ok (.invokevirtual 129, 3) := dk_182 0 129 (dk_at dksX6_asks_4 9 rfl rfl)
theorem dX6_asks_106 : decode cX6_asks 106 = .ok (.ifCond .lt 7, 3) := dk_155 0 7 (dk_at dksX6_asks_4 12 rfl rfl)
theorem dX6_asks_109 : decode cX6_asks 109 = .ok (.iconst 1, 1) := dk_4 (dk_at dksX6_asks_4 15 rfl rfl)
theorem dX6_asks_110 : decode cX6_asks 110 = .ok (.goto 4, 3) := dk_167 0 4 (dk_at dksX6_asks_4 16 rfl rfl)
theorem dX6_asks_113 : decode cX6_asks 113 = .ok (.iconst 0, 1) := dk_3 (dk_at dksX6_asks_4 19 rfl rfl)
theorem dX6_asks_114 : decode cX6_asks 114 = .ok (.istore_n 3, 1) := dk_62 (dk_at dksX6_asks_4 20 rfl rfl)
theorem dX6_asks_115 : decode cX6_asks 115 = .ok (.iload_n 3, 1) := dk_29 (dk_at dksX6_asks_4 21 rfl rfl)
theorem dX6_asks_116 : decode cX6_asks 116 = .ok (.ifCond .ne 56, 3) := dk_154 0 56 (dk_at dksX6_asks_5 0 rfl rfl)
theorem dX6_asks_119 : decode cX6_asks 119 = .ok (.aload_n 0, 1) := dk_42 (dk_at dksX6_asks_5 3 rfl rfl)
theorem dX6_asks_120 : decode cX6_asks 120 = .ok (.getfield 43, 3) := dk_180 0 43 (dk_at dksX6_asks_5 4 rfl rfl)
theorem dX6_asks_123 : decode cX6_asks 123 = .ok (.iload_n 1, 1) := dk_27 (dk_at dksX6_asks_5 7 rfl rfl)
theorem dX6_asks_124 : decode cX6_asks 124 = .ok (.iaload, 1) := dk_46 (dk_at dksX6_asks_5 8 rfl rfl)
theorem dX6_asks_125 : decode cX6_asks 125 = .ok (.aload_n 0, 1) := dk_42 (dk_at dksX6_asks_5 9 rfl rfl)
theorem dX6_asks_126 : decode cX6_asks 126 = .ok (.getfield 7, 3) := dk_180 0 7 (dk_at dksX6_asks_5 10 rfl rfl)
theorem dX6_asks_129 : decode cX6_asks 129 = .ok (.iconst 3, 1) := dk_6 (dk_at dksX6_asks_5 13 rfl rfl)
theorem dX6_asks_130 : decode cX6_asks 130 = .ok (.iaload, 1) := dk_46 (dk_at dksX6_asks_5 14 rfl rfl)
theorem dX6_asks_131 : decode cX6_asks 131 = .ok (.if_icmp .gt 41, 3) := dk_163 0 41 (dk_at dksX6_asks_5 15 rfl rfl)
theorem dX6_asks_134 : decode cX6_asks 134 = .ok (.aload_n 0, 1) := dk_42 (dk_at dksX6_asks_5 18 rfl rfl)
theorem dX6_asks_135 : decode cX6_asks 135 = .ok (.aload_n 0, 1) := dk_42 (dk_at dksX6_asks_5 19 rfl rfl)
theorem dX6_asks_136 : decode cX6_asks 136 = .ok (.getfield 43, 3) := dk_180 0 43 (dk_at dksX6_asks_5 20 rfl rfl)
theorem dX6_asks_139 : decode cX6_asks 139 = .ok (.iload_n 1, 1) := dk_27 (dk_at dksX6_asks_5 23 rfl rfl)
theorem dX6_asks_140 : decode cX6_asks 140 = .ok (.iaload, 1) := dk_46 (dk_at dksX6_asks_6 0 rfl rfl)
theorem dX6_asks_141 : decode cX6_asks 141 = .ok (.invokevirtual 177, 3) := dk_182 0 177 (dk_at dksX6_asks_6 1 rfl rfl)
theorem dX6_asks_144 : decode cX6_asks 144 = .ok (.pop, 1) := dk_87 (dk_at dksX6_asks_6 4 rfl rfl)
theorem dX6_asks_145 : decode cX6_asks 145 = .ok (.aload_n 0, 1) := dk_42 (dk_at dksX6_asks_6 5 rfl rfl)
theorem dX6_asks_146 : decode cX6_asks 146 = .ok (.getfield 7, 3) := dk_180 0 7 (dk_at dksX6_asks_6 6 rfl rfl)
theorem dX6_asks_149 : decode cX6_asks 149 = .ok (.bipush 66, 2) := dk_16 66 (dk_at dksX6_asks_6 9 rfl rfl)
theorem dX6_asks_151 : decode cX6_asks 151 = .ok (.aload_n 0, 1) := dk_42 (dk_at dksX6_asks_6 11 rfl rfl)
theorem dX6_asks_152 : decode cX6_asks 152 = .ok (.getfield 7, 3) := dk_180 0 7 (dk_at dksX6_asks_6 12 rfl rfl)
theorem dX6_asks_155 : decode cX6_asks 155 = .ok (.iconst 2, 1) := dk_5 (dk_at dksX6_asks_6 15 rfl rfl)
theorem dX6_asks_156 : decode cX6_asks 156 = .ok (.iaload, 1) := dk_46 (dk_at dksX6_asks_6 16 rfl rfl)
theorem dX6_asks_157 : decode cX6_asks 157 = .ok (.iadd, 1) := dk_96 (dk_at dksX6_asks_6 17 rfl rfl)
theorem dX6_asks_158 : decode cX6_asks 158 = .ok (.iload_n 1, 1) := dk_27 (dk_at dksX6_asks_6 18 rfl rfl)
theorem dX6_asks_159 : decode cX6_asks 159 = .ok (.iastore, 1) := dk_79 (dk_at dksX6_asks_6 19 rfl rfl)
theorem dX6_asks_160 : decode cX6_asks 160 = .ok (.aload_n 0, 1) := dk_42 (dk_at dksX6_asks_6 20 rfl rfl)
theorem dX6_asks_161 : decode cX6_asks 161 = .ok (.getfield 7, 3) := dk_180 0 7 (dk_at dksX6_asks_6 21 rfl rfl)
theorem dX6_asks_164 : decode cX6_asks 164 = .ok (.iconst 2, 1) := dk_5 (dk_at dksX6_asks_7 0 rfl rfl)
theorem dX6_asks_165 : decode cX6_asks 165 = .ok (.dup2, 1) := dk_92 (dk_at dksX6_asks_7 1 rfl rfl)
theorem dX6_asks_166 : decode cX6_asks 166 = .ok (.iaload, 1) := dk_46 (dk_at dksX6_asks_7 2 rfl rfl)
theorem dX6_asks_167 : decode cX6_asks 167 = .ok (.iconst 1, 1) := dk_4 (dk_at dksX6_asks_7 3 rfl rfl)
theorem dX6_asks_168 : decode cX6_asks 168 = .ok (.iadd, 1) := dk_96 (dk_at dksX6_asks_7 4 rfl rfl)
theorem dX6_asks_169 : decode cX6_asks 169 = .ok (.iastore, 1) := dk_79 (dk_at dksX6_asks_7 5 rfl rfl)
theorem dX6_asks_170 : decode cX6_asks 170 = .ok (.iconst 1, 1) := dk_4 (dk_at dksX6_asks_7 6 rfl rfl)
theorem dX6_asks_171 : decode cX6_asks 171 = .ok (.istore_n 3, 1) := dk_62 (dk_at dksX6_asks_7 7 rfl rfl)
theorem dX6_asks_172 : decode cX6_asks 172 = .ok (.aload_n 0, 1) := dk_42 (dk_at dksX6_asks_7 8 rfl rfl)
theorem dX6_asks_173 : decode cX6_asks 173 = .ok (.getfield 7, 3) := dk_180 0 7 (dk_at dksX6_asks_7 9 rfl rfl)
theorem dX6_asks_176 : decode cX6_asks 176 = .ok (.iload_n 2, 1) := dk_28 (dk_at dksX6_asks_7 12 rfl rfl)
theorem dX6_asks_177 : decode cX6_asks 177 = .ok (.bipush 6, 2) := dk_16 6 (dk_at dksX6_asks_7 13 rfl rfl)
theorem dX6_asks_179 : decode cX6_asks 179 = .ok (.iadd, 1) := dk_96 (dk_at dksX6_asks_7 15 rfl rfl)
theorem dX6_asks_180 : decode cX6_asks 180 = .ok (.iload_n 3, 1) := dk_29 (dk_at dksX6_asks_7 16 rfl rfl)
theorem dX6_asks_181 : decode cX6_asks 181 = .ok (.ifCond .eq 13, 3) := dk_153 0 13 (dk_at dksX6_asks_7 17 rfl rfl)
theorem dX6_asks_184 : decode cX6_asks 184 = .ok (.aload_n 0, 1) := dk_42 (dk_at dksX6_asks_7 20 rfl rfl)
theorem dX6_asks_185 : decode cX6_asks 185 = .ok (.getfield 7, 3) := dk_180 0 7 (dk_at dksX6_asks_7 21 rfl rfl)
theorem dX6_asks_188 : decode cX6_asks 188 = .ok (.bipush 6, 2) := dk_16 6 (dk_at dksX6_asks_8 0 rfl rfl)
theorem dX6_asks_190 : decode cX6_asks 190 = .ok (.iaload, 1) := dk_46 (dk_at dksX6_asks_8 2 rfl rfl)
theorem dX6_asks_191 : decode cX6_asks 191 = .ok (.goto 12, 3) := dk_167 0 12 (dk_at dksX6_asks_8 3 rfl rfl)
theorem dX6_asks_194 : decode cX6_asks 194 = .ok (.aload_n 0, 1) := dk_42 (dk_at dksX6_asks_8 6 rfl rfl)
theorem dX6_asks_195 : decode cX6_asks 195 = .ok (.getfield 7, 3) := dk_180 0 7 (dk_at dksX6_asks_8 7 rfl rfl)
theorem dX6_asks_198 : decode cX6_asks 198 = .ok (.iload_n 2, 1) := dk_28 (dk_at dksX6_asks_8 10 rfl rfl)
theorem dX6_asks_199 : decode cX6_asks 199 = .ok (.bipush 6, 2) := dk_16 6 (dk_at dksX6_asks_8 11 rfl rfl)
theorem dX6_asks_201 : decode cX6_asks 201 = .ok (.iadd, 1) := dk_96 (dk_at dksX6_asks_8 13 rfl rfl)
theorem dX6_asks_202 : decode cX6_asks 202 = .ok (.iaload, 1) := dk_46 (dk_at dksX6_asks_8 14 rfl rfl)
theorem dX6_asks_203 : decode cX6_asks 203 = .ok (.iastore, 1) := dk_79 (dk_at dksX6_asks_8 15 rfl rfl)
theorem dX6_asks_204 : decode cX6_asks 204 = .ok (.iconst 0, 1) := dk_3 (dk_at dksX6_asks_8 16 rfl rfl)
theorem dX6_asks_205 : decode cX6_asks 205 = .ok (.ireturn, 1) := dk_172 (dk_at dksX6_asks_8 17 rfl rfl)
abbrev cX6_next : ByteArray := prog_19_method_40_code
def yX6_next : MethodName := ⟨RX6, "next", "()I"⟩
def dkwX6_next_1 : List UInt8 := [79, 28, 156, 0, 8, 18, 82, 167, 0, 12, 42, 180, 0, 7, 16, 66, 28, 96, 46, 172]
abbrev dktX6_next_1 : List UInt8 := dkwX6_next_1 ++ []
def dkwX6_next_0 : List UInt8 := [42, 182, 0, 182, 42, 180, 0, 7, 16, 9, 46, 60, 42, 182, 0, 170, 61, 42, 180, 0, 7, 16, 9, 27]
abbrev dktX6_next_0 : List UInt8 := dkwX6_next_0 ++ dktX6_next_1
theorem dksX6_next_0 : cX6_next.data.toList.drop 0 = dktX6_next_0 := by decide +kernel
theorem dksX6_next_1 : cX6_next.data.toList.drop 24 = dktX6_next_1 := dk_seg dksX6_next_0 24 rfl rfl
theorem dX6_next_0 : decode cX6_next 0 = .ok (.aload_n 0, 1) := dk_42 (dk_at dksX6_next_0 0 rfl rfl)
theorem dX6_next_1 : decode cX6_next 1 = .ok (.invokevirtual 182, 3) := dk_182 0 182 (dk_at dksX6_next_0 1 rfl rfl)
theorem dX6_next_4 : decode cX6_next 4 = .ok (.aload_n 0, 1) := dk_42 (dk_at dksX6_next_0 4 rfl rfl)
theorem dX6_next_5 : decode cX6_next 5 = .ok (.getfield 7, 3) := dk_180 0 7 (dk_at dksX6_next_0 5 rfl rfl)
theorem dX6_next_8 : decode cX6_next 8 = .ok (.bipush 9, 2) := dk_16 9 (dk_at dksX6_next_0 8 rfl rfl)
theorem dX6_next_10 : decode cX6_next 10 = .ok (.iaload, 1) := dk_46 (dk_at dksX6_next_0 10 rfl rfl)
theorem dX6_next_11 : decode cX6_next 11 = .ok (.istore_n 1, 1) := dk_60 (dk_at dksX6_next_0 11 rfl rfl)
theorem dX6_next_12 : decode cX6_next 12 = .ok (.aload_n 0, 1) := dk_42 (dk_at dksX6_next_0 12 rfl rfl)
theorem dX6_next_13 : decode cX6_next 13 = .ok (.invokevirtual 170, 3) := dk_182 0 170 (dk_at dksX6_next_0 13 rfl rfl)
theorem dX6_next_16 : decode cX6_next 16 = .ok (.istore_n 2, 1) := dk_61 (dk_at dksX6_next_0 16 rfl rfl)
theorem dX6_next_17 : decode cX6_next 17 = .ok (.aload_n 0, 1) := dk_42 (dk_at dksX6_next_0 17 rfl rfl)
theorem dX6_next_18 : decode cX6_next 18 = .ok (.getfield 7, 3) := dk_180 0 7 (dk_at dksX6_next_0 18 rfl rfl)
theorem dX6_next_21 : decode cX6_next 21 = .ok (.bipush 9, 2) := dk_16 9 (dk_at dksX6_next_0 21 rfl rfl)
theorem dX6_next_23 : decode cX6_next 23 = .ok (.iload_n 1, 1) := dk_27 (dk_at dksX6_next_0 23 rfl rfl)
theorem dX6_next_24 : decode cX6_next 24 = .ok (.iastore, 1) := dk_79 (dk_at dksX6_next_1 0 rfl rfl)
theorem dX6_next_25 : decode cX6_next 25 = .ok (.iload_n 2, 1) := dk_28 (dk_at dksX6_next_1 1 rfl rfl)
theorem dX6_next_26 : decode cX6_next 26 = .ok (.ifCond .ge 8, 3) := dk_156 0 8 (dk_at dksX6_next_1 2 rfl rfl)
theorem dX6_next_29 : decode cX6_next 29 = .ok (.ldc 82, 2) := dk_18 82 (dk_at dksX6_next_1 5 rfl rfl)
theorem dX6_next_31 : decode cX6_next 31 = .ok (.goto 12, 3) := dk_167 0 12 (dk_at dksX6_next_1 7 rfl rfl)
theorem dX6_next_34 : decode cX6_next 34 = .ok (.aload_n 0, 1) := dk_42 (dk_at dksX6_next_1 10 rfl rfl)
theorem dX6_next_35 : decode cX6_next 35 = .ok (.getfield 7, 3) := dk_180 0 7 (dk_at dksX6_next_1 11 rfl rfl)
theorem dX6_next_38 : decode cX6_next 38 = .ok (.bipush 66, 2) := dk_16 66 (dk_at dksX6_next_1 14 rfl rfl)
theorem dX6_next_40 : decode cX6_next 40 = .ok (.iload_n 2, 1) := dk_28 (dk_at dksX6_next_1 16 rfl rfl)
theorem dX6_next_41 : decode cX6_next 41 = .ok (.iadd, 1) := dk_96 (dk_at dksX6_next_1 17 rfl rfl)
theorem dX6_next_42 : decode cX6_next 42 = .ok (.iaload, 1) := dk_46 (dk_at dksX6_next_1 18 rfl rfl)
theorem dX6_next_43 : decode cX6_next 43 = .ok (.ireturn, 1) := dk_172 (dk_at dksX6_next_1 19 rfl rfl)
abbrev cX6_out : ByteArray := prog_19_method_41_code
def yX6_out : MethodName := ⟨RX6, "out", "(I)I"⟩
def dkwX6_out_1 : List UInt8 := [182, 0, 173, 28, 156, 0, 7, 3, 167, 0, 4, 4, 172]
abbrev dktX6_out_1 : List UInt8 := dkwX6_out_1 ++ []
def dkwX6_out_0 : List UInt8 := [42, 27, 182, 0, 116, 154, 0, 6, 18, 120, 172, 42, 27, 182, 0, 129, 61, 28, 155, 0, 8, 42, 28]
abbrev dktX6_out_0 : List UInt8 := dkwX6_out_0 ++ dktX6_out_1
theorem dksX6_out_0 : cX6_out.data.toList.drop 0 = dktX6_out_0 := by decide +kernel
theorem dksX6_out_1 : cX6_out.data.toList.drop 23 = dktX6_out_1 := dk_seg dksX6_out_0 23 rfl rfl
theorem dX6_out_0 : decode cX6_out 0 = .ok (.aload_n 0, 1) := dk_42 (dk_at dksX6_out_0 0 rfl rfl)
theorem dX6_out_1 : decode cX6_out 1 = .ok (.iload_n 1, 1) := dk_27 (dk_at dksX6_out_0 1 rfl rfl)
theorem dX6_out_2 : decode cX6_out 2 = .ok (.invokevirtual 116, 3) := dk_182 0 116 (dk_at dksX6_out_0 2 rfl rfl)
theorem dX6_out_5 : decode cX6_out 5 = .ok (.ifCond .ne 6, 3) := dk_154 0 6 (dk_at dksX6_out_0 5 rfl rfl)
theorem dX6_out_8 : decode cX6_out 8 = .ok (.ldc 120, 2) := dk_18 120 (dk_at dksX6_out_0 8 rfl rfl)
theorem dX6_out_10 : decode cX6_out 10 = .ok (.ireturn, 1) := dk_172 (dk_at dksX6_out_0 10 rfl rfl)
theorem dX6_out_11 : decode cX6_out 11 = .ok (.aload_n 0, 1) := dk_42 (dk_at dksX6_out_0 11 rfl rfl)
theorem dX6_out_12 : decode cX6_out 12 = .ok (.iload_n 1, 1) := dk_27 (dk_at dksX6_out_0 12 rfl rfl)
theorem dX6_out_13 : decode cX6_out 13 = .ok (.invokevirtual 129, 3) := dk_182 0 129 (dk_at dksX6_out_0 13 rfl rfl)
theorem dX6_out_16 : decode cX6_out 16 = .ok (.istore_n 2, 1) := dk_61 (dk_at dksX6_out_0 16 rfl rfl)
theorem dX6_out_17 : decode cX6_out 17 = .ok (.iload_n 2, 1) := dk_28 (dk_at dksX6_out_0 17 rfl rfl)
theorem dX6_out_18 : decode cX6_out 18 = .ok (.ifCond .lt 8, 3) := dk_155 0 8 (dk_at dksX6_out_0 18 rfl rfl)
theorem dX6_out_21 : decode cX6_out 21 = .ok (.aload_n 0, 1) := dk_42 (dk_at dksX6_out_0 21 rfl rfl)
theorem dX6_out_22 : decode cX6_out 22 = .ok (.iload_n 2, 1) := dk_28 (dk_at dksX6_out_0 22 rfl rfl)
theorem dX6_out_23 : decode cX6_out 23 = .ok (.invokevirtual 173, 3) := dk_182 0 173 (dk_at dksX6_out_1 0 rfl rfl)
theorem dX6_out_26 : decode cX6_out 26 = .ok (.iload_n 2, 1) := dk_28 (dk_at dksX6_out_1 3 rfl rfl)
theorem dX6_out_27 : decode cX6_out 27 = .ok (.ifCond .ge 7, 3) := dk_156 0 7 (dk_at dksX6_out_1 4 rfl rfl)
theorem dX6_out_30 : decode cX6_out 30 = .ok (.iconst 0, 1) := dk_3 (dk_at dksX6_out_1 7 rfl rfl)
theorem dX6_out_31 : decode cX6_out 31 = .ok (.goto 4, 3) := dk_167 0 4 (dk_at dksX6_out_1 8 rfl rfl)
theorem dX6_out_34 : decode cX6_out 34 = .ok (.iconst 1, 1) := dk_4 (dk_at dksX6_out_1 11 rfl rfl)
theorem dX6_out_35 : decode cX6_out 35 = .ok (.ireturn, 1) := dk_172 (dk_at dksX6_out_1 12 rfl rfl)
abbrev cX6_at : ByteArray := prog_19_method_42_code
def yX6_at : MethodName := ⟨RX6, "at", "(I)I"⟩
def dkwX6_at_1 : List UInt8 := [16, 66, 27, 96, 46, 167, 0, 5, 18, 82, 172]
abbrev dktX6_at_1 : List UInt8 := dkwX6_at_1 ++ []
def dkwX6_at_0 : List UInt8 := [27, 156, 0, 8, 18, 120, 167, 0, 27, 27, 42, 180, 0, 7, 5, 46, 162, 0, 15, 42, 180, 0, 7]
abbrev dktX6_at_0 : List UInt8 := dkwX6_at_0 ++ dktX6_at_1
theorem dksX6_at_0 : cX6_at.data.toList.drop 0 = dktX6_at_0 := by decide +kernel
theorem dksX6_at_1 : cX6_at.data.toList.drop 23 = dktX6_at_1 := dk_seg dksX6_at_0 23 rfl rfl
theorem dX6_at_0 : decode cX6_at 0 = .ok (.iload_n 1, 1) := dk_27 (dk_at dksX6_at_0 0 rfl rfl)
theorem dX6_at_1 : decode cX6_at 1 = .ok (.ifCond .ge 8, 3) := dk_156 0 8 (dk_at dksX6_at_0 1 rfl rfl)
theorem dX6_at_4 : decode cX6_at 4 = .ok (.ldc 120, 2) := dk_18 120 (dk_at dksX6_at_0 4 rfl rfl)
theorem dX6_at_6 : decode cX6_at 6 = .ok (.goto 27, 3) := dk_167 0 27 (dk_at dksX6_at_0 6 rfl rfl)
theorem dX6_at_9 : decode cX6_at 9 = .ok (.iload_n 1, 1) := dk_27 (dk_at dksX6_at_0 9 rfl rfl)
theorem dX6_at_10 : decode cX6_at 10 = .ok (.aload_n 0, 1) := dk_42 (dk_at dksX6_at_0 10 rfl rfl)
theorem dX6_at_11 : decode cX6_at 11 = .ok (.getfield 7, 3) := dk_180 0 7 (dk_at dksX6_at_0 11 rfl rfl)
theorem dX6_at_14 : decode cX6_at 14 = .ok (.iconst 2, 1) := dk_5 (dk_at dksX6_at_0 14 rfl rfl)
theorem dX6_at_15 : decode cX6_at 15 = .ok (.iaload, 1) := dk_46 (dk_at dksX6_at_0 15 rfl rfl)
theorem dX6_at_16 : decode cX6_at 16 = .ok (.if_icmp .ge 15, 3) := dk_162 0 15 (dk_at dksX6_at_0 16 rfl rfl)
theorem dX6_at_19 : decode cX6_at 19 = .ok (.aload_n 0, 1) := dk_42 (dk_at dksX6_at_0 19 rfl rfl)
theorem dX6_at_20 : decode cX6_at 20 = .ok (.getfield 7, 3) := dk_180 0 7 (dk_at dksX6_at_0 20 rfl rfl)
theorem dX6_at_23 : decode cX6_at 23 = .ok (.bipush 66, 2) := dk_16 66 (dk_at dksX6_at_1 0 rfl rfl)
theorem dX6_at_25 : decode cX6_at 25 = .ok (.iload_n 1, 1) := dk_27 (dk_at dksX6_at_1 2 rfl rfl)
theorem dX6_at_26 : decode cX6_at 26 = .ok (.iadd, 1) := dk_96 (dk_at dksX6_at_1 3 rfl rfl)
theorem dX6_at_27 : decode cX6_at 27 = .ok (.iaload, 1) := dk_46 (dk_at dksX6_at_1 4 rfl rfl)
theorem dX6_at_28 : decode cX6_at 28 = .ok (.goto 5, 3) := dk_167 0 5 (dk_at dksX6_at_1 5 rfl rfl)
theorem dX6_at_31 : decode cX6_at 31 = .ok (.ldc 82, 2) := dk_18 82 (dk_at dksX6_at_1 8 rfl rfl)
theorem dX6_at_33 : decode cX6_at 33 = .ok (.ireturn, 1) := dk_172 (dk_at dksX6_at_1 10 rfl rfl)
abbrev cX6_fire : ByteArray := prog_19_method_43_code
def yX6_fire : MethodName := ⟨RX6, "fire", "(I)I"⟩
def dkwX6_fire_2 : List UInt8 := [132, 2, 1, 132, 3, 1, 167, 255, 221, 28, 172]
abbrev dktX6_fire_2 : List UInt8 := dkwX6_fire_2 ++ []
def dkwX6_fire_1 : List UInt8 := [42, 42, 182, 0, 155, 16, 8, 112, 182, 0, 129, 54, 4, 21, 4, 155, 0, 12, 42, 21, 4, 182, 0, 173]
abbrev dktX6_fire_1 : List UInt8 := dkwX6_fire_1 ++ dktX6_fire_2
def dkwX6_fire_0 : List UInt8 := [27, 133, 10, 20, 0, 190, 184, 0, 83, 154, 0, 6, 18, 120, 172, 3, 61, 3, 62, 29, 27, 162, 0, 36]
abbrev dktX6_fire_0 : List UInt8 := dkwX6_fire_0 ++ dktX6_fire_1
theorem dksX6_fire_0 : cX6_fire.data.toList.drop 0 = dktX6_fire_0 := by decide +kernel
theorem dksX6_fire_1 : cX6_fire.data.toList.drop 24 = dktX6_fire_1 := dk_seg dksX6_fire_0 24 rfl rfl
theorem dksX6_fire_2 : cX6_fire.data.toList.drop 48 = dktX6_fire_2 := dk_seg dksX6_fire_1 24 rfl rfl
theorem dX6_fire_0 : decode cX6_fire 0 = .ok (.iload_n 1, 1) := dk_27 (dk_at dksX6_fire_0 0 rfl rfl)
theorem dX6_fire_1 : decode cX6_fire 1 = .ok (.i2l, 1) := dk_133 (dk_at dksX6_fire_0 1 rfl rfl)
theorem dX6_fire_2 : decode cX6_fire 2 = .ok (.lconst 1, 1) := dk_10 (dk_at dksX6_fire_0 2 rfl rfl)
theorem dX6_fire_3 : decode cX6_fire 3 = .ok (.ldc2_w 190, 3) := dk_20 0 190 (dk_at dksX6_fire_0 3 rfl rfl)
theorem dX6_fire_6 : decode cX6_fire 6 = .ok (.invokestatic 83, 3) := dk_184 0 83 (dk_at dksX6_fire_0 6 rfl rfl)
theorem dX6_fire_9 : decode cX6_fire 9 = .ok (.ifCond .ne 6, 3) := dk_154 0 6 (dk_at dksX6_fire_0 9 rfl rfl)
theorem dX6_fire_12 : decode cX6_fire 12 = .ok (.ldc 120, 2) := dk_18 120 (dk_at dksX6_fire_0 12 rfl rfl)
theorem dX6_fire_14 : decode cX6_fire 14 = .ok (.ireturn, 1) := dk_172 (dk_at dksX6_fire_0 14 rfl rfl)
theorem dX6_fire_15 : decode cX6_fire 15 = .ok (.iconst 0, 1) := dk_3 (dk_at dksX6_fire_0 15 rfl rfl)
theorem dX6_fire_16 : decode cX6_fire 16 = .ok (.istore_n 2, 1) := dk_61 (dk_at dksX6_fire_0 16 rfl rfl)
theorem dX6_fire_17 : decode cX6_fire 17 = .ok (.iconst 0, 1) := dk_3 (dk_at dksX6_fire_0 17 rfl rfl)
theorem dX6_fire_18 : decode cX6_fire 18 = .ok (.istore_n 3, 1) := dk_62 (dk_at dksX6_fire_0 18 rfl rfl)
theorem dX6_fire_19 : decode cX6_fire 19 = .ok (.iload_n 3, 1) := dk_29 (dk_at dksX6_fire_0 19 rfl rfl)
theorem dX6_fire_20 : decode cX6_fire 20 = .ok (.iload_n 1, 1) := dk_27 (dk_at dksX6_fire_0 20 rfl rfl)
theorem dX6_fire_21 : decode cX6_fire 21 = .ok (.if_icmp .ge 36, 3) := dk_162 0 36 (dk_at dksX6_fire_0 21 rfl rfl)
theorem dX6_fire_24 : decode cX6_fire 24 = .ok (.aload_n 0, 1) := dk_42 (dk_at dksX6_fire_1 0 rfl rfl)
theorem dX6_fire_25 : decode cX6_fire 25 = .ok (.aload_n 0, 1) := dk_42 (dk_at dksX6_fire_1 1 rfl rfl)
theorem dX6_fire_26 : decode cX6_fire 26 = .ok (.invokevirtual 155, 3) := dk_182 0 155 (dk_at dksX6_fire_1 2 rfl rfl)
theorem dX6_fire_29 : decode cX6_fire 29 = .ok (.bipush 8, 2) := dk_16 8 (dk_at dksX6_fire_1 5 rfl rfl)
theorem dX6_fire_31 : decode cX6_fire 31 = .ok (.irem, 1) := dk_112 (dk_at dksX6_fire_1 7 rfl rfl)
theorem dX6_fire_32 : decode cX6_fire 32 = .ok (.invokevirtual 129, 3) := dk_182 0 129 (dk_at dksX6_fire_1 8 rfl rfl)
theorem dX6_fire_35 : decode cX6_fire 35 = .ok (.istore 4, 2) := dk_54 4 (dk_at dksX6_fire_1 11 rfl rfl)
theorem dX6_fire_37 : decode cX6_fire 37 = .ok (.iload 4, 2) := dk_21 4 (dk_at dksX6_fire_1 13 rfl rfl)
theorem dX6_fire_39 : decode cX6_fire 39 = .ok (.ifCond .lt 12, 3) := dk_155 0 12 (dk_at dksX6_fire_1 15 rfl rfl)
theorem dX6_fire_42 : decode cX6_fire 42 = .ok (.aload_n 0, 1) := dk_42 (dk_at dksX6_fire_1 18 rfl rfl)
theorem dX6_fire_43 : decode cX6_fire 43 = .ok (.iload 4, 2) := dk_21 4 (dk_at dksX6_fire_1 19 rfl rfl)
theorem dX6_fire_45 : decode cX6_fire 45 = .ok (.invokevirtual 173, 3) := dk_182 0 173 (dk_at dksX6_fire_1 21 rfl rfl)
theorem dX6_fire_48 : decode cX6_fire 48 = .ok (.iinc 2 1, 3) := dk_132 2 1 (dk_at dksX6_fire_2 0 rfl rfl)
theorem dX6_fire_51 : decode cX6_fire 51 = .ok (.iinc 3 1, 3) := dk_132 3 1 (dk_at dksX6_fire_2 3 rfl rfl)
theorem dX6_fire_54 : decode cX6_fire 54 = .ok (.goto (-35), 3) := dk_167 255 221 (dk_at dksX6_fire_2 6 rfl rfl)
theorem dX6_fire_57 : decode cX6_fire 57 = .ok (.iload_n 2, 1) := dk_28 (dk_at dksX6_fire_2 9 rfl rfl)
theorem dX6_fire_58 : decode cX6_fire 58 = .ok (.ireturn, 1) := dk_172 (dk_at dksX6_fire_2 10 rfl rfl)
abbrev cX6_seed : ByteArray := prog_19_method_44_code
def yX6_seed : MethodName := ⟨RX6, "seed", "(I)I"⟩
def dkwX6_seed_0 : List UInt8 := [42, 16, 9, 27, 182, 0, 147, 172]
abbrev dktX6_seed_0 : List UInt8 := dkwX6_seed_0 ++ []
theorem dksX6_seed_0 : cX6_seed.data.toList.drop 0 = dktX6_seed_0 := by decide +kernel
theorem dX6_seed_0 : decode cX6_seed 0 = .ok (.aload_n 0, 1) := dk_42 (dk_at dksX6_seed_0 0 rfl rfl)
theorem dX6_seed_1 : decode cX6_seed 1 = .ok (.bipush 9, 2) := dk_16 9 (dk_at dksX6_seed_0 1 rfl rfl)
theorem dX6_seed_3 : decode cX6_seed 3 = .ok (.iload_n 1, 1) := dk_27 (dk_at dksX6_seed_0 3 rfl rfl)
theorem dX6_seed_4 : decode cX6_seed 4 = .ok (.invokevirtual 147, 3) := dk_182 0 147 (dk_at dksX6_seed_0 4 rfl rfl)
theorem dX6_seed_7 : decode cX6_seed 7 = .ok (.ireturn, 1) := dk_172 (dk_at dksX6_seed_0 7 rfl rfl)
abbrev cX6_plan : ByteArray := prog_19_method_45_code
def yX6_plan : MethodName := ⟨RX6, "plan", "(I)I"⟩
def dkwX6_plan_2 : List UInt8 := [16, 8, 92, 46, 4, 96, 79, 42, 180, 0, 7, 16, 8, 46, 172]
abbrev dktX6_plan_2 : List UInt8 := dkwX6_plan_2 ++ []
def dkwX6_plan_1 : List UInt8 := [18, 121, 172, 42, 180, 0, 7, 16, 74, 42, 180, 0, 7, 16, 8, 46, 96, 27, 79, 42, 180, 0, 7]
abbrev dktX6_plan_1 : List UInt8 := dkwX6_plan_1 ++ dktX6_plan_2
def dkwX6_plan_0 : List UInt8 := [42, 27, 182, 0, 116, 154, 0, 6, 18, 120, 172, 42, 180, 0, 7, 16, 8, 46, 16, 24, 160, 0, 6]
abbrev dktX6_plan_0 : List UInt8 := dkwX6_plan_0 ++ dktX6_plan_1
theorem dksX6_plan_0 : cX6_plan.data.toList.drop 0 = dktX6_plan_0 := by decide +kernel
theorem dksX6_plan_1 : cX6_plan.data.toList.drop 23 = dktX6_plan_1 := dk_seg dksX6_plan_0 23 rfl rfl
theorem dksX6_plan_2 : cX6_plan.data.toList.drop 46 = dktX6_plan_2 := dk_seg dksX6_plan_1 23 rfl rfl
theorem dX6_plan_0 : decode cX6_plan 0 = .ok (.aload_n 0, 1) := dk_42 (dk_at dksX6_plan_0 0 rfl rfl)
theorem dX6_plan_1 : decode cX6_plan 1 = .ok (.iload_n 1, 1) := dk_27 (dk_at dksX6_plan_0 1 rfl rfl)
theorem dX6_plan_2 : decode cX6_plan 2 = .ok (.invokevirtual 116, 3) := dk_182 0 116 (dk_at dksX6_plan_0 2 rfl rfl)
theorem dX6_plan_5 : decode cX6_plan 5 = .ok (.ifCond .ne 6, 3) := dk_154 0 6 (dk_at dksX6_plan_0 5 rfl rfl)
theorem dX6_plan_8 : decode cX6_plan 8 = .ok (.ldc 120, 2) := dk_18 120 (dk_at dksX6_plan_0 8 rfl rfl)
theorem dX6_plan_10 : decode cX6_plan 10 = .ok (.ireturn, 1) := dk_172 (dk_at dksX6_plan_0 10 rfl rfl)
theorem dX6_plan_11 : decode cX6_plan 11 = .ok (.aload_n 0, 1) := dk_42 (dk_at dksX6_plan_0 11 rfl rfl)
theorem dX6_plan_12 : decode cX6_plan 12 = .ok (.getfield 7, 3) := dk_180 0 7 (dk_at dksX6_plan_0 12 rfl rfl)
theorem dX6_plan_15 : decode cX6_plan 15 = .ok (.bipush 8, 2) := dk_16 8 (dk_at dksX6_plan_0 15 rfl rfl)
theorem dX6_plan_17 : decode cX6_plan 17 = .ok (.iaload, 1) := dk_46 (dk_at dksX6_plan_0 17 rfl rfl)
theorem dX6_plan_18 : decode cX6_plan 18 = .ok (.bipush 24, 2) := dk_16 24 (dk_at dksX6_plan_0 18 rfl rfl)
theorem dX6_plan_20 : decode cX6_plan 20 = .ok (.if_icmp .ne 6, 3) := dk_160 0 6 (dk_at dksX6_plan_0 20 rfl rfl)
theorem dX6_plan_23 : decode cX6_plan 23 = .ok (.ldc 121, 2) := dk_18 121 (dk_at dksX6_plan_1 0 rfl rfl)
theorem dX6_plan_25 : decode cX6_plan 25 = .ok (.ireturn, 1) := dk_172 (dk_at dksX6_plan_1 2 rfl rfl)
theorem dX6_plan_26 : decode cX6_plan 26 = .ok (.aload_n 0, 1) := dk_42 (dk_at dksX6_plan_1 3 rfl rfl)
theorem dX6_plan_27 : decode cX6_plan 27 = .ok (.getfield 7, 3) := dk_180 0 7 (dk_at dksX6_plan_1 4 rfl rfl)
theorem dX6_plan_30 : decode cX6_plan 30 = .ok (.bipush 74, 2) := dk_16 74 (dk_at dksX6_plan_1 7 rfl rfl)
theorem dX6_plan_32 : decode cX6_plan 32 = .ok (.aload_n 0, 1) := dk_42 (dk_at dksX6_plan_1 9 rfl rfl)
theorem dX6_plan_33 : decode cX6_plan 33 = .ok (.getfield 7, 3) := dk_180 0 7 (dk_at dksX6_plan_1 10 rfl rfl)
theorem dX6_plan_36 : decode cX6_plan 36 = .ok (.bipush 8, 2) := dk_16 8 (dk_at dksX6_plan_1 13 rfl rfl)
theorem dX6_plan_38 : decode cX6_plan 38 = .ok (.iaload, 1) := dk_46 (dk_at dksX6_plan_1 15 rfl rfl)
theorem dX6_plan_39 : decode cX6_plan 39 = .ok (.iadd, 1) := dk_96 (dk_at dksX6_plan_1 16 rfl rfl)
theorem dX6_plan_40 : decode cX6_plan 40 = .ok (.iload_n 1, 1) := dk_27 (dk_at dksX6_plan_1 17 rfl rfl)
theorem dX6_plan_41 : decode cX6_plan 41 = .ok (.iastore, 1) := dk_79 (dk_at dksX6_plan_1 18 rfl rfl)
theorem dX6_plan_42 : decode cX6_plan 42 = .ok (.aload_n 0, 1) := dk_42 (dk_at dksX6_plan_1 19 rfl rfl)
theorem dX6_plan_43 : decode cX6_plan 43 = .ok (.getfield 7, 3) := dk_180 0 7 (dk_at dksX6_plan_1 20 rfl rfl)
theorem dX6_plan_46 : decode cX6_plan 46 = .ok (.bipush 8, 2) := dk_16 8 (dk_at dksX6_plan_2 0 rfl rfl)
theorem dX6_plan_48 : decode cX6_plan 48 = .ok (.dup2, 1) := dk_92 (dk_at dksX6_plan_2 2 rfl rfl)
theorem dX6_plan_49 : decode cX6_plan 49 = .ok (.iaload, 1) := dk_46 (dk_at dksX6_plan_2 3 rfl rfl)
theorem dX6_plan_50 : decode cX6_plan 50 = .ok (.iconst 1, 1) := dk_4 (dk_at dksX6_plan_2 4 rfl rfl)
theorem dX6_plan_51 : decode cX6_plan 51 = .ok (.iadd, 1) := dk_96 (dk_at dksX6_plan_2 5 rfl rfl)
theorem dX6_plan_52 : decode cX6_plan 52 = .ok (.iastore, 1) := dk_79 (dk_at dksX6_plan_2 6 rfl rfl)
theorem dX6_plan_53 : decode cX6_plan 53 = .ok (.aload_n 0, 1) := dk_42 (dk_at dksX6_plan_2 7 rfl rfl)
theorem dX6_plan_54 : decode cX6_plan 54 = .ok (.getfield 7, 3) := dk_180 0 7 (dk_at dksX6_plan_2 8 rfl rfl)
theorem dX6_plan_57 : decode cX6_plan 57 = .ok (.bipush 8, 2) := dk_16 8 (dk_at dksX6_plan_2 11 rfl rfl)
theorem dX6_plan_59 : decode cX6_plan 59 = .ok (.iaload, 1) := dk_46 (dk_at dksX6_plan_2 13 rfl rfl)
theorem dX6_plan_60 : decode cX6_plan 60 = .ok (.ireturn, 1) := dk_172 (dk_at dksX6_plan_2 14 rfl rfl)
abbrev cX6_clear : ByteArray := prog_19_method_46_code
def yX6_clear : MethodName := ⟨RX6, "clear", "()I"⟩
def dkwX6_clear_0 : List UInt8 := [42, 16, 8, 3, 182, 0, 147, 172]
abbrev dktX6_clear_0 : List UInt8 := dkwX6_clear_0 ++ []
theorem dksX6_clear_0 : cX6_clear.data.toList.drop 0 = dktX6_clear_0 := by decide +kernel
theorem dX6_clear_0 : decode cX6_clear 0 = .ok (.aload_n 0, 1) := dk_42 (dk_at dksX6_clear_0 0 rfl rfl)
theorem dX6_clear_1 : decode cX6_clear 1 = .ok (.bipush 8, 2) := dk_16 8 (dk_at dksX6_clear_0 1 rfl rfl)
theorem dX6_clear_3 : decode cX6_clear 3 = .ok (.iconst 0, 1) := dk_3 (dk_at dksX6_clear_0 3 rfl rfl)
theorem dX6_clear_4 : decode cX6_clear 4 = .ok (.invokevirtual 147, 3) := dk_182 0 147 (dk_at dksX6_clear_0 4 rfl rfl)
theorem dX6_clear_7 : decode cX6_clear 7 = .ok (.ireturn, 1) := dk_172 (dk_at dksX6_clear_0 7 rfl rfl)
abbrev cX6_run : ByteArray := prog_19_method_47_code
def yX6_run : MethodName := ⟨RX6, "run", "(I)I"⟩
def dkwX6_run_3 : List UInt8 := [42, 180, 0, 7, 16, 7, 46, 28, 100, 172]
abbrev dktX6_run_3 : List UInt8 := dkwX6_run_3 ++ []
def dkwX6_run_2 : List UInt8 := [162, 0, 24, 42, 42, 180, 0, 7, 16, 74, 29, 96, 46, 182, 0, 187, 54, 4, 132, 3, 1, 167, 255, 233]
abbrev dktX6_run_2 : List UInt8 := dkwX6_run_2 ++ dktX6_run_3
def dkwX6_run_1 : List UInt8 := [164, 0, 6, 18, 194, 172, 42, 182, 0, 182, 42, 180, 0, 7, 16, 7, 46, 61, 3, 62, 29, 27]
abbrev dktX6_run_1 : List UInt8 := dkwX6_run_1 ++ dktX6_run_2
def dkwX6_run_0 : List UInt8 := [27, 133, 10, 20, 0, 192, 184, 0, 83, 154, 0, 6, 18, 120, 172, 27, 42, 180, 0, 7, 16, 8, 46]
abbrev dktX6_run_0 : List UInt8 := dkwX6_run_0 ++ dktX6_run_1
theorem dksX6_run_0 : cX6_run.data.toList.drop 0 = dktX6_run_0 := by decide +kernel
theorem dksX6_run_1 : cX6_run.data.toList.drop 23 = dktX6_run_1 := dk_seg dksX6_run_0 23 rfl rfl
theorem dksX6_run_2 : cX6_run.data.toList.drop 45 = dktX6_run_2 := dk_seg dksX6_run_1 22 rfl rfl
theorem dksX6_run_3 : cX6_run.data.toList.drop 69 = dktX6_run_3 := dk_seg dksX6_run_2 24 rfl rfl
theorem dX6_run_0 : decode cX6_run 0 = .ok (.iload_n 1, 1) := dk_27 (dk_at dksX6_run_0 0 rfl rfl)
theorem dX6_run_1 : decode cX6_run 1 = .ok (.i2l, 1) := dk_133 (dk_at dksX6_run_0 1 rfl rfl)
theorem dX6_run_2 : decode cX6_run 2 = .ok (.lconst 1, 1) := dk_10 (dk_at dksX6_run_0 2 rfl rfl)
theorem dX6_run_3 : decode cX6_run 3 = .ok (.ldc2_w 192, 3) := dk_20 0 192 (dk_at dksX6_run_0 3 rfl rfl)
theorem dX6_run_6 : decode cX6_run 6 = .ok (.invokestatic 83, 3) := dk_184 0 83 (dk_at dksX6_run_0 6 rfl rfl)
theorem dX6_run_9 : decode cX6_run 9 = .ok (.ifCond .ne 6, 3) := dk_154 0 6 (dk_at dksX6_run_0 9 rfl rfl)
theorem dX6_run_12 : decode cX6_run 12 = .ok (.ldc 120, 2) := dk_18 120 (dk_at dksX6_run_0 12 rfl rfl)
theorem dX6_run_14 : decode cX6_run 14 = .ok (.ireturn, 1) := dk_172 (dk_at dksX6_run_0 14 rfl rfl)
theorem dX6_run_15 : decode cX6_run 15 = .ok (.iload_n 1, 1) := dk_27 (dk_at dksX6_run_0 15 rfl rfl)
theorem dX6_run_16 : decode cX6_run 16 = .ok (.aload_n 0, 1) := dk_42 (dk_at dksX6_run_0 16 rfl rfl)
theorem dX6_run_17 : decode cX6_run 17 = .ok (.getfield 7, 3) := dk_180 0 7 (dk_at dksX6_run_0 17 rfl rfl)
theorem dX6_run_20 : decode cX6_run 20 = .ok (.bipush 8, 2) := dk_16 8 (dk_at dksX6_run_0 20 rfl rfl)
theorem dX6_run_22 : decode cX6_run 22 = .ok (.iaload, 1) := dk_46 (dk_at dksX6_run_0 22 rfl rfl)
theorem dX6_run_23 : decode cX6_run 23 = .ok (.if_icmp .le 6, 3) := dk_164 0 6 (dk_at dksX6_run_1 0 rfl rfl)
theorem dX6_run_26 : decode cX6_run 26 = .ok (.ldc 194, 2) := dk_18 194 (dk_at dksX6_run_1 3 rfl rfl)
theorem dX6_run_28 : decode cX6_run 28 = .ok (.ireturn, 1) := dk_172 (dk_at dksX6_run_1 5 rfl rfl)
theorem dX6_run_29 : decode cX6_run 29 = .ok (.aload_n 0, 1) := dk_42 (dk_at dksX6_run_1 6 rfl rfl)
theorem dX6_run_30 : decode cX6_run 30 = .ok (.invokevirtual 182, 3) := dk_182 0 182 (dk_at dksX6_run_1 7 rfl rfl)
theorem dX6_run_33 : decode cX6_run 33 = .ok (.aload_n 0, 1) := dk_42 (dk_at dksX6_run_1 10 rfl rfl)
theorem dX6_run_34 : decode cX6_run 34 = .ok (.getfield 7, 3) := dk_180 0 7 (dk_at dksX6_run_1 11 rfl rfl)
theorem dX6_run_37 : decode cX6_run 37 = .ok (.bipush 7, 2) := dk_16 7 (dk_at dksX6_run_1 14 rfl rfl)
theorem dX6_run_39 : decode cX6_run 39 = .ok (.iaload, 1) := dk_46 (dk_at dksX6_run_1 16 rfl rfl)
theorem dX6_run_40 : decode cX6_run 40 = .ok (.istore_n 2, 1) := dk_61 (dk_at dksX6_run_1 17 rfl rfl)
theorem dX6_run_41 : decode cX6_run 41 = .ok (.iconst 0, 1) := dk_3 (dk_at dksX6_run_1 18 rfl rfl)
theorem dX6_run_42 : decode cX6_run 42 = .ok (.istore_n 3, 1) := dk_62 (dk_at dksX6_run_1 19 rfl rfl)
theorem dX6_run_43 : decode cX6_run 43 = .ok (.iload_n 3, 1) := dk_29 (dk_at dksX6_run_1 20 rfl rfl)
theorem dX6_run_44 : decode cX6_run 44 = .ok (.iload_n 1, 1) := dk_27 (dk_at dksX6_run_1 21 rfl rfl)
theorem dX6_run_45 : decode cX6_run 45 = .ok (.if_icmp .ge 24, 3) := dk_162 0 24 (dk_at dksX6_run_2 0 rfl rfl)
theorem dX6_run_48 : decode cX6_run 48 = .ok (.aload_n 0, 1) := dk_42 (dk_at dksX6_run_2 3 rfl rfl)
theorem dX6_run_49 : decode cX6_run 49 = .ok (.aload_n 0, 1) := dk_42 (dk_at dksX6_run_2 4 rfl rfl)
theorem dX6_run_50 : decode cX6_run 50 = .ok (.getfield 7, 3) := dk_180 0 7 (dk_at dksX6_run_2 5 rfl rfl)
theorem dX6_run_53 : decode cX6_run 53 = .ok (.bipush 74, 2) := dk_16 74 (dk_at dksX6_run_2 8 rfl rfl)
theorem dX6_run_55 : decode cX6_run 55 = .ok (.iload_n 3, 1) := dk_29 (dk_at dksX6_run_2 10 rfl rfl)
theorem dX6_run_56 : decode cX6_run 56 = .ok (.iadd, 1) := dk_96 (dk_at dksX6_run_2 11 rfl rfl)
theorem dX6_run_57 : decode cX6_run 57 = .ok (.iaload, 1) := dk_46 (dk_at dksX6_run_2 12 rfl rfl)
theorem dX6_run_58 : decode cX6_run 58 = .ok (.invokevirtual 187, 3) := dk_182 0 187 (dk_at dksX6_run_2 13 rfl rfl)
theorem dX6_run_61 : decode cX6_run 61 = .ok (.istore 4, 2) := dk_54 4 (dk_at dksX6_run_2 16 rfl rfl)
theorem dX6_run_63 : decode cX6_run 63 = .ok (.iinc 3 1, 3) := dk_132 3 1 (dk_at dksX6_run_2 18 rfl rfl)
theorem dX6_run_66 : decode cX6_run 66 = .ok (.goto (-23), 3) := dk_167 255 233 (dk_at dksX6_run_2 21 rfl rfl)
theorem dX6_run_69 : decode cX6_run 69 = .ok (.aload_n 0, 1) := dk_42 (dk_at dksX6_run_3 0 rfl rfl)
theorem dX6_run_70 : decode cX6_run 70 = .ok (.getfield 7, 3) := dk_180 0 7 (dk_at dksX6_run_3 1 rfl rfl)
theorem dX6_run_73 : decode cX6_run 73 = .ok (.bipush 7, 2) := dk_16 7 (dk_at dksX6_run_3 4 rfl rfl)
theorem dX6_run_75 : decode cX6_run 75 = .ok (.iaload, 1) := dk_46 (dk_at dksX6_run_3 6 rfl rfl)
theorem dX6_run_76 : decode cX6_run 76 = .ok (.iload_n 2, 1) := dk_28 (dk_at dksX6_run_3 7 rfl rfl)
theorem dX6_run_77 : decode cX6_run 77 = .ok (.isub, 1) := dk_100 (dk_at dksX6_run_3 8 rfl rfl)
theorem dX6_run_78 : decode cX6_run 78 = .ok (.ireturn, 1) := dk_172 (dk_at dksX6_run_3 9 rfl rfl)
abbrev cX6_would : ByteArray := prog_19_method_50_code
def yX6_would : MethodName := ⟨RX6, "would", "()I"⟩
def dkwX6_would_0 : List UInt8 := [42, 182, 0, 182, 42, 42, 182, 0, 195, 182, 0, 198, 172]
abbrev dktX6_would_0 : List UInt8 := dkwX6_would_0 ++ []
theorem dksX6_would_0 : cX6_would.data.toList.drop 0 = dktX6_would_0 := by decide +kernel
theorem dX6_would_0 : decode cX6_would 0 = .ok (.aload_n 0, 1) := dk_42 (dk_at dksX6_would_0 0 rfl rfl)
theorem dX6_would_1 : decode cX6_would 1 = .ok (.invokevirtual 182, 3) := dk_182 0 182 (dk_at dksX6_would_0 1 rfl rfl)
theorem dX6_would_4 : decode cX6_would 4 = .ok (.aload_n 0, 1) := dk_42 (dk_at dksX6_would_0 4 rfl rfl)
theorem dX6_would_5 : decode cX6_would 5 = .ok (.aload_n 0, 1) := dk_42 (dk_at dksX6_would_0 5 rfl rfl)
theorem dX6_would_6 : decode cX6_would 6 = .ok (.invokevirtual 195, 3) := dk_182 0 195 (dk_at dksX6_would_0 6 rfl rfl)
theorem dX6_would_9 : decode cX6_would 9 = .ok (.invokevirtual 198, 3) := dk_182 0 198 (dk_at dksX6_would_0 9 rfl rfl)
theorem dX6_would_12 : decode cX6_would 12 = .ok (.ireturn, 1) := dk_172 (dk_at dksX6_would_0 12 rfl rfl)
abbrev cX6_triesRow : ByteArray := prog_19_method_49_code
def yX6_triesRow : MethodName := ⟨RX6, "triesRow", "()I"⟩
def dkwX6_triesRow_1 : List UInt8 := [27, 96, 46, 79, 132, 1, 1, 167, 255, 227, 42, 180, 0, 7, 16, 8, 46, 172]
abbrev dktX6_triesRow_1 : List UInt8 := dkwX6_triesRow_1 ++ []
def dkwX6_triesRow_0 : List UInt8 := [3, 60, 27, 42, 180, 0, 7, 16, 8, 46, 162, 0, 24, 42, 180, 0, 55, 27, 42, 180, 0, 7, 16, 74]
abbrev dktX6_triesRow_0 : List UInt8 := dkwX6_triesRow_0 ++ dktX6_triesRow_1
theorem dksX6_triesRow_0 : cX6_triesRow.data.toList.drop 0 = dktX6_triesRow_0 := by decide +kernel
theorem dksX6_triesRow_1 : cX6_triesRow.data.toList.drop 24 = dktX6_triesRow_1 := dk_seg dksX6_triesRow_0 24 rfl rfl
theorem dX6_triesRow_0 : decode cX6_triesRow 0 = .ok (.iconst 0, 1) := dk_3 (dk_at dksX6_triesRow_0 0 rfl rfl)
theorem dX6_triesRow_1 : decode cX6_triesRow 1 = .ok (.istore_n 1, 1) := dk_60 (dk_at dksX6_triesRow_0 1 rfl rfl)
theorem dX6_triesRow_2 : decode cX6_triesRow 2 = .ok (.iload_n 1, 1) := dk_27 (dk_at dksX6_triesRow_0 2 rfl rfl)
theorem dX6_triesRow_3 : decode cX6_triesRow 3 = .ok (.aload_n 0, 1) := dk_42 (dk_at dksX6_triesRow_0 3 rfl rfl)
theorem dX6_triesRow_4 : decode cX6_triesRow 4 = .ok (.getfield 7, 3) := dk_180 0 7 (dk_at dksX6_triesRow_0 4 rfl rfl)
theorem dX6_triesRow_7 : decode cX6_triesRow 7 = .ok (.bipush 8, 2) := dk_16 8 (dk_at dksX6_triesRow_0 7 rfl rfl)
theorem dX6_triesRow_9 : decode cX6_triesRow 9 = .ok (.iaload, 1) := dk_46 (dk_at dksX6_triesRow_0 9 rfl rfl)
theorem dX6_triesRow_10 : decode cX6_triesRow 10 = .ok (.if_icmp .ge 24, 3) := dk_162 0 24 (dk_at dksX6_triesRow_0 10 rfl rfl)
theorem dX6_triesRow_13 : decode cX6_triesRow 13 = .ok (.aload_n 0, 1) := dk_42 (dk_at dksX6_triesRow_0 13 rfl rfl)
theorem dX6_triesRow_14 : decode cX6_triesRow 14 = .ok (.getfield 55, 3) := dk_180 0 55 (dk_at dksX6_triesRow_0 14 rfl rfl)
theorem dX6_triesRow_17 : decode cX6_triesRow 17 = .ok (.iload_n 1, 1) := dk_27 (dk_at dksX6_triesRow_0 17 rfl rfl)
theorem dX6_triesRow_18 : decode cX6_triesRow 18 = .ok (.aload_n 0, 1) := dk_42 (dk_at dksX6_triesRow_0 18 rfl rfl)
theorem dX6_triesRow_19 : decode cX6_triesRow 19 = .ok (.getfield 7, 3) := dk_180 0 7 (dk_at dksX6_triesRow_0 19 rfl rfl)
theorem dX6_triesRow_22 : decode cX6_triesRow 22 = .ok (.bipush 74, 2) := dk_16 74 (dk_at dksX6_triesRow_0 22 rfl rfl)
theorem dX6_triesRow_24 : decode cX6_triesRow 24 = .ok (.iload_n 1, 1) := dk_27 (dk_at dksX6_triesRow_1 0 rfl rfl)
theorem dX6_triesRow_25 : decode cX6_triesRow 25 = .ok (.iadd, 1) := dk_96 (dk_at dksX6_triesRow_1 1 rfl rfl)
theorem dX6_triesRow_26 : decode cX6_triesRow 26 = .ok (.iaload, 1) := dk_46 (dk_at dksX6_triesRow_1 2 rfl rfl)
theorem dX6_triesRow_27 : decode cX6_triesRow 27 = .ok (.iastore, 1) := dk_79 (dk_at dksX6_triesRow_1 3 rfl rfl)
theorem dX6_triesRow_28 : decode cX6_triesRow 28 = .ok (.iinc 1 1, 3) := dk_132 1 1 (dk_at dksX6_triesRow_1 4 rfl rfl)
theorem dX6_triesRow_31 : decode cX6_triesRow 31 = .ok (.goto (-29), 3) := dk_167 255 227 (dk_at dksX6_triesRow_1 7 rfl rfl)
theorem dX6_triesRow_34 : decode cX6_triesRow 34 = .ok (.aload_n 0, 1) := dk_42 (dk_at dksX6_triesRow_1 10 rfl rfl)
theorem dX6_triesRow_35 : decode cX6_triesRow 35 = .ok (.getfield 7, 3) := dk_180 0 7 (dk_at dksX6_triesRow_1 11 rfl rfl)
theorem dX6_triesRow_38 : decode cX6_triesRow 38 = .ok (.bipush 8, 2) := dk_16 8 (dk_at dksX6_triesRow_1 14 rfl rfl)
theorem dX6_triesRow_40 : decode cX6_triesRow 40 = .ok (.iaload, 1) := dk_46 (dk_at dksX6_triesRow_1 16 rfl rfl)
theorem dX6_triesRow_41 : decode cX6_triesRow 41 = .ok (.ireturn, 1) := dk_172 (dk_at dksX6_triesRow_1 17 rfl rfl)
abbrev cX6_wouldCost : ByteArray := prog_19_method_48_code
def yX6_wouldCost : MethodName := ⟨RX6, "wouldCost", "(I)I"⟩
def dkwX6_wouldCost_3 : List UInt8 := [162, 0, 21, 42, 180, 0, 7, 29, 42, 180, 0, 52, 29, 46, 79, 132, 3, 1, 167, 255, 235, 28, 172]
abbrev dktX6_wouldCost_3 : List UInt8 := dkwX6_wouldCost_3 ++ []
def dkwX6_wouldCost_2 : List UInt8 := [167, 255, 237, 42, 180, 0, 7, 16, 7, 46, 42, 180, 0, 52, 16, 7, 46, 100, 61, 3, 62, 29, 16, 98]
abbrev dktX6_wouldCost_2 : List UInt8 := dkwX6_wouldCost_2 ++ dktX6_wouldCost_3
def dkwX6_wouldCost_1 : List UInt8 := [167, 255, 235, 3, 61, 28, 27, 162, 0, 20, 42, 42, 180, 0, 55, 28, 46, 182, 0, 187, 62, 132, 2, 1]
abbrev dktX6_wouldCost_1 : List UInt8 := dkwX6_wouldCost_1 ++ dktX6_wouldCost_2
def dkwX6_wouldCost_0 : List UInt8 := [3, 61, 28, 16, 98, 162, 0, 21, 42, 180, 0, 52, 28, 42, 180, 0, 7, 28, 46, 79, 132, 2, 1]
abbrev dktX6_wouldCost_0 : List UInt8 := dkwX6_wouldCost_0 ++ dktX6_wouldCost_1
theorem dksX6_wouldCost_0 : cX6_wouldCost.data.toList.drop 0 = dktX6_wouldCost_0 := by decide +kernel
theorem dksX6_wouldCost_1 : cX6_wouldCost.data.toList.drop 23 = dktX6_wouldCost_1 := dk_seg dksX6_wouldCost_0 23 rfl rfl
theorem dksX6_wouldCost_2 : cX6_wouldCost.data.toList.drop 47 = dktX6_wouldCost_2 := dk_seg dksX6_wouldCost_1 24 rfl rfl
theorem dksX6_wouldCost_3 : cX6_wouldCost.data.toList.drop 71 = dktX6_wouldCost_3 := dk_seg dksX6_wouldCost_2 24 rfl rfl
theorem dX6_wouldCost_0 : decode cX6_wouldCost 0 = .ok (.iconst 0, 1) := dk_3 (dk_at dksX6_wouldCost_0 0 rfl rfl)
theorem dX6_wouldCost_1 : decode cX6_wouldCost 1 = .ok (.istore_n 2, 1) := dk_61 (dk_at dksX6_wouldCost_0 1 rfl rfl)
theorem dX6_wouldCost_2 : decode cX6_wouldCost 2 = .ok (.iload_n 2, 1) := dk_28 (dk_at dksX6_wouldCost_0 2 rfl rfl)
theorem dX6_wouldCost_3 : decode cX6_wouldCost 3 = .ok (.bipush 98, 2) := dk_16 98 (dk_at dksX6_wouldCost_0 3 rfl rfl)
theorem dX6_wouldCost_5 : decode cX6_wouldCost 5 = .ok (.if_icmp .ge 21, 3) := dk_162 0 21 (dk_at dksX6_wouldCost_0 5 rfl rfl)
theorem dX6_wouldCost_8 : decode cX6_wouldCost 8 = .ok (.aload_n 0, 1) := dk_42 (dk_at dksX6_wouldCost_0 8 rfl rfl)
theorem dX6_wouldCost_9 : decode cX6_wouldCost 9 = .ok (.getfield 52, 3) := dk_180 0 52 (dk_at dksX6_wouldCost_0 9 rfl rfl)
theorem dX6_wouldCost_12 : decode cX6_wouldCost 12 = .ok (.iload_n 2, 1) := dk_28 (dk_at dksX6_wouldCost_0 12 rfl rfl)
theorem dX6_wouldCost_13 : decode cX6_wouldCost 13 = .ok (.aload_n 0, 1) := dk_42 (dk_at dksX6_wouldCost_0 13 rfl rfl)
theorem dX6_wouldCost_14 : decode cX6_wouldCost 14 = .ok (.getfield 7, 3) := dk_180 0 7 (dk_at dksX6_wouldCost_0 14 rfl rfl)
theorem dX6_wouldCost_17 : decode cX6_wouldCost 17 = .ok (.iload_n 2, 1) := dk_28 (dk_at dksX6_wouldCost_0 17 rfl rfl)
theorem dX6_wouldCost_18 : decode cX6_wouldCost 18 = .ok (.iaload, 1) := dk_46 (dk_at dksX6_wouldCost_0 18 rfl rfl)
theorem dX6_wouldCost_19 : decode cX6_wouldCost 19 = .ok (.iastore, 1) := dk_79 (dk_at dksX6_wouldCost_0 19 rfl rfl)
theorem dX6_wouldCost_20 : decode cX6_wouldCost 20 = .ok (.iinc 2 1, 3) := dk_132 2 1 (dk_at dksX6_wouldCost_0 20 rfl rfl)
theorem dX6_wouldCost_23 : decode cX6_wouldCost 23 = .ok (.goto (-21), 3) := dk_167 255 235 (dk_at dksX6_wouldCost_1 0 rfl rfl)
theorem dX6_wouldCost_26 : decode cX6_wouldCost 26 = .ok (.iconst 0, 1) := dk_3 (dk_at dksX6_wouldCost_1 3 rfl rfl)
theorem dX6_wouldCost_27 : decode cX6_wouldCost 27 = .ok (.istore_n 2, 1) := dk_61 (dk_at dksX6_wouldCost_1 4 rfl rfl)
theorem dX6_wouldCost_28 : decode cX6_wouldCost 28 = .ok (.iload_n 2, 1) := dk_28 (dk_at dksX6_wouldCost_1 5 rfl rfl)
theorem dX6_wouldCost_29 : decode cX6_wouldCost 29 = .ok (.iload_n 1, 1) := dk_27 (dk_at dksX6_wouldCost_1 6 rfl rfl)
theorem dX6_wouldCost_30 : decode cX6_wouldCost 30 = .ok (.if_icmp .ge 20, 3) := dk_162 0 20 (dk_at dksX6_wouldCost_1 7 rfl rfl)
theorem dX6_wouldCost_33 : decode cX6_wouldCost 33 = .ok (.aload_n 0, 1) := dk_42 (dk_at dksX6_wouldCost_1 10 rfl rfl)
theorem dX6_wouldCost_34 : decode cX6_wouldCost 34 = .ok (.aload_n 0, 1) := dk_42 (dk_at dksX6_wouldCost_1 11 rfl rfl)
theorem dX6_wouldCost_35 : decode cX6_wouldCost 35 = .ok (.getfield 55, 3) := dk_180 0 55 (dk_at dksX6_wouldCost_1 12 rfl rfl)
theorem dX6_wouldCost_38 : decode cX6_wouldCost 38 = .ok (.iload_n 2, 1) := dk_28 (dk_at dksX6_wouldCost_1 15 rfl rfl)
theorem dX6_wouldCost_39 : decode cX6_wouldCost 39 = .ok (.iaload, 1) := dk_46 (dk_at dksX6_wouldCost_1 16 rfl rfl)
theorem dX6_wouldCost_40 : decode cX6_wouldCost 40 = .ok (.invokevirtual 187, 3) := dk_182 0 187 (dk_at dksX6_wouldCost_1 17 rfl rfl)
theorem dX6_wouldCost_43 : decode cX6_wouldCost 43 = .ok (.istore_n 3, 1) := dk_62 (dk_at dksX6_wouldCost_1 20 rfl rfl)
theorem dX6_wouldCost_44 : decode cX6_wouldCost 44 = .ok (.iinc 2 1, 3) := dk_132 2 1 (dk_at dksX6_wouldCost_1 21 rfl rfl)
theorem dX6_wouldCost_47 : decode cX6_wouldCost 47 = .ok (.goto (-19), 3) := dk_167 255 237 (dk_at dksX6_wouldCost_2 0 rfl rfl)
theorem dX6_wouldCost_50 : decode cX6_wouldCost 50 = .ok (.aload_n 0, 1) := dk_42 (dk_at dksX6_wouldCost_2 3 rfl rfl)
theorem dX6_wouldCost_51 : decode cX6_wouldCost 51 = .ok (.getfield 7, 3) := dk_180 0 7 (dk_at dksX6_wouldCost_2 4 rfl rfl)
theorem dX6_wouldCost_54 : decode cX6_wouldCost 54 = .ok (.bipush 7, 2) := dk_16 7 (dk_at dksX6_wouldCost_2 7 rfl rfl)
theorem dX6_wouldCost_56 : decode cX6_wouldCost 56 = .ok (.iaload, 1) := dk_46 (dk_at dksX6_wouldCost_2 9 rfl rfl)
theorem dX6_wouldCost_57 : decode cX6_wouldCost 57 = .ok (.aload_n 0, 1) := dk_42 (dk_at dksX6_wouldCost_2 10 rfl rfl)
theorem dX6_wouldCost_58 : decode cX6_wouldCost 58 = .ok (.getfield 52, 3) := dk_180 0 52 (dk_at dksX6_wouldCost_2 11 rfl rfl)
theorem dX6_wouldCost_61 : decode cX6_wouldCost 61 = .ok (.bipush 7, 2) := dk_16 7 (dk_at dksX6_wouldCost_2 14 rfl rfl)
theorem dX6_wouldCost_63 : decode cX6_wouldCost 63 = .ok (.iaload, 1) := dk_46 (dk_at dksX6_wouldCost_2 16 rfl rfl)
theorem dX6_wouldCost_64 : decode cX6_wouldCost 64 = .ok (.isub, 1) := dk_100 (dk_at dksX6_wouldCost_2 17 rfl rfl)
theorem dX6_wouldCost_65 : decode cX6_wouldCost 65 = .ok (.istore_n 2, 1) := dk_61 (dk_at dksX6_wouldCost_2 18 rfl rfl)
theorem dX6_wouldCost_66 : decode cX6_wouldCost 66 = .ok (.iconst 0, 1) := dk_3 (dk_at dksX6_wouldCost_2 19 rfl rfl)
theorem dX6_wouldCost_67 : decode cX6_wouldCost 67 = .ok (.istore_n 3, 1) := dk_62 (dk_at dksX6_wouldCost_2 20 rfl rfl)
theorem dX6_wouldCost_68 : decode cX6_wouldCost 68 = .ok (.iload_n 3, 1) := dk_29 (dk_at dksX6_wouldCost_2 21 rfl rfl)
theorem dX6_wouldCost_69 : decode cX6_wouldCost 69 = .ok (.bipush 98, 2) := dk_16 98 (dk_at dksX6_wouldCost_2 22 rfl rfl)
theorem dX6_wouldCost_71 : decode cX6_wouldCost 71 = .ok (.if_icmp .ge 21, 3) := dk_162 0 21 (dk_at dksX6_wouldCost_3 0 rfl rfl)
theorem dX6_wouldCost_74 : decode cX6_wouldCost 74 = .ok (.aload_n 0, 1) := dk_42 (dk_at dksX6_wouldCost_3 3 rfl rfl)
theorem dX6_wouldCost_75 : decode cX6_wouldCost 75 = .ok (.getfield 7, 3) := dk_180 0 7 (dk_at dksX6_wouldCost_3 4 rfl rfl)
theorem dX6_wouldCost_78 : decode cX6_wouldCost 78 = .ok (.iload_n 3, 1) := dk_29 (dk_at dksX6_wouldCost_3 7 rfl rfl)
theorem dX6_wouldCost_79 : decode cX6_wouldCost 79 = .ok (.aload_n 0, 1) := dk_42 (dk_at dksX6_wouldCost_3 8 rfl rfl)
theorem dX6_wouldCost_80 : decode cX6_wouldCost 80 = .ok (.getfield 52, 3) := dk_180 0 52 (dk_at dksX6_wouldCost_3 9 rfl rfl)
theorem dX6_wouldCost_83 : decode cX6_wouldCost 83 = .ok (.iload_n 3, 1) := dk_29 (dk_at dksX6_wouldCost_3 12 rfl rfl)
theorem dX6_wouldCost_84 : decode cX6_wouldCost 84 = .ok (.iaload, 1) := dk_46 (dk_at dksX6_wouldCost_3 13 rfl rfl)
theorem dX6_wouldCost_85 : decode cX6_wouldCost 85 = .ok (.iastore, 1) := dk_79 (dk_at dksX6_wouldCost_3 14 rfl rfl)
theorem dX6_wouldCost_86 : decode cX6_wouldCost 86 = .ok (.iinc 3 1, 3) := dk_132 3 1 (dk_at dksX6_wouldCost_3 15 rfl rfl)
theorem dX6_wouldCost_89 : decode cX6_wouldCost 89 = .ok (.goto (-21), 3) := dk_167 255 235 (dk_at dksX6_wouldCost_3 18 rfl rfl)
theorem dX6_wouldCost_92 : decode cX6_wouldCost 92 = .ok (.iload_n 2, 1) := dk_28 (dk_at dksX6_wouldCost_3 21 rfl rfl)
theorem dX6_wouldCost_93 : decode cX6_wouldCost 93 = .ok (.ireturn, 1) := dk_172 (dk_at dksX6_wouldCost_3 22 rfl rfl)
abbrev cX6_least : ByteArray := prog_19_method_55_code
def yX6_least : MethodName := ⟨RX6, "least", "(I)I"⟩
def dkwX6_least_1 : List UInt8 := [182, 0, 215, 61, 27, 154, 0, 7, 28, 167, 0, 10, 42, 180, 0, 205, 184, 0, 126, 172]
abbrev dktX6_least_1 : List UInt8 := dkwX6_least_1 ++ []
def dkwX6_least_0 : List UInt8 := [27, 133, 9, 10, 184, 0, 83, 154, 0, 6, 18, 120, 172, 42, 182, 0, 212, 42, 42, 182, 0, 195]
abbrev dktX6_least_0 : List UInt8 := dkwX6_least_0 ++ dktX6_least_1
theorem dksX6_least_0 : cX6_least.data.toList.drop 0 = dktX6_least_0 := by decide +kernel
theorem dksX6_least_1 : cX6_least.data.toList.drop 22 = dktX6_least_1 := dk_seg dksX6_least_0 22 rfl rfl
theorem dX6_least_0 : decode cX6_least 0 = .ok (.iload_n 1, 1) := dk_27 (dk_at dksX6_least_0 0 rfl rfl)
theorem dX6_least_1 : decode cX6_least 1 = .ok (.i2l, 1) := dk_133 (dk_at dksX6_least_0 1 rfl rfl)
theorem dX6_least_2 : decode cX6_least 2 = .ok (.lconst 0, 1) := dk_9 (dk_at dksX6_least_0 2 rfl rfl)
theorem dX6_least_3 : decode cX6_least 3 = .ok (.lconst 1, 1) := dk_10 (dk_at dksX6_least_0 3 rfl rfl)
theorem dX6_least_4 : decode cX6_least 4 = .ok (.invokestatic 83, 3) := dk_184 0 83 (dk_at dksX6_least_0 4 rfl rfl)
theorem dX6_least_7 : decode cX6_least 7 = .ok (.ifCond .ne 6, 3) := dk_154 0 6 (dk_at dksX6_least_0 7 rfl rfl)
theorem dX6_least_10 : decode cX6_least 10 = .ok (.ldc 120, 2) := dk_18 120 (dk_at dksX6_least_0 10 rfl rfl)
theorem dX6_least_12 : decode cX6_least 12 = .ok (.ireturn, 1) := dk_172 (dk_at dksX6_least_0 12 rfl rfl)
theorem dX6_least_13 : decode cX6_least 13 = .ok (.aload_n 0, 1) := dk_42 (dk_at dksX6_least_0 13 rfl rfl)
theorem dX6_least_14 : decode cX6_least 14 = .ok (.invokevirtual 212, 3) := dk_182 0 212 (dk_at dksX6_least_0 14 rfl rfl)
theorem dX6_least_17 : decode cX6_least 17 = .ok (.aload_n 0, 1) := dk_42 (dk_at dksX6_least_0 17 rfl rfl)
theorem dX6_least_18 : decode cX6_least 18 = .ok (.aload_n 0, 1) := dk_42 (dk_at dksX6_least_0 18 rfl rfl)
theorem dX6_least_19 : decode cX6_least 19 = .ok (.invokevirtual 195, 3) := dk_182 0 195 (dk_at dksX6_least_0 19 rfl rfl)
theorem dX6_least_22 : decode cX6_least 22 = .ok (.invokevirtual 215, 3) := dk_182 0 215 (dk_at dksX6_least_1 0 rfl rfl)
theorem dX6_least_25 : decode cX6_least 25 = .ok (.istore_n 2, 1) := dk_61 (dk_at dksX6_least_1 3 rfl rfl)
theorem dX6_least_26 : decode cX6_least 26 = .ok (.iload_n 1, 1) := dk_27 (dk_at dksX6_least_1 4 rfl rfl)
theorem dX6_least_27 : decode cX6_least 27 = .ok (.ifCond .ne 7, 3) := dk_154 0 7 (dk_at dksX6_least_1 5 rfl rfl)
theorem dX6_least_30 : decode cX6_least 30 = .ok (.iload_n 2, 1) := dk_28 (dk_at dksX6_least_1 8 rfl rfl)
theorem dX6_least_31 : decode cX6_least 31 = .ok (.goto 10, 3) := dk_167 0 10 (dk_at dksX6_least_1 9 rfl rfl)
theorem dX6_least_34 : decode cX6_least 34 = .ok (.aload_n 0, 1) := dk_42 (dk_at dksX6_least_1 12 rfl rfl)
theorem dX6_least_35 : decode cX6_least 35 = .ok (.getfield 205, 3) := dk_180 0 205 (dk_at dksX6_least_1 13 rfl rfl)
theorem dX6_least_38 : decode cX6_least 38 = .ok (.invokestatic 126, 3) := dk_184 0 126 (dk_at dksX6_least_1 16 rfl rfl)
theorem dX6_least_41 : decode cX6_least 41 = .ok (.ireturn, 1) := dk_172 (dk_at dksX6_least_1 19 rfl rfl)
abbrev cX6_knowsRooms : ByteArray := prog_19_method_52_code
def yX6_knowsRooms : MethodName := ⟨RX6, "knowsRooms", "()V"⟩
def dkwX6_knowsRooms_3 : List UInt8 := [167, 255, 192, 177]
abbrev dktX6_knowsRooms_3 : List UInt8 := dkwX6_knowsRooms_3 ++ []
def dkwX6_knowsRooms_2 : List UInt8 := [160, 0, 12, 42, 180, 0, 43, 28, 46, 167, 0, 4, 3, 96, 79, 132, 2, 1, 167, 255, 215, 132, 1, 1]
abbrev dktX6_knowsRooms_2 : List UInt8 := dkwX6_knowsRooms_2 ++ dktX6_knowsRooms_3
def dkwX6_knowsRooms_1 : List UInt8 := [42, 180, 0, 7, 3, 46, 162, 0, 37, 42, 180, 0, 49, 27, 92, 46, 27, 28, 122, 4, 126, 4]
abbrev dktX6_knowsRooms_1 : List UInt8 := dkwX6_knowsRooms_1 ++ dktX6_knowsRooms_2
def dkwX6_knowsRooms_0 : List UInt8 := [42, 182, 0, 182, 3, 60, 27, 42, 182, 0, 201, 162, 0, 62, 42, 180, 0, 49, 27, 3, 79, 3, 61, 28]
abbrev dktX6_knowsRooms_0 : List UInt8 := dkwX6_knowsRooms_0 ++ dktX6_knowsRooms_1
theorem dksX6_knowsRooms_0 : cX6_knowsRooms.data.toList.drop 0 = dktX6_knowsRooms_0 := by decide +kernel
theorem dksX6_knowsRooms_1 : cX6_knowsRooms.data.toList.drop 24 = dktX6_knowsRooms_1 := dk_seg dksX6_knowsRooms_0 24 rfl rfl
theorem dksX6_knowsRooms_2 : cX6_knowsRooms.data.toList.drop 46 = dktX6_knowsRooms_2 := dk_seg dksX6_knowsRooms_1 22 rfl rfl
theorem dksX6_knowsRooms_3 : cX6_knowsRooms.data.toList.drop 70 = dktX6_knowsRooms_3 := dk_seg dksX6_knowsRooms_2 24 rfl rfl
theorem dX6_knowsRooms_0 : decode cX6_knowsRooms 0 = .ok (.aload_n 0, 1) := dk_42 (dk_at dksX6_knowsRooms_0 0 rfl rfl)
theorem dX6_knowsRooms_1 : decode cX6_knowsRooms 1 = .ok (.invokevirtual 182, 3) := dk_182 0 182 (dk_at dksX6_knowsRooms_0 1 rfl rfl)
theorem dX6_knowsRooms_4 : decode cX6_knowsRooms 4 = .ok (.iconst 0, 1) := dk_3 (dk_at dksX6_knowsRooms_0 4 rfl rfl)
theorem dX6_knowsRooms_5 : decode cX6_knowsRooms 5 = .ok (.istore_n 1, 1) := dk_60 (dk_at dksX6_knowsRooms_0 5 rfl rfl)
theorem dX6_knowsRooms_6 : decode cX6_knowsRooms 6 = .ok (.iload_n 1, 1) := dk_27 (dk_at dksX6_knowsRooms_0 6 rfl rfl)
theorem dX6_knowsRooms_7 : decode cX6_knowsRooms 7 = .ok (.aload_n 0, 1) := dk_42 (dk_at dksX6_knowsRooms_0 7 rfl rfl)
theorem dX6_knowsRooms_8 : decode cX6_knowsRooms 8 = .ok (.invokevirtual 201, 3) := dk_182 0 201 (dk_at dksX6_knowsRooms_0 8 rfl rfl)
theorem dX6_knowsRooms_11 : decode cX6_knowsRooms 11 = .ok (.if_icmp .ge 62, 3) := dk_162 0 62 (dk_at dksX6_knowsRooms_0 11 rfl rfl)
theorem dX6_knowsRooms_14 : decode cX6_knowsRooms 14 = .ok (.aload_n 0, 1) := dk_42 (dk_at dksX6_knowsRooms_0 14 rfl rfl)
theorem dX6_knowsRooms_15 : decode cX6_knowsRooms 15 = .ok (.getfield 49, 3) := dk_180 0 49 (dk_at dksX6_knowsRooms_0 15 rfl rfl)
theorem dX6_knowsRooms_18 : decode cX6_knowsRooms 18 = .ok (.iload_n 1, 1) := dk_27 (dk_at dksX6_knowsRooms_0 18 rfl rfl)
theorem dX6_knowsRooms_19 : decode cX6_knowsRooms 19 = .ok (.iconst 0, 1) := dk_3 (dk_at dksX6_knowsRooms_0 19 rfl rfl)
theorem dX6_knowsRooms_20 : decode cX6_knowsRooms 20 = .ok (.iastore, 1) := dk_79 (dk_at dksX6_knowsRooms_0 20 rfl rfl)
theorem dX6_knowsRooms_21 : decode cX6_knowsRooms 21 = .ok (.iconst 0, 1) := dk_3 (dk_at dksX6_knowsRooms_0 21 rfl rfl)
theorem dX6_knowsRooms_22 : decode cX6_knowsRooms 22 = .ok (.istore_n 2, 1) := dk_61 (dk_at dksX6_knowsRooms_0 22 rfl rfl)
theorem dX6_knowsRooms_23 : decode cX6_knowsRooms 23 = .ok (.iload_n 2, 1) := dk_28 (dk_at dksX6_knowsRooms_0 23 rfl rfl)
theorem dX6_knowsRooms_24 : decode cX6_knowsRooms 24 = .ok (.aload_n 0, 1) := dk_42 (dk_at dksX6_knowsRooms_1 0 rfl rfl)
theorem dX6_knowsRooms_25 : decode cX6_knowsRooms 25 = .ok (.getfield 7, 3) := dk_180 0 7 (dk_at dksX6_knowsRooms_1 1 rfl rfl)
theorem dX6_knowsRooms_28 : decode cX6_knowsRooms 28 = .ok (.iconst 0, 1) := dk_3 (dk_at dksX6_knowsRooms_1 4 rfl rfl)
theorem dX6_knowsRooms_29 : decode cX6_knowsRooms 29 = .ok (.iaload, 1) := dk_46 (dk_at dksX6_knowsRooms_1 5 rfl rfl)
theorem dX6_knowsRooms_30 : decode cX6_knowsRooms 30 = .ok (.if_icmp .ge 37, 3) := dk_162 0 37 (dk_at dksX6_knowsRooms_1 6 rfl rfl)
theorem dX6_knowsRooms_33 : decode cX6_knowsRooms 33 = .ok (.aload_n 0, 1) := dk_42 (dk_at dksX6_knowsRooms_1 9 rfl rfl)
theorem dX6_knowsRooms_34 : decode cX6_knowsRooms 34 = .ok (.getfield 49, 3) := dk_180 0 49 (dk_at dksX6_knowsRooms_1 10 rfl rfl)
theorem dX6_knowsRooms_37 : decode cX6_knowsRooms 37 = .ok (.iload_n 1, 1) := dk_27 (dk_at dksX6_knowsRooms_1 13 rfl rfl)
theorem dX6_knowsRooms_38 : decode cX6_knowsRooms 38 = .ok (.dup2, 1) := dk_92 (dk_at dksX6_knowsRooms_1 14 rfl rfl)
theorem dX6_knowsRooms_39 : decode cX6_knowsRooms 39 = .ok (.iaload, 1) := dk_46 (dk_at dksX6_knowsRooms_1 15 rfl rfl)
theorem dX6_knowsRooms_40 : decode cX6_knowsRooms 40 = .ok (.iload_n 1, 1) := dk_27 (dk_at dksX6_knowsRooms_1 16 rfl rfl)
theorem dX6_knowsRooms_41 : decode cX6_knowsRooms 41 = .ok (.iload_n 2, 1) := dk_28 (dk_at dksX6_knowsRooms_1 17 rfl rfl)
theorem dX6_knowsRooms_42 : decode cX6_knowsRooms 42 = .ok (.ishr, 1) := dk_122 (dk_at dksX6_knowsRooms_1 18 rfl rfl)
theorem dX6_knowsRooms_43 : decode cX6_knowsRooms 43 = .ok (.iconst 1, 1) := dk_4 (dk_at dksX6_knowsRooms_1 19 rfl rfl)
theorem dX6_knowsRooms_44 : decode cX6_knowsRooms 44 = .ok (.iand, 1) := dk_126 (dk_at dksX6_knowsRooms_1 20 rfl rfl)
theorem dX6_knowsRooms_45 : decode cX6_knowsRooms 45 = .ok (.iconst 1, 1) := dk_4 (dk_at dksX6_knowsRooms_1 21 rfl rfl)
theorem dX6_knowsRooms_46 : decode cX6_knowsRooms 46 = .ok (.if_icmp .ne 12, 3) := dk_160 0 12 (dk_at dksX6_knowsRooms_2 0 rfl rfl)
theorem dX6_knowsRooms_49 : decode cX6_knowsRooms 49 = .ok (.aload_n 0, 1) := dk_42 (dk_at dksX6_knowsRooms_2 3 rfl rfl)
theorem dX6_knowsRooms_50 : decode cX6_knowsRooms 50 = .ok (.getfield 43, 3) := dk_180 0 43 (dk_at dksX6_knowsRooms_2 4 rfl rfl)
theorem dX6_knowsRooms_53 : decode cX6_knowsRooms 53 = .ok (.iload_n 2, 1) := dk_28 (dk_at dksX6_knowsRooms_2 7 rfl rfl)
theorem dX6_knowsRooms_54 : decode cX6_knowsRooms 54 = .ok (.iaload, 1) := dk_46 (dk_at dksX6_knowsRooms_2 8 rfl rfl)
theorem dX6_knowsRooms_55 : decode cX6_knowsRooms 55 = .ok (.goto 4, 3) := dk_167 0 4 (dk_at dksX6_knowsRooms_2 9 rfl rfl)
theorem dX6_knowsRooms_58 : decode cX6_knowsRooms 58 = .ok (.iconst 0, 1) := dk_3 (dk_at dksX6_knowsRooms_2 12 rfl rfl)
theorem dX6_knowsRooms_59 : decode cX6_knowsRooms 59 = .ok (.iadd, 1) := dk_96 (dk_at dksX6_knowsRooms_2 13 rfl rfl)
theorem dX6_knowsRooms_60 : decode cX6_knowsRooms 60 = .ok (.iastore, 1) := dk_79 (dk_at dksX6_knowsRooms_2 14 rfl rfl)
theorem dX6_knowsRooms_61 : decode cX6_knowsRooms 61 = .ok (.iinc 2 1, 3) := dk_132 2 1 (dk_at dksX6_knowsRooms_2 15 rfl rfl)
theorem dX6_knowsRooms_64 : decode cX6_knowsRooms 64 = .ok (.goto (-41), 3) := dk_167 255 215 (dk_at dksX6_knowsRooms_2 18 rfl rfl)
theorem dX6_knowsRooms_67 : decode cX6_knowsRooms 67 = .ok (.iinc 1 1, 3) := dk_132 1 1 (dk_at dksX6_knowsRooms_2 21 rfl rfl)
theorem dX6_knowsRooms_70 : decode cX6_knowsRooms 70 = .ok (.goto (-64), 3) := dk_167 255 192 (dk_at dksX6_knowsRooms_3 0 rfl rfl)
theorem dX6_knowsRooms_73 : decode cX6_knowsRooms 73 = .ok (.return_, 1) := dk_177 (dk_at dksX6_knowsRooms_3 3 rfl rfl)
abbrev cX6_sets : ByteArray := prog_19_method_51_code
def yX6_sets : MethodName := ⟨RX6, "sets", "()I"⟩
def dkwX6_sets_0 : List UInt8 := [4, 42, 180, 0, 7, 3, 46, 120, 172]
abbrev dktX6_sets_0 : List UInt8 := dkwX6_sets_0 ++ []
theorem dksX6_sets_0 : cX6_sets.data.toList.drop 0 = dktX6_sets_0 := by decide +kernel
theorem dX6_sets_0 : decode cX6_sets 0 = .ok (.iconst 1, 1) := dk_4 (dk_at dksX6_sets_0 0 rfl rfl)
theorem dX6_sets_1 : decode cX6_sets 1 = .ok (.aload_n 0, 1) := dk_42 (dk_at dksX6_sets_0 1 rfl rfl)
theorem dX6_sets_2 : decode cX6_sets 2 = .ok (.getfield 7, 3) := dk_180 0 7 (dk_at dksX6_sets_0 2 rfl rfl)
theorem dX6_sets_5 : decode cX6_sets 5 = .ok (.iconst 0, 1) := dk_3 (dk_at dksX6_sets_0 5 rfl rfl)
theorem dX6_sets_6 : decode cX6_sets 6 = .ok (.iaload, 1) := dk_46 (dk_at dksX6_sets_0 6 rfl rfl)
theorem dX6_sets_7 : decode cX6_sets 7 = .ok (.ishl, 1) := dk_120 (dk_at dksX6_sets_0 7 rfl rfl)
theorem dX6_sets_8 : decode cX6_sets 8 = .ok (.ireturn, 1) := dk_172 (dk_at dksX6_sets_0 8 rfl rfl)
abbrev cX6_leastOf : ByteArray := prog_19_method_54_code
def yX6_leastOf : MethodName := ⟨RX6, "leastOf", "(I)I"⟩
def dkwX6_leastOf_11 : List UInt8 := [46, 46, 96, 172]
abbrev dktX6_leastOf_11 : List UInt8 := dkwX6_leastOf_11 ++ []
def dkwX6_leastOf_10 : List UInt8 := [180, 0, 55, 3, 46, 182, 0, 136, 153, 0, 7, 3, 167, 0, 14, 42, 180, 0, 46, 42, 180, 0, 55, 3]
abbrev dktX6_leastOf_10 : List UInt8 := dkwX6_leastOf_10 ++ dktX6_leastOf_11
def dkwX6_leastOf_9 : List UInt8 := [180, 0, 205, 181, 0, 205, 132, 4, 1, 167, 255, 168, 42, 180, 0, 58, 42, 180, 0, 205, 46, 42, 28, 42]
abbrev dktX6_leastOf_9 : List UInt8 := dkwX6_leastOf_9 ++ dktX6_leastOf_10
def dkwX6_leastOf_8 : List UInt8 := [180, 0, 58, 21, 4, 46, 42, 180, 0, 58, 42, 180, 0, 205, 46, 162, 0, 8, 21, 4, 167, 0, 7, 42]
abbrev dktX6_leastOf_8 : List UInt8 := dkwX6_leastOf_8 ++ dktX6_leastOf_9
def dkwX6_leastOf_7 : List UInt8 := [163, 0, 7, 4, 167, 0, 4, 3, 54, 5, 42, 21, 5, 153, 0, 34, 42, 180, 0, 205, 155, 0, 22, 42]
abbrev dktX6_leastOf_7 : List UInt8 := dkwX6_leastOf_7 ++ dktX6_leastOf_8
def dkwX6_leastOf_6 : List UInt8 := [21, 4, 29, 2, 130, 126, 154, 0, 23, 42, 180, 0, 49, 21, 4, 46, 42, 180, 0, 7, 6, 46]
abbrev dktX6_leastOf_6 : List UInt8 := dkwX6_leastOf_6 ++ dktX6_leastOf_7
def dkwX6_leastOf_5 : List UInt8 := [61, 28, 4, 42, 180, 0, 55, 3, 46, 120, 128, 62, 3, 54, 4, 21, 4, 42, 182, 0, 201, 162, 0, 85]
abbrev dktX6_leastOf_5 : List UInt8 := dkwX6_leastOf_5 ++ dktX6_leastOf_6
def dkwX6_leastOf_4 : List UInt8 := [96, 79, 132, 4, 1, 167, 255, 205, 132, 2, 255, 167, 255, 181, 27, 154, 0, 5, 3, 172, 42, 182, 0, 132]
abbrev dktX6_leastOf_4 : List UInt8 := dkwX6_leastOf_4 ++ dktX6_leastOf_5
def dkwX6_leastOf_3 : List UInt8 := [29, 120, 128, 46, 42, 21, 4, 29, 182, 0, 136, 153, 0, 7, 3, 167, 0, 9, 42, 180, 0, 46, 29, 46]
abbrev dktX6_leastOf_3 : List UInt8 := dkwX6_leastOf_3 ++ dktX6_leastOf_4
def dkwX6_leastOf_2 : List UInt8 := [54, 4, 21, 4, 42, 182, 0, 201, 162, 0, 48, 42, 180, 0, 58, 21, 4, 42, 180, 0, 61, 21, 4, 4]
abbrev dktX6_leastOf_2 : List UInt8 := dkwX6_leastOf_2 ++ dktX6_leastOf_3
def dkwX6_leastOf_1 : List UInt8 := [2, 181, 0, 205, 27, 4, 100, 61, 28, 158, 0, 77, 42, 182, 0, 209, 42, 180, 0, 55, 28, 46, 62, 3]
abbrev dktX6_leastOf_1 : List UInt8 := dkwX6_leastOf_1 ++ dktX6_leastOf_2
def dkwX6_leastOf_0 : List UInt8 := [3, 61, 28, 42, 182, 0, 201, 162, 0, 16, 42, 180, 0, 58, 28, 3, 79, 132, 2, 1, 167, 255, 238, 42]
abbrev dktX6_leastOf_0 : List UInt8 := dkwX6_leastOf_0 ++ dktX6_leastOf_1
theorem dksX6_leastOf_0 : cX6_leastOf.data.toList.drop 0 = dktX6_leastOf_0 := by decide +kernel
theorem dksX6_leastOf_1 : cX6_leastOf.data.toList.drop 24 = dktX6_leastOf_1 := dk_seg dksX6_leastOf_0 24 rfl rfl
theorem dksX6_leastOf_2 : cX6_leastOf.data.toList.drop 48 = dktX6_leastOf_2 := dk_seg dksX6_leastOf_1 24 rfl rfl
theorem dksX6_leastOf_3 : cX6_leastOf.data.toList.drop 72 = dktX6_leastOf_3 := dk_seg dksX6_leastOf_2 24 rfl rfl
theorem dksX6_leastOf_4 : cX6_leastOf.data.toList.drop 96 = dktX6_leastOf_4 := dk_seg dksX6_leastOf_3 24 rfl rfl
theorem dksX6_leastOf_5 : cX6_leastOf.data.toList.drop 120 = dktX6_leastOf_5 := dk_seg dksX6_leastOf_4 24 rfl rfl
theorem dksX6_leastOf_6 : cX6_leastOf.data.toList.drop 144 = dktX6_leastOf_6 := dk_seg dksX6_leastOf_5 24 rfl rfl
theorem dksX6_leastOf_7 : cX6_leastOf.data.toList.drop 166 = dktX6_leastOf_7 := dk_seg dksX6_leastOf_6 22 rfl rfl
theorem dksX6_leastOf_8 : cX6_leastOf.data.toList.drop 190 = dktX6_leastOf_8 := dk_seg dksX6_leastOf_7 24 rfl rfl
theorem dksX6_leastOf_9 : cX6_leastOf.data.toList.drop 214 = dktX6_leastOf_9 := dk_seg dksX6_leastOf_8 24 rfl rfl
theorem dksX6_leastOf_10 : cX6_leastOf.data.toList.drop 238 = dktX6_leastOf_10 := dk_seg dksX6_leastOf_9 24 rfl rfl
theorem dksX6_leastOf_11 : cX6_leastOf.data.toList.drop 262 = dktX6_leastOf_11 := dk_seg dksX6_leastOf_10 24 rfl rfl
theorem dX6_leastOf_0 : decode cX6_leastOf 0 = .ok (.iconst 0, 1) := dk_3 (dk_at dksX6_leastOf_0 0 rfl rfl)
theorem dX6_leastOf_1 : decode cX6_leastOf 1 = .ok (.istore_n 2, 1) := dk_61 (dk_at dksX6_leastOf_0 1 rfl rfl)
theorem dX6_leastOf_2 : decode cX6_leastOf 2 = .ok (.iload_n 2, 1) := dk_28 (dk_at dksX6_leastOf_0 2 rfl rfl)
theorem dX6_leastOf_3 : decode cX6_leastOf 3 = .ok (.aload_n 0, 1) := dk_42 (dk_at dksX6_leastOf_0 3 rfl rfl)
theorem dX6_leastOf_4 : decode cX6_leastOf 4 = .ok (.invokevirtual 201, 3) := dk_182 0 201 (dk_at dksX6_leastOf_0 4 rfl rfl)
theorem dX6_leastOf_7 : decode cX6_leastOf 7 = .ok (.if_icmp .ge 16, 3) := dk_162 0 16 (dk_at dksX6_leastOf_0 7 rfl rfl)
theorem dX6_leastOf_10 : decode cX6_leastOf 10 = .ok (.aload_n 0, 1) := dk_42 (dk_at dksX6_leastOf_0 10 rfl rfl)
theorem dX6_leastOf_11 : decode cX6_leastOf 11 = .ok (.getfield 58, 3) := dk_180 0 58 (dk_at dksX6_leastOf_0 11 rfl rfl)
theorem dX6_leastOf_14 : decode cX6_leastOf 14 = .ok (.iload_n 2, 1) := dk_28 (dk_at dksX6_leastOf_0 14 rfl rfl)
theorem dX6_leastOf_15 : decode cX6_leastOf 15 = .ok (.iconst 0, 1) := dk_3 (dk_at dksX6_leastOf_0 15 rfl rfl)
theorem dX6_leastOf_16 : decode cX6_leastOf 16 = .ok (.iastore, 1) := dk_79 (dk_at dksX6_leastOf_0 16 rfl rfl)
theorem dX6_leastOf_17 : decode cX6_leastOf 17 = .ok (.iinc 2 1, 3) := dk_132 2 1 (dk_at dksX6_leastOf_0 17 rfl rfl)
theorem dX6_leastOf_20 : decode cX6_leastOf 20 = .ok (.goto (-18), 3) := dk_167 255 238 (dk_at dksX6_leastOf_0 20 rfl rfl)
theorem dX6_leastOf_23 : decode cX6_leastOf 23 = .ok (.aload_n 0, 1) := dk_42 (dk_at dksX6_leastOf_0 23 rfl rfl)
theorem dX6_leastOf_24 : decode cX6_leastOf 24 = .ok (.iconst (-1), 1) := dk_2 (dk_at dksX6_leastOf_1 0 rfl rfl)
theorem dX6_leastOf_25 : decode cX6_leastOf 25 = .ok (.putfield 205, 3) := dk_181 0 205 (dk_at dksX6_leastOf_1 1 rfl rfl)
theorem dX6_leastOf_28 : decode cX6_leastOf 28 = .ok (.iload_n 1, 1) := dk_27 (dk_at dksX6_leastOf_1 4 rfl rfl)
theorem dX6_leastOf_29 : decode cX6_leastOf 29 = .ok (.iconst 1, 1) := dk_4 (dk_at dksX6_leastOf_1 5 rfl rfl)
theorem dX6_leastOf_30 : decode cX6_leastOf 30 = .ok (.isub, 1) := dk_100 (dk_at dksX6_leastOf_1 6 rfl rfl)
theorem dX6_leastOf_31 : decode cX6_leastOf 31 = .ok (.istore_n 2, 1) := dk_61 (dk_at dksX6_leastOf_1 7 rfl rfl)
theorem dX6_leastOf_32 : decode cX6_leastOf 32 = .ok (.iload_n 2, 1) := dk_28 (dk_at dksX6_leastOf_1 8 rfl rfl)
theorem dX6_leastOf_33 : decode cX6_leastOf 33 = .ok (.ifCond .le 77, 3) := dk_158 0 77 (dk_at dksX6_leastOf_1 9 rfl rfl)
theorem dX6_leastOf_36 : decode cX6_leastOf 36 = .ok (.aload_n 0, 1) := dk_42 (dk_at dksX6_leastOf_1 12 rfl rfl)
theorem dX6_leastOf_37 : decode cX6_leastOf 37 = .ok (.invokevirtual 209, 3) := dk_182 0 209 (dk_at dksX6_leastOf_1 13 rfl rfl)
theorem dX6_leastOf_40 : decode cX6_leastOf 40 = .ok (.aload_n 0, 1) := dk_42 (dk_at dksX6_leastOf_1 16 rfl rfl)
theorem dX6_leastOf_41 : decode cX6_leastOf 41 = .ok (.getfield 55, 3) := dk_180 0 55 (dk_at dksX6_leastOf_1 17 rfl rfl)
theorem dX6_leastOf_44 : decode cX6_leastOf 44 = .ok (.iload_n 2, 1) := dk_28 (dk_at dksX6_leastOf_1 20 rfl rfl)
theorem dX6_leastOf_45 : decode cX6_leastOf 45 = .ok (.iaload, 1) := dk_46 (dk_at dksX6_leastOf_1 21 rfl rfl)
theorem dX6_leastOf_46 : decode cX6_leastOf 46 = .ok (.istore_n 3, 1) := dk_62 (dk_at dksX6_leastOf_1 22 rfl rfl)
theorem dX6_leastOf_47 : decode cX6_leastOf 47 = .ok (.iconst 0, 1) := dk_3 (dk_at dksX6_leastOf_1 23 rfl rfl)
theorem dX6_leastOf_48 : decode cX6_leastOf 48 = .ok (.istore 4, 2) := dk_54 4 (dk_at dksX6_leastOf_2 0 rfl rfl)
theorem dX6_leastOf_50 : decode cX6_leastOf 50 = .ok (.iload 4, 2) := dk_21 4 (dk_at dksX6_leastOf_2 2 rfl rfl)
theorem dX6_leastOf_52 : decode cX6_leastOf 52 = .ok (.aload_n 0, 1) := dk_42 (dk_at dksX6_leastOf_2 4 rfl rfl)
theorem dX6_leastOf_53 : decode cX6_leastOf 53 = .ok (.invokevirtual 201, 3) := dk_182 0 201 (dk_at dksX6_leastOf_2 5 rfl rfl)
theorem dX6_leastOf_56 : decode cX6_leastOf 56 = .ok (.if_icmp .ge 48, 3) := dk_162 0 48 (dk_at dksX6_leastOf_2 8 rfl rfl)
theorem dX6_leastOf_59 : decode cX6_leastOf 59 = .ok (.aload_n 0, 1) := dk_42 (dk_at dksX6_leastOf_2 11 rfl rfl)
theorem dX6_leastOf_60 : decode cX6_leastOf 60 = .ok (.getfield 58, 3) := dk_180 0 58 (dk_at dksX6_leastOf_2 12 rfl rfl)
theorem dX6_leastOf_63 : decode cX6_leastOf 63 = .ok (.iload 4, 2) := dk_21 4 (dk_at dksX6_leastOf_2 15 rfl rfl)
theorem dX6_leastOf_65 : decode cX6_leastOf 65 = .ok (.aload_n 0, 1) := dk_42 (dk_at dksX6_leastOf_2 17 rfl rfl)
theorem dX6_leastOf_66 : decode cX6_leastOf 66 = .ok (.getfield 61, 3) := dk_180 0 61 (dk_at dksX6_leastOf_2 18 rfl rfl)
theorem dX6_leastOf_69 : decode cX6_leastOf 69 = .ok (.iload 4, 2) := dk_21 4 (dk_at dksX6_leastOf_2 21 rfl rfl)
theorem dX6_leastOf_71 : decode cX6_leastOf 71 = .ok (.iconst 1, 1) := dk_4 (dk_at dksX6_leastOf_2 23 rfl rfl)
theorem dX6_leastOf_72 : decode cX6_leastOf 72 = .ok (.iload_n 3, 1) := dk_29 (dk_at dksX6_leastOf_3 0 rfl rfl)
theorem dX6_leastOf_73 : decode cX6_leastOf 73 = .ok (.ishl, 1) := dk_120 (dk_at dksX6_leastOf_3 1 rfl rfl)
theorem dX6_leastOf_74 : decode cX6_leastOf 74 = .ok (.ior, 1) := dk_128 (dk_at dksX6_leastOf_3 2 rfl rfl)
theorem dX6_leastOf_75 : decode cX6_leastOf 75 = .ok (.iaload, 1) := dk_46 (dk_at dksX6_leastOf_3 3 rfl rfl)
theorem dX6_leastOf_76 : decode cX6_leastOf 76 = .ok (.aload_n 0, 1) := dk_42 (dk_at dksX6_leastOf_3 4 rfl rfl)
theorem dX6_leastOf_77 : decode cX6_leastOf 77 = .ok (.iload 4, 2) := dk_21 4 (dk_at dksX6_leastOf_3 5 rfl rfl)
theorem dX6_leastOf_79 : decode cX6_leastOf 79 = .ok (.iload_n 3, 1) := dk_29 (dk_at dksX6_leastOf_3 7 rfl rfl)
theorem dX6_leastOf_80 : decode cX6_leastOf 80 = .ok (.invokevirtual 136, 3) := dk_182 0 136 (dk_at dksX6_leastOf_3 8 rfl rfl)
theorem dX6_leastOf_83 : decode cX6_leastOf 83 = .ok (.ifCond .eq 7, 3) := dk_153 0 7 (dk_at dksX6_leastOf_3 11 rfl rfl)
theorem dX6_leastOf_86 : decode cX6_leastOf 86 = .ok (.iconst 0, 1) := dk_3 (dk_at dksX6_leastOf_3 14 rfl rfl)
theorem dX6_leastOf_87 : decode cX6_leastOf 87 = .ok (.goto 9, 3) := dk_167 0 9 (dk_at dksX6_leastOf_3 15 rfl rfl)
theorem dX6_leastOf_90 : decode cX6_leastOf 90 = .ok (.aload_n 0, 1) := dk_42 (dk_at dksX6_leastOf_3 18 rfl rfl)
theorem dX6_leastOf_91 : decode cX6_leastOf 91 = .ok (.getfield 46, 3) := dk_180 0 46 (dk_at dksX6_leastOf_3 19 rfl rfl)
theorem dX6_leastOf_94 : decode cX6_leastOf 94 = .ok (.iload_n 3, 1) := dk_29 (dk_at dksX6_leastOf_3 22 rfl rfl)
theorem dX6_leastOf_95 : decode cX6_leastOf 95 = .ok (.iaload, 1) := dk_46 (dk_at dksX6_leastOf_3 23 rfl rfl)
theorem dX6_leastOf_96 : decode cX6_leastOf 96 = .ok (.iadd, 1) := dk_96 (dk_at dksX6_leastOf_4 0 rfl rfl)
theorem dX6_leastOf_97 : decode cX6_leastOf 97 = .ok (.iastore, 1) := dk_79 (dk_at dksX6_leastOf_4 1 rfl rfl)
theorem dX6_leastOf_98 : decode cX6_leastOf 98 = .ok (.iinc 4 1, 3) := dk_132 4 1 (dk_at dksX6_leastOf_4 2 rfl rfl)
theorem dX6_leastOf_101 : decode cX6_leastOf 101 = .ok (.goto (-51), 3) := dk_167 255 205 (dk_at dksX6_leastOf_4 5 rfl rfl)
theorem dX6_leastOf_104 : decode cX6_leastOf 104 = .ok (.iinc 2 (-1), 3) := dk_132 2 255 (dk_at dksX6_leastOf_4 8 rfl rfl)
theorem dX6_leastOf_107 : decode cX6_leastOf 107 = .ok (.goto (-75), 3) := dk_167 255 181 (dk_at dksX6_leastOf_4 11 rfl rfl)
theorem dX6_leastOf_110 : decode cX6_leastOf 110 = .ok (.iload_n 1, 1) := dk_27 (dk_at dksX6_leastOf_4 14 rfl rfl)
theorem dX6_leastOf_111 : decode cX6_leastOf 111 = .ok (.ifCond .ne 5, 3) := dk_154 0 5 (dk_at dksX6_leastOf_4 15 rfl rfl)
theorem dX6_leastOf_114 : decode cX6_leastOf 114 = .ok (.iconst 0, 1) := dk_3 (dk_at dksX6_leastOf_4 18 rfl rfl)
theorem dX6_leastOf_115 : decode cX6_leastOf 115 = .ok (.ireturn, 1) := dk_172 (dk_at dksX6_leastOf_4 19 rfl rfl)
theorem dX6_leastOf_116 : decode cX6_leastOf 116 = .ok (.aload_n 0, 1) := dk_42 (dk_at dksX6_leastOf_4 20 rfl rfl)
theorem dX6_leastOf_117 : decode cX6_leastOf 117 = .ok (.invokevirtual 132, 3) := dk_182 0 132 (dk_at dksX6_leastOf_4 21 rfl rfl)
theorem dX6_leastOf_120 : decode cX6_leastOf 120 = .ok (.istore_n 2, 1) := dk_61 (dk_at dksX6_leastOf_5 0 rfl rfl)
theorem dX6_leastOf_121 : decode cX6_leastOf 121 = .ok (.iload_n 2, 1) := dk_28 (dk_at dksX6_leastOf_5 1 rfl rfl)
theorem dX6_leastOf_122 : decode cX6_leastOf 122 = .ok (.iconst 1, 1) := dk_4 (dk_at dksX6_leastOf_5 2 rfl rfl)
theorem dX6_leastOf_123 : decode cX6_leastOf 123 = .ok (.aload_n 0, 1) := dk_42 (dk_at dksX6_leastOf_5 3 rfl rfl)
theorem dX6_leastOf_124 : decode cX6_leastOf 124 = .ok (.getfield 55, 3) := dk_180 0 55 (dk_at dksX6_leastOf_5 4 rfl rfl)
theorem dX6_leastOf_127 : decode cX6_leastOf 127 = .ok (.iconst 0, 1) := dk_3 (dk_at dksX6_leastOf_5 7 rfl rfl)
theorem dX6_leastOf_128 : decode cX6_leastOf 128 = .ok (.iaload, 1) := dk_46 (dk_at dksX6_leastOf_5 8 rfl rfl)
theorem dX6_leastOf_129 : decode cX6_leastOf 129 = .ok (.ishl, 1) := dk_120 (dk_at dksX6_leastOf_5 9 rfl rfl)
theorem dX6_leastOf_130 : decode cX6_leastOf 130 = .ok (.ior, 1) := dk_128 (dk_at dksX6_leastOf_5 10 rfl rfl)
theorem dX6_leastOf_131 : decode cX6_leastOf 131 = .ok (.istore_n 3, 1) := dk_62 (dk_at dksX6_leastOf_5 11 rfl rfl)
theorem dX6_leastOf_132 : decode cX6_leastOf 132 = .ok (.iconst 0, 1) := dk_3 (dk_at dksX6_leastOf_5 12 rfl rfl)
theorem dX6_leastOf_133 : decode cX6_leastOf 133 = .ok (.istore 4, 2) := dk_54 4 (dk_at dksX6_leastOf_5 13 rfl rfl)
theorem dX6_leastOf_135 : decode cX6_leastOf 135 = .ok (.iload 4, 2) := dk_21 4 (dk_at dksX6_leastOf_5 15 rfl rfl)
theorem dX6_leastOf_137 : decode cX6_leastOf 137 = .ok (.aload_n 0, 1) := dk_42 (dk_at dksX6_leastOf_5 17 rfl rfl)
theorem dX6_leastOf_138 : decode cX6_leastOf 138 = .ok (.invokevirtual 201, 3) := dk_182 0 201 (dk_at dksX6_leastOf_5 18 rfl rfl)
theorem dX6_leastOf_141 : decode cX6_leastOf 141 = .ok (.if_icmp .ge 85, 3) := dk_162 0 85 (dk_at dksX6_leastOf_5 21 rfl rfl)
theorem dX6_leastOf_144 : decode cX6_leastOf 144 = .ok (.iload 4, 2) := dk_21 4 (dk_at dksX6_leastOf_6 0 rfl rfl)
theorem dX6_leastOf_146 : decode cX6_leastOf 146 = .ok (.iload_n 3, 1) := dk_29 (dk_at dksX6_leastOf_6 2 rfl rfl)
theorem dX6_leastOf_147 : decode cX6_leastOf 147 = .ok (.iconst (-1), 1) := dk_2 (dk_at dksX6_leastOf_6 3 rfl rfl)
theorem dX6_leastOf_148 : decode cX6_leastOf 148 = .ok (.ixor, 1) := dk_130 (dk_at dksX6_leastOf_6 4 rfl rfl)
theorem dX6_leastOf_149 : decode cX6_leastOf 149 = .ok (.iand, 1) := dk_126 (dk_at dksX6_leastOf_6 5 rfl rfl)
theorem dX6_leastOf_150 : decode cX6_leastOf 150 = .ok (.ifCond .ne 23, 3) := dk_154 0 23 (dk_at dksX6_leastOf_6 6 rfl rfl)
theorem dX6_leastOf_153 : decode cX6_leastOf 153 = .ok (.aload_n 0, 1) := dk_42 (dk_at dksX6_leastOf_6 9 rfl rfl)
theorem dX6_leastOf_154 : decode cX6_leastOf 154 = .ok (.getfield 49, 3) := dk_180 0 49 (dk_at dksX6_leastOf_6 10 rfl rfl)
theorem dX6_leastOf_157 : decode cX6_leastOf 157 = .ok (.iload 4, 2) := dk_21 4 (dk_at dksX6_leastOf_6 13 rfl rfl)
theorem dX6_leastOf_159 : decode cX6_leastOf 159 = .ok (.iaload, 1) := dk_46 (dk_at dksX6_leastOf_6 15 rfl rfl)
theorem dX6_leastOf_160 : decode cX6_leastOf 160 = .ok (.aload_n 0, 1) := dk_42 (dk_at dksX6_leastOf_6 16 rfl rfl)
theorem dX6_leastOf_161 : decode cX6_leastOf 161 = .ok (.getfield 7, 3) := dk_180 0 7 (dk_at dksX6_leastOf_6 17 rfl rfl)
theorem dX6_leastOf_164 : decode cX6_leastOf 164 = .ok (.iconst 3, 1) := dk_6 (dk_at dksX6_leastOf_6 20 rfl rfl)
theorem dX6_leastOf_165 : decode cX6_leastOf 165 = .ok (.iaload, 1) := dk_46 (dk_at dksX6_leastOf_6 21 rfl rfl)
theorem dX6_leastOf_166 : decode cX6_leastOf 166 = .ok (.if_icmp .gt 7, 3) := dk_163 0 7 (dk_at dksX6_leastOf_7 0 rfl rfl)
theorem dX6_leastOf_169 : decode cX6_leastOf 169 = .ok (.iconst 1, 1) := dk_4 (dk_at dksX6_leastOf_7 3 rfl rfl)
theorem dX6_leastOf_170 : decode cX6_leastOf 170 = .ok (.goto 4, 3) := dk_167 0 4 (dk_at dksX6_leastOf_7 4 rfl rfl)
theorem dX6_leastOf_173 : decode cX6_leastOf 173 = .ok (.iconst 0, 1) := dk_3 (dk_at dksX6_leastOf_7 7 rfl rfl)
theorem dX6_leastOf_174 : decode cX6_leastOf 174 = .ok (.istore 5, 2) := dk_54 5 (dk_at dksX6_leastOf_7 8 rfl rfl)
theorem dX6_leastOf_176 : decode cX6_leastOf 176 = .ok (.aload_n 0, 1) := dk_42 (dk_at dksX6_leastOf_7 10 rfl rfl)
theorem dX6_leastOf_177 : decode cX6_leastOf 177 = .ok (.iload 5, 2) := dk_21 5 (dk_at dksX6_leastOf_7 11 rfl rfl)
theorem dX6_leastOf_179 : decode cX6_leastOf 179 = .ok (.ifCond .eq 34, 3) := dk_153 0 34 (dk_at dksX6_leastOf_7 13 rfl rfl)
theorem dX6_leastOf_182 : decode cX6_leastOf 182 = .ok (.aload_n 0, 1) := dk_42 (dk_at dksX6_leastOf_7 16 rfl rfl)
theorem dX6_leastOf_183 : decode cX6_leastOf 183 = .ok (.getfield 205, 3) := dk_180 0 205 (dk_at dksX6_leastOf_7 17 rfl rfl)
theorem dX6_leastOf_186 : decode cX6_leastOf 186 = .ok (.ifCond .lt 22, 3) := dk_155 0 22 (dk_at dksX6_leastOf_7 20 rfl rfl)
theorem dX6_leastOf_189 : decode cX6_leastOf 189 = .ok (.aload_n 0, 1) := dk_42 (dk_at dksX6_leastOf_7 23 rfl rfl)
theorem dX6_leastOf_190 : decode cX6_leastOf 190 = .ok (.getfield 58, 3) := dk_180 0 58 (dk_at dksX6_leastOf_8 0 rfl rfl)
theorem dX6_leastOf_193 : decode cX6_leastOf 193 = .ok (.iload 4, 2) := dk_21 4 (dk_at dksX6_leastOf_8 3 rfl rfl)
theorem dX6_leastOf_195 : decode cX6_leastOf 195 = .ok (.iaload, 1) := dk_46 (dk_at dksX6_leastOf_8 5 rfl rfl)
theorem dX6_leastOf_196 : decode cX6_leastOf 196 = .ok (.aload_n 0, 1) := dk_42 (dk_at dksX6_leastOf_8 6 rfl rfl)
theorem dX6_leastOf_197 : decode cX6_leastOf 197 = .ok (.getfield 58, 3) := dk_180 0 58 (dk_at dksX6_leastOf_8 7 rfl rfl)
theorem dX6_leastOf_200 : decode cX6_leastOf 200 = .ok (.aload_n 0, 1) := dk_42 (dk_at dksX6_leastOf_8 10 rfl rfl)
theorem dX6_leastOf_201 : decode cX6_leastOf 201 = .ok (.getfield 205, 3) := dk_180 0 205 (dk_at dksX6_leastOf_8 11 rfl rfl)
theorem dX6_leastOf_204 : decode cX6_leastOf 204 = .ok (.iaload, 1) := dk_46 (dk_at dksX6_leastOf_8 14 rfl rfl)
theorem dX6_leastOf_205 : decode cX6_leastOf 205 = .ok (.if_icmp .ge 8, 3) := dk_162 0 8 (dk_at dksX6_leastOf_8 15 rfl rfl)
theorem dX6_leastOf_208 : decode cX6_leastOf 208 = .ok (.iload 4, 2) := dk_21 4 (dk_at dksX6_leastOf_8 18 rfl rfl)
theorem dX6_leastOf_210 : decode cX6_leastOf 210 = .ok (.goto 7, 3) := dk_167 0 7 (dk_at dksX6_leastOf_8 20 rfl rfl)
theorem dX6_leastOf_213 : decode cX6_leastOf 213 = .ok (.aload_n 0, 1) := dk_42 (dk_at dksX6_leastOf_8 23 rfl rfl)
theorem dX6_leastOf_214 : decode cX6_leastOf 214 = .ok (.getfield 205, 3) := dk_180 0 205 (dk_at dksX6_leastOf_9 0 rfl rfl)
theorem dX6_leastOf_217 : decode cX6_leastOf 217 = .ok (.putfield 205, 3) := dk_181 0 205 (dk_at dksX6_leastOf_9 3 rfl rfl)
theorem dX6_leastOf_220 : decode cX6_leastOf 220 = .ok (.iinc 4 1, 3) := dk_132 4 1 (dk_at dksX6_leastOf_9 6 rfl rfl)
theorem dX6_leastOf_223 : decode cX6_leastOf 223 = .ok (.goto (-88), 3) := dk_167 255 168 (dk_at dksX6_leastOf_9 9 rfl rfl)
theorem dX6_leastOf_226 : decode cX6_leastOf 226 = .ok (.aload_n 0, 1) := dk_42 (dk_at dksX6_leastOf_9 12 rfl rfl)
theorem dX6_leastOf_227 : decode cX6_leastOf 227 = .ok (.getfield 58, 3) := dk_180 0 58 (dk_at dksX6_leastOf_9 13 rfl rfl)
theorem dX6_leastOf_230 : decode cX6_leastOf 230 = .ok (.aload_n 0, 1) := dk_42 (dk_at dksX6_leastOf_9 16 rfl rfl)
theorem dX6_leastOf_231 : decode cX6_leastOf 231 = .ok (.getfield 205, 3) := dk_180 0 205 (dk_at dksX6_leastOf_9 17 rfl rfl)
theorem dX6_leastOf_234 : decode cX6_leastOf 234 = .ok (.iaload, 1) := dk_46 (dk_at dksX6_leastOf_9 20 rfl rfl)
theorem dX6_leastOf_235 : decode cX6_leastOf 235 = .ok (.aload_n 0, 1) := dk_42 (dk_at dksX6_leastOf_9 21 rfl rfl)
theorem dX6_leastOf_236 : decode cX6_leastOf 236 = .ok (.iload_n 2, 1) := dk_28 (dk_at dksX6_leastOf_9 22 rfl rfl)
theorem dX6_leastOf_237 : decode cX6_leastOf 237 = .ok (.aload_n 0, 1) := dk_42 (dk_at dksX6_leastOf_9 23 rfl rfl)
theorem dX6_leastOf_238 : decode cX6_leastOf 238 = .ok (.getfield 55, 3) := dk_180 0 55 (dk_at dksX6_leastOf_10 0 rfl rfl)
theorem dX6_leastOf_241 : decode cX6_leastOf 241 = .ok (.iconst 0, 1) := dk_3 (dk_at dksX6_leastOf_10 3 rfl rfl)
theorem dX6_leastOf_242 : decode cX6_leastOf 242 = .ok (.iaload, 1) := dk_46 (dk_at dksX6_leastOf_10 4 rfl rfl)
theorem dX6_leastOf_243 : decode cX6_leastOf 243 = .ok (.invokevirtual 136, 3) := dk_182 0 136 (dk_at dksX6_leastOf_10 5 rfl rfl)
theorem dX6_leastOf_246 : decode cX6_leastOf 246 = .ok (.ifCond .eq 7, 3) := dk_153 0 7 (dk_at dksX6_leastOf_10 8 rfl rfl)
theorem dX6_leastOf_249 : decode cX6_leastOf 249 = .ok (.iconst 0, 1) := dk_3 (dk_at dksX6_leastOf_10 11 rfl rfl)
theorem dX6_leastOf_250 : decode cX6_leastOf 250 = .ok (.goto 14, 3) := dk_167 0 14 (dk_at dksX6_leastOf_10 12 rfl rfl)
theorem dX6_leastOf_253 : decode cX6_leastOf 253 = .ok (.aload_n 0, 1) := dk_42 (dk_at dksX6_leastOf_10 15 rfl rfl)
theorem dX6_leastOf_254 : decode cX6_leastOf 254 = .ok (.getfield 46, 3) := dk_180 0 46 (dk_at dksX6_leastOf_10 16 rfl rfl)
theorem dX6_leastOf_257 : decode cX6_leastOf 257 = .ok (.aload_n 0, 1) := dk_42 (dk_at dksX6_leastOf_10 19 rfl rfl)
theorem dX6_leastOf_258 : decode cX6_leastOf 258 = .ok (.getfield 55, 3) := dk_180 0 55 (dk_at dksX6_leastOf_10 20 rfl rfl)
theorem dX6_leastOf_261 : decode cX6_leastOf 261 = .ok (.iconst 0, 1) := dk_3 (dk_at dksX6_leastOf_10 23 rfl rfl)
theorem dX6_leastOf_262 : decode cX6_leastOf 262 = .ok (.iaload, 1) := dk_46 (dk_at dksX6_leastOf_11 0 rfl rfl)
theorem dX6_leastOf_263 : decode cX6_leastOf 263 = .ok (.iaload, 1) := dk_46 (dk_at dksX6_leastOf_11 1 rfl rfl)
theorem dX6_leastOf_264 : decode cX6_leastOf 264 = .ok (.iadd, 1) := dk_96 (dk_at dksX6_leastOf_11 2 rfl rfl)
theorem dX6_leastOf_265 : decode cX6_leastOf 265 = .ok (.ireturn, 1) := dk_172 (dk_at dksX6_leastOf_11 3 rfl rfl)
abbrev cX6_lookWithin : ByteArray := prog_19_method_53_code
def yX6_lookWithin : MethodName := ⟨RX6, "lookWithin", "()V"⟩
def dkwX6_lookWithin_5 : List UInt8 := [177]
abbrev dktX6_lookWithin_5 : List UInt8 := dkwX6_lookWithin_5 ++ []
def dkwX6_lookWithin_4 : List UInt8 := [167, 0, 4, 28, 61, 132, 3, 1, 167, 255, 193, 42, 180, 0, 61, 27, 28, 79, 132, 1, 1, 167, 255, 143]
abbrev dktX6_lookWithin_4 : List UInt8 := dkwX6_lookWithin_4 ++ dktX6_lookWithin_5
def dkwX6_lookWithin_3 : List UInt8 := [42, 180, 0, 61, 27, 4, 29, 120, 130, 46, 28, 162, 0, 16, 42, 180, 0, 61, 27, 4, 29, 120, 130, 46]
abbrev dktX6_lookWithin_3 : List UInt8 := dkwX6_lookWithin_3 ++ dktX6_lookWithin_4
def dkwX6_lookWithin_2 : List UInt8 := [162, 0, 59, 27, 29, 122, 4, 126, 4, 160, 0, 7, 4, 167, 0, 4, 3, 54, 4, 21, 4, 153, 0, 30]
abbrev dktX6_lookWithin_2 : List UInt8 := dkwX6_lookWithin_2 ++ dktX6_lookWithin_3
def dkwX6_lookWithin_1 : List UInt8 := [163, 0, 12, 42, 180, 0, 58, 27, 46, 167, 0, 5, 18, 204, 61, 3, 62, 29, 42, 180, 0, 7, 3, 46]
abbrev dktX6_lookWithin_1 : List UInt8 := dkwX6_lookWithin_1 ++ dktX6_lookWithin_2
def dkwX6_lookWithin_0 : List UInt8 := [3, 60, 27, 42, 182, 0, 201, 162, 0, 111, 42, 180, 0, 49, 27, 46, 42, 180, 0, 7, 6, 46]
abbrev dktX6_lookWithin_0 : List UInt8 := dkwX6_lookWithin_0 ++ dktX6_lookWithin_1
theorem dksX6_lookWithin_0 : cX6_lookWithin.data.toList.drop 0 = dktX6_lookWithin_0 := by decide +kernel
theorem dksX6_lookWithin_1 : cX6_lookWithin.data.toList.drop 22 = dktX6_lookWithin_1 := dk_seg dksX6_lookWithin_0 22 rfl rfl
theorem dksX6_lookWithin_2 : cX6_lookWithin.data.toList.drop 46 = dktX6_lookWithin_2 := dk_seg dksX6_lookWithin_1 24 rfl rfl
theorem dksX6_lookWithin_3 : cX6_lookWithin.data.toList.drop 70 = dktX6_lookWithin_3 := dk_seg dksX6_lookWithin_2 24 rfl rfl
theorem dksX6_lookWithin_4 : cX6_lookWithin.data.toList.drop 94 = dktX6_lookWithin_4 := dk_seg dksX6_lookWithin_3 24 rfl rfl
theorem dksX6_lookWithin_5 : cX6_lookWithin.data.toList.drop 118 = dktX6_lookWithin_5 := dk_seg dksX6_lookWithin_4 24 rfl rfl
theorem dX6_lookWithin_0 : decode cX6_lookWithin 0 = .ok (.iconst 0, 1) := dk_3 (dk_at dksX6_lookWithin_0 0 rfl rfl)
theorem dX6_lookWithin_1 : decode cX6_lookWithin 1 = .ok (.istore_n 1, 1) := dk_60 (dk_at dksX6_lookWithin_0 1 rfl rfl)
theorem dX6_lookWithin_2 : decode cX6_lookWithin 2 = .ok (.iload_n 1, 1) := dk_27 (dk_at dksX6_lookWithin_0 2 rfl rfl)
theorem dX6_lookWithin_3 : decode cX6_lookWithin 3 = .ok (.aload_n 0, 1) := dk_42 (dk_at dksX6_lookWithin_0 3 rfl rfl)
theorem dX6_lookWithin_4 : decode cX6_lookWithin 4 = .ok (.invokevirtual 201, 3) := dk_182 0 201 (dk_at dksX6_lookWithin_0 4 rfl rfl)
theorem dX6_lookWithin_7 : decode cX6_lookWithin 7 = .ok (.if_icmp .ge 111, 3) := dk_162 0 111 (dk_at dksX6_lookWithin_0 7 rfl rfl)
theorem dX6_lookWithin_10 : decode cX6_lookWithin 10 = .ok (.aload_n 0, 1) := dk_42 (dk_at dksX6_lookWithin_0 10 rfl rfl)
theorem dX6_lookWithin_11 : decode cX6_lookWithin 11 = .ok (.getfield 49, 3) := dk_180 0 49 (dk_at dksX6_lookWithin_0 11 rfl rfl)
theorem dX6_lookWithin_14 : decode cX6_lookWithin 14 = .ok (.iload_n 1, 1) := dk_27 (dk_at dksX6_lookWithin_0 14 rfl rfl)
theorem dX6_lookWithin_15 : decode cX6_lookWithin 15 = .ok (.iaload, 1) := dk_46 (dk_at dksX6_lookWithin_0 15 rfl rfl)
theorem dX6_lookWithin_16 : decode cX6_lookWithin 16 = .ok (.aload_n 0, 1) := dk_42 (dk_at dksX6_lookWithin_0 16 rfl rfl)
theorem dX6_lookWithin_17 : decode cX6_lookWithin 17 = .ok (.getfield 7, 3) := dk_180 0 7 (dk_at dksX6_lookWithin_0 17 rfl rfl)
theorem dX6_lookWithin_20 : decode cX6_lookWithin 20 = .ok (.iconst 3, 1) := dk_6 (dk_at dksX6_lookWithin_0 20 rfl rfl)
theorem dX6_lookWithin_21 : decode cX6_lookWithin 21 = .ok (.iaload, 1) := dk_46 (dk_at dksX6_lookWithin_0 21 rfl rfl)
theorem dX6_lookWithin_22 : decode cX6_lookWithin 22 = .ok (.if_icmp .gt 12, 3) := dk_163 0 12 (dk_at dksX6_lookWithin_1 0 rfl rfl)
theorem dX6_lookWithin_25 : decode cX6_lookWithin 25 = .ok (.aload_n 0, 1) := dk_42 (dk_at dksX6_lookWithin_1 3 rfl rfl)
theorem dX6_lookWithin_26 : decode cX6_lookWithin 26 = .ok (.getfield 58, 3) := dk_180 0 58 (dk_at dksX6_lookWithin_1 4 rfl rfl)
theorem dX6_lookWithin_29 : decode cX6_lookWithin 29 = .ok (.iload_n 1, 1) := dk_27 (dk_at dksX6_lookWithin_1 7 rfl rfl)
theorem dX6_lookWithin_30 : decode cX6_lookWithin 30 = .ok (.iaload, 1) := dk_46 (dk_at dksX6_lookWithin_1 8 rfl rfl)
theorem dX6_lookWithin_31 : decode cX6_lookWithin 31 = .ok (.goto 5, 3) := dk_167 0 5 (dk_at dksX6_lookWithin_1 9 rfl rfl)
theorem dX6_lookWithin_34 : decode cX6_lookWithin 34 = .ok (.ldc 204, 2) := dk_18 204 (dk_at dksX6_lookWithin_1 12 rfl rfl)
theorem dX6_lookWithin_36 : decode cX6_lookWithin 36 = .ok (.istore_n 2, 1) := dk_61 (dk_at dksX6_lookWithin_1 14 rfl rfl)
theorem dX6_lookWithin_37 : decode cX6_lookWithin 37 = .ok (.iconst 0, 1) := dk_3 (dk_at dksX6_lookWithin_1 15 rfl rfl)
theorem dX6_lookWithin_38 : decode cX6_lookWithin 38 = .ok (.istore_n 3, 1) := dk_62 (dk_at dksX6_lookWithin_1 16 rfl rfl)
theorem dX6_lookWithin_39 : decode cX6_lookWithin 39 = .ok (.iload_n 3, 1) := dk_29 (dk_at dksX6_lookWithin_1 17 rfl rfl)
theorem dX6_lookWithin_40 : decode cX6_lookWithin 40 = .ok (.aload_n 0, 1) := dk_42 (dk_at dksX6_lookWithin_1 18 rfl rfl)
theorem dX6_lookWithin_41 : decode cX6_lookWithin 41 = .ok (.getfield 7, 3) := dk_180 0 7 (dk_at dksX6_lookWithin_1 19 rfl rfl)
theorem dX6_lookWithin_44 : decode cX6_lookWithin 44 = .ok (.iconst 0, 1) := dk_3 (dk_at dksX6_lookWithin_1 22 rfl rfl)
theorem dX6_lookWithin_45 : decode cX6_lookWithin 45 = .ok (.iaload, 1) := dk_46 (dk_at dksX6_lookWithin_1 23 rfl rfl)
theorem dX6_lookWithin_46 : decode cX6_lookWithin 46 = .ok (.if_icmp .ge 59, 3) := dk_162 0 59 (dk_at dksX6_lookWithin_2 0 rfl rfl)
theorem dX6_lookWithin_49 : decode cX6_lookWithin 49 = .ok (.iload_n 1, 1) := dk_27 (dk_at dksX6_lookWithin_2 3 rfl rfl)
theorem dX6_lookWithin_50 : decode cX6_lookWithin 50 = .ok (.iload_n 3, 1) := dk_29 (dk_at dksX6_lookWithin_2 4 rfl rfl)
theorem dX6_lookWithin_51 : decode cX6_lookWithin 51 = .ok (.ishr, 1) := dk_122 (dk_at dksX6_lookWithin_2 5 rfl rfl)
theorem dX6_lookWithin_52 : decode cX6_lookWithin 52 = .ok (.iconst 1, 1) := dk_4 (dk_at dksX6_lookWithin_2 6 rfl rfl)
theorem dX6_lookWithin_53 : decode cX6_lookWithin 53 = .ok (.iand, 1) := dk_126 (dk_at dksX6_lookWithin_2 7 rfl rfl)
theorem dX6_lookWithin_54 : decode cX6_lookWithin 54 = .ok (.iconst 1, 1) := dk_4 (dk_at dksX6_lookWithin_2 8 rfl rfl)
theorem dX6_lookWithin_55 : decode cX6_lookWithin 55 = .ok (.if_icmp .ne 7, 3) := dk_160 0 7 (dk_at dksX6_lookWithin_2 9 rfl rfl)
theorem dX6_lookWithin_58 : decode cX6_lookWithin 58 = .ok (.iconst 1, 1) := dk_4 (dk_at dksX6_lookWithin_2 12 rfl rfl)
theorem dX6_lookWithin_59 : decode cX6_lookWithin 59 = .ok (.goto 4, 3) := dk_167 0 4 (dk_at dksX6_lookWithin_2 13 rfl rfl)
theorem dX6_lookWithin_62 : decode cX6_lookWithin 62 = .ok (.iconst 0, 1) := dk_3 (dk_at dksX6_lookWithin_2 16 rfl rfl)
theorem dX6_lookWithin_63 : decode cX6_lookWithin 63 = .ok (.istore 4, 2) := dk_54 4 (dk_at dksX6_lookWithin_2 17 rfl rfl)
theorem dX6_lookWithin_65 : decode cX6_lookWithin 65 = .ok (.iload 4, 2) := dk_21 4 (dk_at dksX6_lookWithin_2 19 rfl rfl)
theorem dX6_lookWithin_67 : decode cX6_lookWithin 67 = .ok (.ifCond .eq 30, 3) := dk_153 0 30 (dk_at dksX6_lookWithin_2 21 rfl rfl)
theorem dX6_lookWithin_70 : decode cX6_lookWithin 70 = .ok (.aload_n 0, 1) := dk_42 (dk_at dksX6_lookWithin_3 0 rfl rfl)
theorem dX6_lookWithin_71 : decode cX6_lookWithin 71 = .ok (.getfield 61, 3) := dk_180 0 61 (dk_at dksX6_lookWithin_3 1 rfl rfl)
theorem dX6_lookWithin_74 : decode cX6_lookWithin 74 = .ok (.iload_n 1, 1) := dk_27 (dk_at dksX6_lookWithin_3 4 rfl rfl)
theorem dX6_lookWithin_75 : decode cX6_lookWithin 75 = .ok (.iconst 1, 1) := dk_4 (dk_at dksX6_lookWithin_3 5 rfl rfl)
theorem dX6_lookWithin_76 : decode cX6_lookWithin 76 = .ok (.iload_n 3, 1) := dk_29 (dk_at dksX6_lookWithin_3 6 rfl rfl)
theorem dX6_lookWithin_77 : decode cX6_lookWithin 77 = .ok (.ishl, 1) := dk_120 (dk_at dksX6_lookWithin_3 7 rfl rfl)
theorem dX6_lookWithin_78 : decode cX6_lookWithin 78 = .ok (.ixor, 1) := dk_130 (dk_at dksX6_lookWithin_3 8 rfl rfl)
theorem dX6_lookWithin_79 : decode cX6_lookWithin 79 = .ok (.iaload, 1) := dk_46 (dk_at dksX6_lookWithin_3 9 rfl rfl)
theorem dX6_lookWithin_80 : decode cX6_lookWithin 80 = .ok (.iload_n 2, 1) := dk_28 (dk_at dksX6_lookWithin_3 10 rfl rfl)
theorem dX6_lookWithin_81 : decode cX6_lookWithin 81 = .ok (.if_icmp .ge 16, 3) := dk_162 0 16 (dk_at dksX6_lookWithin_3 11 rfl rfl)
theorem dX6_lookWithin_84 : decode cX6_lookWithin 84 = .ok (.aload_n 0, 1) := dk_42 (dk_at dksX6_lookWithin_3 14 rfl rfl)
theorem dX6_lookWithin_85 : decode cX6_lookWithin 85 = .ok (.getfield 61, 3) := dk_180 0 61 (dk_at dksX6_lookWithin_3 15 rfl rfl)
theorem dX6_lookWithin_88 : decode cX6_lookWithin 88 = .ok (.iload_n 1, 1) := dk_27 (dk_at dksX6_lookWithin_3 18 rfl rfl)
theorem dX6_lookWithin_89 : decode cX6_lookWithin 89 = .ok (.iconst 1, 1) := dk_4 (dk_at dksX6_lookWithin_3 19 rfl rfl)
theorem dX6_lookWithin_90 : decode cX6_lookWithin 90 = .ok (.iload_n 3, 1) := dk_29 (dk_at dksX6_lookWithin_3 20 rfl rfl)
theorem dX6_lookWithin_91 : decode cX6_lookWithin 91 = .ok (.ishl, 1) := dk_120 (dk_at dksX6_lookWithin_3 21 rfl rfl)
theorem dX6_lookWithin_92 : decode cX6_lookWithin 92 = .ok (.ixor, 1) := dk_130 (dk_at dksX6_lookWithin_3 22 rfl rfl)
theorem dX6_lookWithin_93 : decode cX6_lookWithin 93 = .ok (.iaload, 1) := dk_46 (dk_at dksX6_lookWithin_3 23 rfl rfl)
theorem dX6_lookWithin_94 : decode cX6_lookWithin 94 = .ok (.goto 4, 3) := dk_167 0 4 (dk_at dksX6_lookWithin_4 0 rfl rfl)
theorem dX6_lookWithin_97 : decode cX6_lookWithin 97 = .ok (.iload_n 2, 1) := dk_28 (dk_at dksX6_lookWithin_4 3 rfl rfl)
theorem dX6_lookWithin_98 : decode cX6_lookWithin 98 = .ok (.istore_n 2, 1) := dk_61 (dk_at dksX6_lookWithin_4 4 rfl rfl)
theorem dX6_lookWithin_99 : decode cX6_lookWithin 99 = .ok (.iinc 3 1, 3) := dk_132 3 1 (dk_at dksX6_lookWithin_4 5 rfl rfl)
theorem dX6_lookWithin_102 : decode cX6_lookWithin 102 = .ok (.goto (-63), 3) := dk_167 255 193 (dk_at dksX6_lookWithin_4 8 rfl rfl)
theorem dX6_lookWithin_105 : decode cX6_lookWithin 105 = .ok (.aload_n 0, 1) := dk_42 (dk_at dksX6_lookWithin_4 11 rfl rfl)
theorem dX6_lookWithin_106 : decode cX6_lookWithin 106 = .ok (.getfield 61, 3) := dk_180 0 61 (dk_at dksX6_lookWithin_4 12 rfl rfl)
theorem dX6_lookWithin_109 : decode cX6_lookWithin 109 = .ok (.iload_n 1, 1) := dk_27 (dk_at dksX6_lookWithin_4 15 rfl rfl)
theorem dX6_lookWithin_110 : decode cX6_lookWithin 110 = .ok (.iload_n 2, 1) := dk_28 (dk_at dksX6_lookWithin_4 16 rfl rfl)
theorem dX6_lookWithin_111 : decode cX6_lookWithin 111 = .ok (.iastore, 1) := dk_79 (dk_at dksX6_lookWithin_4 17 rfl rfl)
theorem dX6_lookWithin_112 : decode cX6_lookWithin 112 = .ok (.iinc 1 1, 3) := dk_132 1 1 (dk_at dksX6_lookWithin_4 18 rfl rfl)
theorem dX6_lookWithin_115 : decode cX6_lookWithin 115 = .ok (.goto (-113), 3) := dk_167 255 143 (dk_at dksX6_lookWithin_4 21 rfl rfl)
theorem dX6_lookWithin_118 : decode cX6_lookWithin 118 = .ok (.return_, 1) := dk_177 (dk_at dksX6_lookWithin_5 0 rfl rfl)
abbrev cX6_hold : ByteArray := prog_19_method_57_code
def yX6_hold : MethodName := ⟨RX6, "hold", "(I)I"⟩
def dkwX6_hold_1 : List UInt8 := [46, 42, 180, 0, 7, 6, 46, 164, 0, 8, 18, 194, 167, 0, 8, 42, 27, 182, 0, 218, 172]
abbrev dktX6_hold_1 : List UInt8 := dkwX6_hold_1 ++ []
def dkwX6_hold_0 : List UInt8 := [27, 155, 0, 11, 27, 42, 182, 0, 201, 161, 0, 6, 18, 120, 172, 42, 182, 0, 212, 42, 180, 0, 49, 27]
abbrev dktX6_hold_0 : List UInt8 := dkwX6_hold_0 ++ dktX6_hold_1
theorem dksX6_hold_0 : cX6_hold.data.toList.drop 0 = dktX6_hold_0 := by decide +kernel
theorem dksX6_hold_1 : cX6_hold.data.toList.drop 24 = dktX6_hold_1 := dk_seg dksX6_hold_0 24 rfl rfl
theorem dX6_hold_0 : decode cX6_hold 0 = .ok (.iload_n 1, 1) := dk_27 (dk_at dksX6_hold_0 0 rfl rfl)
theorem dX6_hold_1 : decode cX6_hold 1 = .ok (.ifCond .lt 11, 3) := dk_155 0 11 (dk_at dksX6_hold_0 1 rfl rfl)
theorem dX6_hold_4 : decode cX6_hold 4 = .ok (.iload_n 1, 1) := dk_27 (dk_at dksX6_hold_0 4 rfl rfl)
theorem dX6_hold_5 : decode cX6_hold 5 = .ok (.aload_n 0, 1) := dk_42 (dk_at dksX6_hold_0 5 rfl rfl)
theorem dX6_hold_6 : decode cX6_hold 6 = .ok (.invokevirtual 201, 3) := dk_182 0 201 (dk_at dksX6_hold_0 6 rfl rfl)
theorem dX6_hold_9 : decode cX6_hold 9 = .ok (.if_icmp .lt 6, 3) := dk_161 0 6 (dk_at dksX6_hold_0 9 rfl rfl)
theorem dX6_hold_12 : decode cX6_hold 12 = .ok (.ldc 120, 2) := dk_18 120 (dk_at dksX6_hold_0 12 rfl rfl)
theorem dX6_hold_14 : decode cX6_hold 14 = .ok (.ireturn, 1) := dk_172 (dk_at dksX6_hold_0 14 rfl rfl)
theorem dX6_hold_15 : decode cX6_hold 15 = .ok (.aload_n 0, 1) := dk_42 (dk_at dksX6_hold_0 15 rfl rfl)
theorem dX6_hold_16 : decode cX6_hold 16 = .ok (.invokevirtual 212, 3) := dk_182 0 212 (dk_at dksX6_hold_0 16 rfl rfl)
theorem dX6_hold_19 : decode cX6_hold 19 = .ok (.aload_n 0, 1) := dk_42 (dk_at dksX6_hold_0 19 rfl rfl)
theorem dX6_hold_20 : decode cX6_hold 20 = .ok (.getfield 49, 3) := dk_180 0 49 (dk_at dksX6_hold_0 20 rfl rfl)
theorem dX6_hold_23 : decode cX6_hold 23 = .ok (.iload_n 1, 1) := dk_27 (dk_at dksX6_hold_0 23 rfl rfl)
theorem dX6_hold_24 : decode cX6_hold 24 = .ok (.iaload, 1) := dk_46 (dk_at dksX6_hold_1 0 rfl rfl)
theorem dX6_hold_25 : decode cX6_hold 25 = .ok (.aload_n 0, 1) := dk_42 (dk_at dksX6_hold_1 1 rfl rfl)
theorem dX6_hold_26 : decode cX6_hold 26 = .ok (.getfield 7, 3) := dk_180 0 7 (dk_at dksX6_hold_1 2 rfl rfl)
theorem dX6_hold_29 : decode cX6_hold 29 = .ok (.iconst 3, 1) := dk_6 (dk_at dksX6_hold_1 5 rfl rfl)
theorem dX6_hold_30 : decode cX6_hold 30 = .ok (.iaload, 1) := dk_46 (dk_at dksX6_hold_1 6 rfl rfl)
theorem dX6_hold_31 : decode cX6_hold 31 = .ok (.if_icmp .le 8, 3) := dk_164 0 8 (dk_at dksX6_hold_1 7 rfl rfl)
theorem dX6_hold_34 : decode cX6_hold 34 = .ok (.ldc 194, 2) := dk_18 194 (dk_at dksX6_hold_1 10 rfl rfl)
theorem dX6_hold_36 : decode cX6_hold 36 = .ok (.goto 8, 3) := dk_167 0 8 (dk_at dksX6_hold_1 12 rfl rfl)
theorem dX6_hold_39 : decode cX6_hold 39 = .ok (.aload_n 0, 1) := dk_42 (dk_at dksX6_hold_1 15 rfl rfl)
theorem dX6_hold_40 : decode cX6_hold 40 = .ok (.iload_n 1, 1) := dk_27 (dk_at dksX6_hold_1 16 rfl rfl)
theorem dX6_hold_41 : decode cX6_hold 41 = .ok (.invokevirtual 218, 3) := dk_182 0 218 (dk_at dksX6_hold_1 17 rfl rfl)
theorem dX6_hold_44 : decode cX6_hold 44 = .ok (.ireturn, 1) := dk_172 (dk_at dksX6_hold_1 20 rfl rfl)
abbrev cX6_heldBy : ByteArray := prog_19_method_56_code
def yX6_heldBy : MethodName := ⟨RX6, "heldBy", "(I)I"⟩
def dkwX6_heldBy_2 : List UInt8 := [61, 132, 3, 1, 167, 255, 208, 28, 172]
abbrev dktX6_heldBy_2 : List UInt8 := dkwX6_heldBy_2 ++ []
def dkwX6_heldBy_1 : List UInt8 := [42, 180, 0, 7, 42, 29, 182, 0, 92, 6, 96, 46, 42, 180, 0, 46, 29, 46, 104, 167, 0, 4, 3, 96]
abbrev dktX6_heldBy_1 : List UInt8 := dkwX6_heldBy_1 ++ dktX6_heldBy_2
def dkwX6_heldBy_0 : List UInt8 := [3, 61, 3, 62, 29, 42, 180, 0, 7, 3, 46, 162, 0, 44, 28, 42, 27, 29, 182, 0, 136, 153, 0, 25]
abbrev dktX6_heldBy_0 : List UInt8 := dkwX6_heldBy_0 ++ dktX6_heldBy_1
theorem dksX6_heldBy_0 : cX6_heldBy.data.toList.drop 0 = dktX6_heldBy_0 := by decide +kernel
theorem dksX6_heldBy_1 : cX6_heldBy.data.toList.drop 24 = dktX6_heldBy_1 := dk_seg dksX6_heldBy_0 24 rfl rfl
theorem dksX6_heldBy_2 : cX6_heldBy.data.toList.drop 48 = dktX6_heldBy_2 := dk_seg dksX6_heldBy_1 24 rfl rfl
theorem dX6_heldBy_0 : decode cX6_heldBy 0 = .ok (.iconst 0, 1) := dk_3 (dk_at dksX6_heldBy_0 0 rfl rfl)
theorem dX6_heldBy_1 : decode cX6_heldBy 1 = .ok (.istore_n 2, 1) := dk_61 (dk_at dksX6_heldBy_0 1 rfl rfl)
theorem dX6_heldBy_2 : decode cX6_heldBy 2 = .ok (.iconst 0, 1) := dk_3 (dk_at dksX6_heldBy_0 2 rfl rfl)
theorem dX6_heldBy_3 : decode cX6_heldBy 3 = .ok (.istore_n 3, 1) := dk_62 (dk_at dksX6_heldBy_0 3 rfl rfl)
theorem dX6_heldBy_4 : decode cX6_heldBy 4 = .ok (.iload_n 3, 1) := dk_29 (dk_at dksX6_heldBy_0 4 rfl rfl)
theorem dX6_heldBy_5 : decode cX6_heldBy 5 = .ok (.aload_n 0, 1) := dk_42 (dk_at dksX6_heldBy_0 5 rfl rfl)
theorem dX6_heldBy_6 : decode cX6_heldBy 6 = .ok (.getfield 7, 3) := dk_180 0 7 (dk_at dksX6_heldBy_0 6 rfl rfl)
theorem dX6_heldBy_9 : decode cX6_heldBy 9 = .ok (.iconst 0, 1) := dk_3 (dk_at dksX6_heldBy_0 9 rfl rfl)
theorem dX6_heldBy_10 : decode cX6_heldBy 10 = .ok (.iaload, 1) := dk_46 (dk_at dksX6_heldBy_0 10 rfl rfl)
theorem dX6_heldBy_11 : decode cX6_heldBy 11 = .ok (.if_icmp .ge 44, 3) := dk_162 0 44 (dk_at dksX6_heldBy_0 11 rfl rfl)
theorem dX6_heldBy_14 : decode cX6_heldBy 14 = .ok (.iload_n 2, 1) := dk_28 (dk_at dksX6_heldBy_0 14 rfl rfl)
theorem dX6_heldBy_15 : decode cX6_heldBy 15 = .ok (.aload_n 0, 1) := dk_42 (dk_at dksX6_heldBy_0 15 rfl rfl)
theorem dX6_heldBy_16 : decode cX6_heldBy 16 = .ok (.iload_n 1, 1) := dk_27 (dk_at dksX6_heldBy_0 16 rfl rfl)
theorem dX6_heldBy_17 : decode cX6_heldBy 17 = .ok (.iload_n 3, 1) := dk_29 (dk_at dksX6_heldBy_0 17 rfl rfl)
theorem dX6_heldBy_18 : decode cX6_heldBy 18 = .ok (.invokevirtual 136, 3) := dk_182 0 136 (dk_at dksX6_heldBy_0 18 rfl rfl)
theorem dX6_heldBy_21 : decode cX6_heldBy 21 = .ok (.ifCond .eq 25, 3) := dk_153 0 25 (dk_at dksX6_heldBy_0 21 rfl rfl)
theorem dX6_heldBy_24 : decode cX6_heldBy 24 = .ok (.aload_n 0, 1) := dk_42 (dk_at dksX6_heldBy_1 0 rfl rfl)
theorem dX6_heldBy_25 : decode cX6_heldBy 25 = .ok (.getfield 7, 3) := dk_180 0 7 (dk_at dksX6_heldBy_1 1 rfl rfl)
theorem dX6_heldBy_28 : decode cX6_heldBy 28 = .ok (.aload_n 0, 1) := dk_42 (dk_at dksX6_heldBy_1 4 rfl rfl)
theorem dX6_heldBy_29 : decode cX6_heldBy 29 = .ok (.iload_n 3, 1) := dk_29 (dk_at dksX6_heldBy_1 5 rfl rfl)
theorem dX6_heldBy_30 : decode cX6_heldBy 30 = .ok (.invokevirtual 92, 3) := dk_182 0 92 (dk_at dksX6_heldBy_1 6 rfl rfl)
theorem dX6_heldBy_33 : decode cX6_heldBy 33 = .ok (.iconst 3, 1) := dk_6 (dk_at dksX6_heldBy_1 9 rfl rfl)
theorem dX6_heldBy_34 : decode cX6_heldBy 34 = .ok (.iadd, 1) := dk_96 (dk_at dksX6_heldBy_1 10 rfl rfl)
theorem dX6_heldBy_35 : decode cX6_heldBy 35 = .ok (.iaload, 1) := dk_46 (dk_at dksX6_heldBy_1 11 rfl rfl)
theorem dX6_heldBy_36 : decode cX6_heldBy 36 = .ok (.aload_n 0, 1) := dk_42 (dk_at dksX6_heldBy_1 12 rfl rfl)
theorem dX6_heldBy_37 : decode cX6_heldBy 37 = .ok (.getfield 46, 3) := dk_180 0 46 (dk_at dksX6_heldBy_1 13 rfl rfl)
theorem dX6_heldBy_40 : decode cX6_heldBy 40 = .ok (.iload_n 3, 1) := dk_29 (dk_at dksX6_heldBy_1 16 rfl rfl)
theorem dX6_heldBy_41 : decode cX6_heldBy 41 = .ok (.iaload, 1) := dk_46 (dk_at dksX6_heldBy_1 17 rfl rfl)
theorem dX6_heldBy_42 : decode cX6_heldBy 42 = .ok (.imul, 1) := dk_104 (dk_at dksX6_heldBy_1 18 rfl rfl)
theorem dX6_heldBy_43 : decode cX6_heldBy 43 = .ok (.goto 4, 3) := dk_167 0 4 (dk_at dksX6_heldBy_1 19 rfl rfl)
theorem dX6_heldBy_46 : decode cX6_heldBy 46 = .ok (.iconst 0, 1) := dk_3 (dk_at dksX6_heldBy_1 22 rfl rfl)
theorem dX6_heldBy_47 : decode cX6_heldBy 47 = .ok (.iadd, 1) := dk_96 (dk_at dksX6_heldBy_1 23 rfl rfl)
theorem dX6_heldBy_48 : decode cX6_heldBy 48 = .ok (.istore_n 2, 1) := dk_61 (dk_at dksX6_heldBy_2 0 rfl rfl)
theorem dX6_heldBy_49 : decode cX6_heldBy 49 = .ok (.iinc 3 1, 3) := dk_132 3 1 (dk_at dksX6_heldBy_2 1 rfl rfl)
theorem dX6_heldBy_52 : decode cX6_heldBy 52 = .ok (.goto (-48), 3) := dk_167 255 208 (dk_at dksX6_heldBy_2 4 rfl rfl)
theorem dX6_heldBy_55 : decode cX6_heldBy 55 = .ok (.iload_n 2, 1) := dk_28 (dk_at dksX6_heldBy_2 7 rfl rfl)
theorem dX6_heldBy_56 : decode cX6_heldBy 56 = .ok (.ireturn, 1) := dk_172 (dk_at dksX6_heldBy_2 8 rfl rfl)
abbrev cX6_best : ByteArray := prog_19_method_59_code
def yX6_best : MethodName := ⟨RX6, "best", "(I)I"⟩
def dkwX6_best_1 : List UInt8 := [154, 0, 11, 42, 28, 182, 0, 218, 167, 0, 4, 28, 172]
abbrev dktX6_best_1 : List UInt8 := dkwX6_best_1 ++ []
def dkwX6_best_0 : List UInt8 := [27, 133, 9, 10, 184, 0, 83, 154, 0, 6, 18, 120, 172, 42, 182, 0, 212, 42, 3, 182, 0, 221, 61, 27]
abbrev dktX6_best_0 : List UInt8 := dkwX6_best_0 ++ dktX6_best_1
theorem dksX6_best_0 : cX6_best.data.toList.drop 0 = dktX6_best_0 := by decide +kernel
theorem dksX6_best_1 : cX6_best.data.toList.drop 24 = dktX6_best_1 := dk_seg dksX6_best_0 24 rfl rfl
theorem dX6_best_0 : decode cX6_best 0 = .ok (.iload_n 1, 1) := dk_27 (dk_at dksX6_best_0 0 rfl rfl)
theorem dX6_best_1 : decode cX6_best 1 = .ok (.i2l, 1) := dk_133 (dk_at dksX6_best_0 1 rfl rfl)
theorem dX6_best_2 : decode cX6_best 2 = .ok (.lconst 0, 1) := dk_9 (dk_at dksX6_best_0 2 rfl rfl)
theorem dX6_best_3 : decode cX6_best 3 = .ok (.lconst 1, 1) := dk_10 (dk_at dksX6_best_0 3 rfl rfl)
theorem dX6_best_4 : decode cX6_best 4 = .ok (.invokestatic 83, 3) := dk_184 0 83 (dk_at dksX6_best_0 4 rfl rfl)
theorem dX6_best_7 : decode cX6_best 7 = .ok (.ifCond .ne 6, 3) := dk_154 0 6 (dk_at dksX6_best_0 7 rfl rfl)
theorem dX6_best_10 : decode cX6_best 10 = .ok (.ldc 120, 2) := dk_18 120 (dk_at dksX6_best_0 10 rfl rfl)
theorem dX6_best_12 : decode cX6_best 12 = .ok (.ireturn, 1) := dk_172 (dk_at dksX6_best_0 12 rfl rfl)
theorem dX6_best_13 : decode cX6_best 13 = .ok (.aload_n 0, 1) := dk_42 (dk_at dksX6_best_0 13 rfl rfl)
theorem dX6_best_14 : decode cX6_best 14 = .ok (.invokevirtual 212, 3) := dk_182 0 212 (dk_at dksX6_best_0 14 rfl rfl)
theorem dX6_best_17 : decode cX6_best 17 = .ok (.aload_n 0, 1) := dk_42 (dk_at dksX6_best_0 17 rfl rfl)
theorem dX6_best_18 : decode cX6_best 18 = .ok (.iconst 0, 1) := dk_3 (dk_at dksX6_best_0 18 rfl rfl)
theorem dX6_best_19 : decode cX6_best 19 = .ok (.invokevirtual 221, 3) := dk_182 0 221 (dk_at dksX6_best_0 19 rfl rfl)
theorem dX6_best_22 : decode cX6_best 22 = .ok (.istore_n 2, 1) := dk_61 (dk_at dksX6_best_0 22 rfl rfl)
theorem dX6_best_23 : decode cX6_best 23 = .ok (.iload_n 1, 1) := dk_27 (dk_at dksX6_best_0 23 rfl rfl)
theorem dX6_best_24 : decode cX6_best 24 = .ok (.ifCond .ne 11, 3) := dk_154 0 11 (dk_at dksX6_best_1 0 rfl rfl)
theorem dX6_best_27 : decode cX6_best 27 = .ok (.aload_n 0, 1) := dk_42 (dk_at dksX6_best_1 3 rfl rfl)
theorem dX6_best_28 : decode cX6_best 28 = .ok (.iload_n 2, 1) := dk_28 (dk_at dksX6_best_1 4 rfl rfl)
theorem dX6_best_29 : decode cX6_best 29 = .ok (.invokevirtual 218, 3) := dk_182 0 218 (dk_at dksX6_best_1 5 rfl rfl)
theorem dX6_best_32 : decode cX6_best 32 = .ok (.goto 4, 3) := dk_167 0 4 (dk_at dksX6_best_1 8 rfl rfl)
theorem dX6_best_35 : decode cX6_best 35 = .ok (.iload_n 2, 1) := dk_28 (dk_at dksX6_best_1 11 rfl rfl)
theorem dX6_best_36 : decode cX6_best 36 = .ok (.ireturn, 1) := dk_172 (dk_at dksX6_best_1 12 rfl rfl)
abbrev cX6_bestWithout : ByteArray := prog_19_method_58_code
def yX6_bestWithout : MethodName := ⟨RX6, "bestWithout", "(I)I"⟩
def dkwX6_bestWithout_3 : List UInt8 := [172]
abbrev dktX6_bestWithout_3 : List UInt8 := dkwX6_bestWithout_3 ++ []
def dkwX6_bestWithout_2 : List UInt8 := [182, 0, 218, 42, 28, 182, 0, 218, 164, 0, 7, 29, 167, 0, 4, 28, 61, 132, 3, 1, 167, 255, 193, 28]
abbrev dktX6_bestWithout_2 : List UInt8 := dkwX6_bestWithout_2 ++ dktX6_bestWithout_3
def dkwX6_bestWithout_1 : List UInt8 := [42, 180, 0, 7, 6, 46, 163, 0, 7, 4, 167, 0, 4, 3, 54, 4, 21, 4, 153, 0, 20, 42, 29]
abbrev dktX6_bestWithout_1 : List UInt8 := dkwX6_bestWithout_1 ++ dktX6_bestWithout_2
def dkwX6_bestWithout_0 : List UInt8 := [3, 61, 4, 62, 29, 42, 182, 0, 201, 162, 0, 61, 29, 27, 126, 154, 0, 22, 42, 180, 0, 49, 29, 46]
abbrev dktX6_bestWithout_0 : List UInt8 := dkwX6_bestWithout_0 ++ dktX6_bestWithout_1
theorem dksX6_bestWithout_0 : cX6_bestWithout.data.toList.drop 0 = dktX6_bestWithout_0 := by decide +kernel
theorem dksX6_bestWithout_1 : cX6_bestWithout.data.toList.drop 24 = dktX6_bestWithout_1 := dk_seg dksX6_bestWithout_0 24 rfl rfl
theorem dksX6_bestWithout_2 : cX6_bestWithout.data.toList.drop 47 = dktX6_bestWithout_2 := dk_seg dksX6_bestWithout_1 23 rfl rfl
theorem dksX6_bestWithout_3 : cX6_bestWithout.data.toList.drop 71 = dktX6_bestWithout_3 := dk_seg dksX6_bestWithout_2 24 rfl rfl
theorem dX6_bestWithout_0 : decode cX6_bestWithout 0 = .ok (.iconst 0, 1) := dk_3 (dk_at dksX6_bestWithout_0 0 rfl rfl)
theorem dX6_bestWithout_1 : decode cX6_bestWithout 1 = .ok (.istore_n 2, 1) := dk_61 (dk_at dksX6_bestWithout_0 1 rfl rfl)
theorem dX6_bestWithout_2 : decode cX6_bestWithout 2 = .ok (.iconst 1, 1) := dk_4 (dk_at dksX6_bestWithout_0 2 rfl rfl)
theorem dX6_bestWithout_3 : decode cX6_bestWithout 3 = .ok (.istore_n 3, 1) := dk_62 (dk_at dksX6_bestWithout_0 3 rfl rfl)
theorem dX6_bestWithout_4 : decode cX6_bestWithout 4 = .ok (.iload_n 3, 1) := dk_29 (dk_at dksX6_bestWithout_0 4 rfl rfl)
theorem dX6_bestWithout_5 : decode cX6_bestWithout 5 = .ok (.aload_n 0, 1) := dk_42 (dk_at dksX6_bestWithout_0 5 rfl rfl)
theorem dX6_bestWithout_6 : decode cX6_bestWithout 6 = .ok (.invokevirtual 201, 3) := dk_182 0 201 (dk_at dksX6_bestWithout_0 6 rfl rfl)
theorem dX6_bestWithout_9 : decode cX6_bestWithout 9 = .ok (.if_icmp .ge 61, 3) := dk_162 0 61 (dk_at dksX6_bestWithout_0 9 rfl rfl)
theorem dX6_bestWithout_12 : decode cX6_bestWithout 12 = .ok (.iload_n 3, 1) := dk_29 (dk_at dksX6_bestWithout_0 12 rfl rfl)
theorem dX6_bestWithout_13 : decode cX6_bestWithout 13 = .ok (.iload_n 1, 1) := dk_27 (dk_at dksX6_bestWithout_0 13 rfl rfl)
theorem dX6_bestWithout_14 : decode cX6_bestWithout 14 = .ok (.iand, 1) := dk_126 (dk_at dksX6_bestWithout_0 14 rfl rfl)
theorem dX6_bestWithout_15 : decode cX6_bestWithout 15 = .ok (.ifCond .ne 22, 3) := dk_154 0 22 (dk_at dksX6_bestWithout_0 15 rfl rfl)
theorem dX6_bestWithout_18 : decode cX6_bestWithout 18 = .ok (.aload_n 0, 1) := dk_42 (dk_at dksX6_bestWithout_0 18 rfl rfl)
theorem dX6_bestWithout_19 : decode cX6_bestWithout 19 = .ok (.getfield 49, 3) := dk_180 0 49 (dk_at dksX6_bestWithout_0 19 rfl rfl)
theorem dX6_bestWithout_22 : decode cX6_bestWithout 22 = .ok (.iload_n 3, 1) := dk_29 (dk_at dksX6_bestWithout_0 22 rfl rfl)
theorem dX6_bestWithout_23 : decode cX6_bestWithout 23 = .ok (.iaload, 1) := dk_46 (dk_at dksX6_bestWithout_0 23 rfl rfl)
theorem dX6_bestWithout_24 : decode cX6_bestWithout 24 = .ok (.aload_n 0, 1) := dk_42 (dk_at dksX6_bestWithout_1 0 rfl rfl)
theorem dX6_bestWithout_25 : decode cX6_bestWithout 25 = .ok (.getfield 7, 3) := dk_180 0 7 (dk_at dksX6_bestWithout_1 1 rfl rfl)
theorem dX6_bestWithout_28 : decode cX6_bestWithout 28 = .ok (.iconst 3, 1) := dk_6 (dk_at dksX6_bestWithout_1 4 rfl rfl)
theorem dX6_bestWithout_29 : decode cX6_bestWithout 29 = .ok (.iaload, 1) := dk_46 (dk_at dksX6_bestWithout_1 5 rfl rfl)
theorem dX6_bestWithout_30 : decode cX6_bestWithout 30 = .ok (.if_icmp .gt 7, 3) := dk_163 0 7 (dk_at dksX6_bestWithout_1 6 rfl rfl)
theorem dX6_bestWithout_33 : decode cX6_bestWithout 33 = .ok (.iconst 1, 1) := dk_4 (dk_at dksX6_bestWithout_1 9 rfl rfl)
theorem dX6_bestWithout_34 : decode cX6_bestWithout 34 = .ok (.goto 4, 3) := dk_167 0 4 (dk_at dksX6_bestWithout_1 10 rfl rfl)
theorem dX6_bestWithout_37 : decode cX6_bestWithout 37 = .ok (.iconst 0, 1) := dk_3 (dk_at dksX6_bestWithout_1 13 rfl rfl)
theorem dX6_bestWithout_38 : decode cX6_bestWithout 38 = .ok (.istore 4, 2) := dk_54 4 (dk_at dksX6_bestWithout_1 14 rfl rfl)
theorem dX6_bestWithout_40 : decode cX6_bestWithout 40 = .ok (.iload 4, 2) := dk_21 4 (dk_at dksX6_bestWithout_1 16 rfl rfl)
theorem dX6_bestWithout_42 : decode cX6_bestWithout 42 = .ok (.ifCond .eq 20, 3) := dk_153 0 20 (dk_at dksX6_bestWithout_1 18 rfl rfl)
theorem dX6_bestWithout_45 : decode cX6_bestWithout 45 = .ok (.aload_n 0, 1) := dk_42 (dk_at dksX6_bestWithout_1 21 rfl rfl)
theorem dX6_bestWithout_46 : decode cX6_bestWithout 46 = .ok (.iload_n 3, 1) := dk_29 (dk_at dksX6_bestWithout_1 22 rfl rfl)
theorem dX6_bestWithout_47 : decode cX6_bestWithout 47 = .ok (.invokevirtual 218, 3) := dk_182 0 218 (dk_at dksX6_bestWithout_2 0 rfl rfl)
theorem dX6_bestWithout_50 : decode cX6_bestWithout 50 = .ok (.aload_n 0, 1) := dk_42 (dk_at dksX6_bestWithout_2 3 rfl rfl)
theorem dX6_bestWithout_51 : decode cX6_bestWithout 51 = .ok (.iload_n 2, 1) := dk_28 (dk_at dksX6_bestWithout_2 4 rfl rfl)
theorem dX6_bestWithout_52 : decode cX6_bestWithout 52 = .ok (.invokevirtual 218, 3) := dk_182 0 218 (dk_at dksX6_bestWithout_2 5 rfl rfl)
theorem dX6_bestWithout_55 : decode cX6_bestWithout 55 = .ok (.if_icmp .le 7, 3) := dk_164 0 7 (dk_at dksX6_bestWithout_2 8 rfl rfl)
theorem dX6_bestWithout_58 : decode cX6_bestWithout 58 = .ok (.iload_n 3, 1) := dk_29 (dk_at dksX6_bestWithout_2 11 rfl rfl)
theorem dX6_bestWithout_59 : decode cX6_bestWithout 59 = .ok (.goto 4, 3) := dk_167 0 4 (dk_at dksX6_bestWithout_2 12 rfl rfl)
theorem dX6_bestWithout_62 : decode cX6_bestWithout 62 = .ok (.iload_n 2, 1) := dk_28 (dk_at dksX6_bestWithout_2 15 rfl rfl)
theorem dX6_bestWithout_63 : decode cX6_bestWithout 63 = .ok (.istore_n 2, 1) := dk_61 (dk_at dksX6_bestWithout_2 16 rfl rfl)
theorem dX6_bestWithout_64 : decode cX6_bestWithout 64 = .ok (.iinc 3 1, 3) := dk_132 3 1 (dk_at dksX6_bestWithout_2 17 rfl rfl)
theorem dX6_bestWithout_67 : decode cX6_bestWithout 67 = .ok (.goto (-63), 3) := dk_167 255 193 (dk_at dksX6_bestWithout_2 20 rfl rfl)
theorem dX6_bestWithout_70 : decode cX6_bestWithout 70 = .ok (.iload_n 2, 1) := dk_28 (dk_at dksX6_bestWithout_2 23 rfl rfl)
theorem dX6_bestWithout_71 : decode cX6_bestWithout 71 = .ok (.ireturn, 1) := dk_172 (dk_at dksX6_bestWithout_3 0 rfl rfl)
abbrev cX6_price : ByteArray := prog_19_method_60_code
def yX6_price : MethodName := ⟨RX6, "price", "(I)I"⟩
def dkwX6_price_1 : List UInt8 := [42, 42, 4, 27, 120, 182, 0, 221, 182, 0, 218, 100, 172]
abbrev dktX6_price_1 : List UInt8 := dkwX6_price_1 ++ []
def dkwX6_price_0 : List UInt8 := [42, 27, 182, 0, 116, 154, 0, 6, 18, 120, 172, 42, 182, 0, 212, 42, 42, 3, 182, 0, 221, 182, 0, 218]
abbrev dktX6_price_0 : List UInt8 := dkwX6_price_0 ++ dktX6_price_1
theorem dksX6_price_0 : cX6_price.data.toList.drop 0 = dktX6_price_0 := by decide +kernel
theorem dksX6_price_1 : cX6_price.data.toList.drop 24 = dktX6_price_1 := dk_seg dksX6_price_0 24 rfl rfl
theorem dX6_price_0 : decode cX6_price 0 = .ok (.aload_n 0, 1) := dk_42 (dk_at dksX6_price_0 0 rfl rfl)
theorem dX6_price_1 : decode cX6_price 1 = .ok (.iload_n 1, 1) := dk_27 (dk_at dksX6_price_0 1 rfl rfl)
theorem dX6_price_2 : decode cX6_price 2 = .ok (.invokevirtual 116, 3) := dk_182 0 116 (dk_at dksX6_price_0 2 rfl rfl)
theorem dX6_price_5 : decode cX6_price 5 = .ok (.ifCond .ne 6, 3) := dk_154 0 6 (dk_at dksX6_price_0 5 rfl rfl)
theorem dX6_price_8 : decode cX6_price 8 = .ok (.ldc 120, 2) := dk_18 120 (dk_at dksX6_price_0 8 rfl rfl)
theorem dX6_price_10 : decode cX6_price 10 = .ok (.ireturn, 1) := dk_172 (dk_at dksX6_price_0 10 rfl rfl)
theorem dX6_price_11 : decode cX6_price 11 = .ok (.aload_n 0, 1) := dk_42 (dk_at dksX6_price_0 11 rfl rfl)
theorem dX6_price_12 : decode cX6_price 12 = .ok (.invokevirtual 212, 3) := dk_182 0 212 (dk_at dksX6_price_0 12 rfl rfl)
theorem dX6_price_15 : decode cX6_price 15 = .ok (.aload_n 0, 1) := dk_42 (dk_at dksX6_price_0 15 rfl rfl)
theorem dX6_price_16 : decode cX6_price 16 = .ok (.aload_n 0, 1) := dk_42 (dk_at dksX6_price_0 16 rfl rfl)
theorem dX6_price_17 : decode cX6_price 17 = .ok (.iconst 0, 1) := dk_3 (dk_at dksX6_price_0 17 rfl rfl)
theorem dX6_price_18 : decode cX6_price 18 = .ok (.invokevirtual 221, 3) := dk_182 0 221 (dk_at dksX6_price_0 18 rfl rfl)
theorem dX6_price_21 : decode cX6_price 21 = .ok (.invokevirtual 218, 3) := dk_182 0 218 (dk_at dksX6_price_0 21 rfl rfl)
theorem dX6_price_24 : decode cX6_price 24 = .ok (.aload_n 0, 1) := dk_42 (dk_at dksX6_price_1 0 rfl rfl)
theorem dX6_price_25 : decode cX6_price 25 = .ok (.aload_n 0, 1) := dk_42 (dk_at dksX6_price_1 1 rfl rfl)
theorem dX6_price_26 : decode cX6_price 26 = .ok (.iconst 1, 1) := dk_4 (dk_at dksX6_price_1 2 rfl rfl)
theorem dX6_price_27 : decode cX6_price 27 = .ok (.iload_n 1, 1) := dk_27 (dk_at dksX6_price_1 3 rfl rfl)
theorem dX6_price_28 : decode cX6_price 28 = .ok (.ishl, 1) := dk_120 (dk_at dksX6_price_1 4 rfl rfl)
theorem dX6_price_29 : decode cX6_price 29 = .ok (.invokevirtual 221, 3) := dk_182 0 221 (dk_at dksX6_price_1 5 rfl rfl)
theorem dX6_price_32 : decode cX6_price 32 = .ok (.invokevirtual 218, 3) := dk_182 0 218 (dk_at dksX6_price_1 8 rfl rfl)
theorem dX6_price_35 : decode cX6_price 35 = .ok (.isub, 1) := dk_100 (dk_at dksX6_price_1 11 rfl rfl)
theorem dX6_price_36 : decode cX6_price 36 = .ok (.ireturn, 1) := dk_172 (dk_at dksX6_price_1 12 rfl rfl)
abbrev cX6_means : ByteArray := prog_19_method_63_code
def yX6_means : MethodName := ⟨RX6, "means", "(I)J"⟩
def dkwX6_means_4 : List UInt8 := [9, 167, 0, 12, 22, 5, 42, 27, 182, 0, 198, 133, 105, 97, 65, 132, 4, 1, 167, 255, 171, 32, 173]
abbrev dktX6_means_4 : List UInt8 := dkwX6_means_4 ++ []
def dkwX6_means_3 : List UInt8 := [182, 0, 92, 6, 96, 46, 133, 105, 55, 5, 132, 7, 1, 167, 255, 223, 32, 22, 5, 9, 148, 154, 0, 7]
abbrev dktX6_means_3 : List UInt8 := dkwX6_means_3 ++ dktX6_means_4
def dkwX6_means_2 : List UInt8 := [54, 7, 21, 7, 27, 162, 0, 33, 22, 5, 42, 180, 0, 7, 42, 42, 180, 0, 55, 21, 7, 46]
abbrev dktX6_means_2 : List UInt8 := dkwX6_means_2 ++ dktX6_means_3
def dkwX6_means_1 : List UInt8 := [54, 4, 21, 4, 42, 27, 182, 0, 228, 162, 0, 81, 42, 21, 4, 27, 182, 0, 231, 10, 55, 5, 3]
abbrev dktX6_means_1 : List UInt8 := dkwX6_means_1 ++ dktX6_means_2
def dkwX6_means_0 : List UInt8 := [27, 133, 10, 20, 0, 224, 184, 0, 83, 154, 0, 7, 20, 0, 226, 173, 42, 182, 0, 182, 9, 65, 3]
abbrev dktX6_means_0 : List UInt8 := dkwX6_means_0 ++ dktX6_means_1
theorem dksX6_means_0 : cX6_means.data.toList.drop 0 = dktX6_means_0 := by decide +kernel
theorem dksX6_means_1 : cX6_means.data.toList.drop 23 = dktX6_means_1 := dk_seg dksX6_means_0 23 rfl rfl
theorem dksX6_means_2 : cX6_means.data.toList.drop 46 = dktX6_means_2 := dk_seg dksX6_means_1 23 rfl rfl
theorem dksX6_means_3 : cX6_means.data.toList.drop 68 = dktX6_means_3 := dk_seg dksX6_means_2 22 rfl rfl
theorem dksX6_means_4 : cX6_means.data.toList.drop 92 = dktX6_means_4 := dk_seg dksX6_means_3 24 rfl rfl
theorem dX6_means_0 : decode cX6_means 0 = .ok (.iload_n 1, 1) := dk_27 (dk_at dksX6_means_0 0 rfl rfl)
theorem dX6_means_1 : decode cX6_means 1 = .ok (.i2l, 1) := dk_133 (dk_at dksX6_means_0 1 rfl rfl)
theorem dX6_means_2 : decode cX6_means 2 = .ok (.lconst 1, 1) := dk_10 (dk_at dksX6_means_0 2 rfl rfl)
theorem dX6_means_3 : decode cX6_means 3 = .ok (.ldc2_w 224, 3) := dk_20 0 224 (dk_at dksX6_means_0 3 rfl rfl)
theorem dX6_means_6 : decode cX6_means 6 = .ok (.invokestatic 83, 3) := dk_184 0 83 (dk_at dksX6_means_0 6 rfl rfl)
theorem dX6_means_9 : decode cX6_means 9 = .ok (.ifCond .ne 7, 3) := dk_154 0 7 (dk_at dksX6_means_0 9 rfl rfl)
theorem dX6_means_12 : decode cX6_means 12 = .ok (.ldc2_w 226, 3) := dk_20 0 226 (dk_at dksX6_means_0 12 rfl rfl)
theorem dX6_means_15 : decode cX6_means 15 = .ok (.lreturn, 1) := dk_173 (dk_at dksX6_means_0 15 rfl rfl)
theorem dX6_means_16 : decode cX6_means 16 = .ok (.aload_n 0, 1) := dk_42 (dk_at dksX6_means_0 16 rfl rfl)
theorem dX6_means_17 : decode cX6_means 17 = .ok (.invokevirtual 182, 3) := dk_182 0 182 (dk_at dksX6_means_0 17 rfl rfl)
theorem dX6_means_20 : decode cX6_means 20 = .ok (.lconst 0, 1) := dk_9 (dk_at dksX6_means_0 20 rfl rfl)
theorem dX6_means_21 : decode cX6_means 21 = .ok (.lstore_n 2, 1) := dk_65 (dk_at dksX6_means_0 21 rfl rfl)
theorem dX6_means_22 : decode cX6_means 22 = .ok (.iconst 0, 1) := dk_3 (dk_at dksX6_means_0 22 rfl rfl)
theorem dX6_means_23 : decode cX6_means 23 = .ok (.istore 4, 2) := dk_54 4 (dk_at dksX6_means_1 0 rfl rfl)
theorem dX6_means_25 : decode cX6_means 25 = .ok (.iload 4, 2) := dk_21 4 (dk_at dksX6_means_1 2 rfl rfl)
theorem dX6_means_27 : decode cX6_means 27 = .ok (.aload_n 0, 1) := dk_42 (dk_at dksX6_means_1 4 rfl rfl)
theorem dX6_means_28 : decode cX6_means 28 = .ok (.iload_n 1, 1) := dk_27 (dk_at dksX6_means_1 5 rfl rfl)
theorem dX6_means_29 : decode cX6_means 29 = .ok (.invokevirtual 228, 3) := dk_182 0 228 (dk_at dksX6_means_1 6 rfl rfl)
theorem dX6_means_32 : decode cX6_means 32 = .ok (.if_icmp .ge 81, 3) := dk_162 0 81 (dk_at dksX6_means_1 9 rfl rfl)
theorem dX6_means_35 : decode cX6_means 35 = .ok (.aload_n 0, 1) := dk_42 (dk_at dksX6_means_1 12 rfl rfl)
theorem dX6_means_36 : decode cX6_means 36 = .ok (.iload 4, 2) := dk_21 4 (dk_at dksX6_means_1 13 rfl rfl)
theorem dX6_means_38 : decode cX6_means 38 = .ok (.iload_n 1, 1) := dk_27 (dk_at dksX6_means_1 15 rfl rfl)
theorem dX6_means_39 : decode cX6_means 39 = .ok (.invokevirtual 231, 3) := dk_182 0 231 (dk_at dksX6_means_1 16 rfl rfl)
theorem dX6_means_42 : decode cX6_means 42 = .ok (.lconst 1, 1) := dk_10 (dk_at dksX6_means_1 19 rfl rfl)
theorem dX6_means_43 : decode cX6_means 43 = .ok (.lstore 5, 2) := dk_55 5 (dk_at dksX6_means_1 20 rfl rfl)
theorem dX6_means_45 : decode cX6_means 45 = .ok (.iconst 0, 1) := dk_3 (dk_at dksX6_means_1 22 rfl rfl)
theorem dX6_means_46 : decode cX6_means 46 = .ok (.istore 7, 2) := dk_54 7 (dk_at dksX6_means_2 0 rfl rfl)
theorem dX6_means_48 : decode cX6_means 48 = .ok (.iload 7, 2) := dk_21 7 (dk_at dksX6_means_2 2 rfl rfl)
theorem dX6_means_50 : decode cX6_means 50 = .ok (.iload_n 1, 1) := dk_27 (dk_at dksX6_means_2 4 rfl rfl)
theorem dX6_means_51 : decode cX6_means 51 = .ok (.if_icmp .ge 33, 3) := dk_162 0 33 (dk_at dksX6_means_2 5 rfl rfl)
theorem dX6_means_54 : decode cX6_means 54 = .ok (.lload 5, 2) := dk_22 5 (dk_at dksX6_means_2 8 rfl rfl)
theorem dX6_means_56 : decode cX6_means 56 = .ok (.aload_n 0, 1) := dk_42 (dk_at dksX6_means_2 10 rfl rfl)
theorem dX6_means_57 : decode cX6_means 57 = .ok (.getfield 7, 3) := dk_180 0 7 (dk_at dksX6_means_2 11 rfl rfl)
theorem dX6_means_60 : decode cX6_means 60 = .ok (.aload_n 0, 1) := dk_42 (dk_at dksX6_means_2 14 rfl rfl)
theorem dX6_means_61 : decode cX6_means 61 = .ok (.aload_n 0, 1) := dk_42 (dk_at dksX6_means_2 15 rfl rfl)
theorem dX6_means_62 : decode cX6_means 62 = .ok (.getfield 55, 3) := dk_180 0 55 (dk_at dksX6_means_2 16 rfl rfl)
theorem dX6_means_65 : decode cX6_means 65 = .ok (.iload 7, 2) := dk_21 7 (dk_at dksX6_means_2 19 rfl rfl)
theorem dX6_means_67 : decode cX6_means 67 = .ok (.iaload, 1) := dk_46 (dk_at dksX6_means_2 21 rfl rfl)
theorem dX6_means_68 : decode cX6_means 68 = .ok (.invokevirtual 92, 3) := dk_182 0 92 (dk_at dksX6_means_3 0 rfl rfl)
theorem dX6_means_71 : decode cX6_means 71 = .ok (.iconst 3, 1) := dk_6 (dk_at dksX6_means_3 3 rfl rfl)
theorem dX6_means_72 : decode cX6_means 72 = .ok (.iadd, 1) := dk_96 (dk_at dksX6_means_3 4 rfl rfl)
theorem dX6_means_73 : decode cX6_means 73 = .ok (.iaload, 1) := dk_46 (dk_at dksX6_means_3 5 rfl rfl)
theorem dX6_means_74 : decode cX6_means 74 = .ok (.i2l, 1) := dk_133 (dk_at dksX6_means_3 6 rfl rfl)
theorem dX6_means_75 : decode cX6_means 75 = .ok (.lmul, 1) := dk_105 (dk_at dksX6_means_3 7 rfl rfl)
theorem dX6_means_76 : decode cX6_means 76 = .ok (.lstore 5, 2) := dk_55 5 (dk_at dksX6_means_3 8 rfl rfl)
theorem dX6_means_78 : decode cX6_means 78 = .ok (.iinc 7 1, 3) := dk_132 7 1 (dk_at dksX6_means_3 10 rfl rfl)
theorem dX6_means_81 : decode cX6_means 81 = .ok (.goto (-33), 3) := dk_167 255 223 (dk_at dksX6_means_3 13 rfl rfl)
theorem dX6_means_84 : decode cX6_means 84 = .ok (.lload_n 2, 1) := dk_32 (dk_at dksX6_means_3 16 rfl rfl)
theorem dX6_means_85 : decode cX6_means 85 = .ok (.lload 5, 2) := dk_22 5 (dk_at dksX6_means_3 17 rfl rfl)
theorem dX6_means_87 : decode cX6_means 87 = .ok (.lconst 0, 1) := dk_9 (dk_at dksX6_means_3 19 rfl rfl)
theorem dX6_means_88 : decode cX6_means 88 = .ok (.lcmp, 1) := dk_148 (dk_at dksX6_means_3 20 rfl rfl)
theorem dX6_means_89 : decode cX6_means 89 = .ok (.ifCond .ne 7, 3) := dk_154 0 7 (dk_at dksX6_means_3 21 rfl rfl)
theorem dX6_means_92 : decode cX6_means 92 = .ok (.lconst 0, 1) := dk_9 (dk_at dksX6_means_4 0 rfl rfl)
theorem dX6_means_93 : decode cX6_means 93 = .ok (.goto 12, 3) := dk_167 0 12 (dk_at dksX6_means_4 1 rfl rfl)
theorem dX6_means_96 : decode cX6_means 96 = .ok (.lload 5, 2) := dk_22 5 (dk_at dksX6_means_4 4 rfl rfl)
theorem dX6_means_98 : decode cX6_means 98 = .ok (.aload_n 0, 1) := dk_42 (dk_at dksX6_means_4 6 rfl rfl)
theorem dX6_means_99 : decode cX6_means 99 = .ok (.iload_n 1, 1) := dk_27 (dk_at dksX6_means_4 7 rfl rfl)
theorem dX6_means_100 : decode cX6_means 100 = .ok (.invokevirtual 198, 3) := dk_182 0 198 (dk_at dksX6_means_4 8 rfl rfl)
theorem dX6_means_103 : decode cX6_means 103 = .ok (.i2l, 1) := dk_133 (dk_at dksX6_means_4 11 rfl rfl)
theorem dX6_means_104 : decode cX6_means 104 = .ok (.lmul, 1) := dk_105 (dk_at dksX6_means_4 12 rfl rfl)
theorem dX6_means_105 : decode cX6_means 105 = .ok (.ladd, 1) := dk_97 (dk_at dksX6_means_4 13 rfl rfl)
theorem dX6_means_106 : decode cX6_means 106 = .ok (.lstore_n 2, 1) := dk_65 (dk_at dksX6_means_4 14 rfl rfl)
theorem dX6_means_107 : decode cX6_means 107 = .ok (.iinc 4 1, 3) := dk_132 4 1 (dk_at dksX6_means_4 15 rfl rfl)
theorem dX6_means_110 : decode cX6_means 110 = .ok (.goto (-85), 3) := dk_167 255 171 (dk_at dksX6_means_4 18 rfl rfl)
theorem dX6_means_113 : decode cX6_means 113 = .ok (.lload_n 2, 1) := dk_32 (dk_at dksX6_means_4 21 rfl rfl)
theorem dX6_means_114 : decode cX6_means 114 = .ok (.lreturn, 1) := dk_173 (dk_at dksX6_means_4 22 rfl rfl)
abbrev cX6_rowsOf : ByteArray := prog_19_method_62_code
def yX6_rowsOf : MethodName := ⟨RX6, "rowsOf", "(I)I"⟩
def dkwX6_rowsOf_1 : List UInt8 := [28, 172]
abbrev dktX6_rowsOf_1 : List UInt8 := dkwX6_rowsOf_1 ++ []
def dkwX6_rowsOf_0 : List UInt8 := [4, 61, 3, 62, 29, 27, 162, 0, 18, 28, 42, 180, 0, 7, 3, 46, 104, 61, 132, 3, 1, 167, 255, 239]
abbrev dktX6_rowsOf_0 : List UInt8 := dkwX6_rowsOf_0 ++ dktX6_rowsOf_1
theorem dksX6_rowsOf_0 : cX6_rowsOf.data.toList.drop 0 = dktX6_rowsOf_0 := by decide +kernel
theorem dksX6_rowsOf_1 : cX6_rowsOf.data.toList.drop 24 = dktX6_rowsOf_1 := dk_seg dksX6_rowsOf_0 24 rfl rfl
theorem dX6_rowsOf_0 : decode cX6_rowsOf 0 = .ok (.iconst 1, 1) := dk_4 (dk_at dksX6_rowsOf_0 0 rfl rfl)
theorem dX6_rowsOf_1 : decode cX6_rowsOf 1 = .ok (.istore_n 2, 1) := dk_61 (dk_at dksX6_rowsOf_0 1 rfl rfl)
theorem dX6_rowsOf_2 : decode cX6_rowsOf 2 = .ok (.iconst 0, 1) := dk_3 (dk_at dksX6_rowsOf_0 2 rfl rfl)
theorem dX6_rowsOf_3 : decode cX6_rowsOf 3 = .ok (.istore_n 3, 1) := dk_62 (dk_at dksX6_rowsOf_0 3 rfl rfl)
theorem dX6_rowsOf_4 : decode cX6_rowsOf 4 = .ok (.iload_n 3, 1) := dk_29 (dk_at dksX6_rowsOf_0 4 rfl rfl)
theorem dX6_rowsOf_5 : decode cX6_rowsOf 5 = .ok (.iload_n 1, 1) := dk_27 (dk_at dksX6_rowsOf_0 5 rfl rfl)
theorem dX6_rowsOf_6 : decode cX6_rowsOf 6 = .ok (.if_icmp .ge 18, 3) := dk_162 0 18 (dk_at dksX6_rowsOf_0 6 rfl rfl)
theorem dX6_rowsOf_9 : decode cX6_rowsOf 9 = .ok (.iload_n 2, 1) := dk_28 (dk_at dksX6_rowsOf_0 9 rfl rfl)
theorem dX6_rowsOf_10 : decode cX6_rowsOf 10 = .ok (.aload_n 0, 1) := dk_42 (dk_at dksX6_rowsOf_0 10 rfl rfl)
theorem dX6_rowsOf_11 : decode cX6_rowsOf 11 = .ok (.getfield 7, 3) := dk_180 0 7 (dk_at dksX6_rowsOf_0 11 rfl rfl)
theorem dX6_rowsOf_14 : decode cX6_rowsOf 14 = .ok (.iconst 0, 1) := dk_3 (dk_at dksX6_rowsOf_0 14 rfl rfl)
theorem dX6_rowsOf_15 : decode cX6_rowsOf 15 = .ok (.iaload, 1) := dk_46 (dk_at dksX6_rowsOf_0 15 rfl rfl)
theorem dX6_rowsOf_16 : decode cX6_rowsOf 16 = .ok (.imul, 1) := dk_104 (dk_at dksX6_rowsOf_0 16 rfl rfl)
theorem dX6_rowsOf_17 : decode cX6_rowsOf 17 = .ok (.istore_n 2, 1) := dk_61 (dk_at dksX6_rowsOf_0 17 rfl rfl)
theorem dX6_rowsOf_18 : decode cX6_rowsOf 18 = .ok (.iinc 3 1, 3) := dk_132 3 1 (dk_at dksX6_rowsOf_0 18 rfl rfl)
theorem dX6_rowsOf_21 : decode cX6_rowsOf 21 = .ok (.goto (-17), 3) := dk_167 255 239 (dk_at dksX6_rowsOf_0 21 rfl rfl)
theorem dX6_rowsOf_24 : decode cX6_rowsOf 24 = .ok (.iload_n 2, 1) := dk_28 (dk_at dksX6_rowsOf_1 0 rfl rfl)
theorem dX6_rowsOf_25 : decode cX6_rowsOf 25 = .ok (.ireturn, 1) := dk_172 (dk_at dksX6_rowsOf_1 1 rfl rfl)
abbrev cX6_laysRow : ByteArray := prog_19_method_61_code
def yX6_laysRow : MethodName := ⟨RX6, "laysRow", "(II)V"⟩
def dkwX6_laysRow_1 : List UInt8 := [46, 112, 79, 29, 42, 180, 0, 7, 3, 46, 108, 62, 132, 4, 255, 167, 255, 224, 177]
abbrev dktX6_laysRow_1 : List UInt8 := dkwX6_laysRow_1 ++ []
def dkwX6_laysRow_0 : List UInt8 := [27, 62, 28, 4, 100, 54, 4, 21, 4, 155, 0, 33, 42, 180, 0, 55, 21, 4, 29, 42, 180, 0, 7, 3]
abbrev dktX6_laysRow_0 : List UInt8 := dkwX6_laysRow_0 ++ dktX6_laysRow_1
theorem dksX6_laysRow_0 : cX6_laysRow.data.toList.drop 0 = dktX6_laysRow_0 := by decide +kernel
theorem dksX6_laysRow_1 : cX6_laysRow.data.toList.drop 24 = dktX6_laysRow_1 := dk_seg dksX6_laysRow_0 24 rfl rfl
theorem dX6_laysRow_0 : decode cX6_laysRow 0 = .ok (.iload_n 1, 1) := dk_27 (dk_at dksX6_laysRow_0 0 rfl rfl)
theorem dX6_laysRow_1 : decode cX6_laysRow 1 = .ok (.istore_n 3, 1) := dk_62 (dk_at dksX6_laysRow_0 1 rfl rfl)
theorem dX6_laysRow_2 : decode cX6_laysRow 2 = .ok (.iload_n 2, 1) := dk_28 (dk_at dksX6_laysRow_0 2 rfl rfl)
theorem dX6_laysRow_3 : decode cX6_laysRow 3 = .ok (.iconst 1, 1) := dk_4 (dk_at dksX6_laysRow_0 3 rfl rfl)
theorem dX6_laysRow_4 : decode cX6_laysRow 4 = .ok (.isub, 1) := dk_100 (dk_at dksX6_laysRow_0 4 rfl rfl)
theorem dX6_laysRow_5 : decode cX6_laysRow 5 = .ok (.istore 4, 2) := dk_54 4 (dk_at dksX6_laysRow_0 5 rfl rfl)
theorem dX6_laysRow_7 : decode cX6_laysRow 7 = .ok (.iload 4, 2) := dk_21 4 (dk_at dksX6_laysRow_0 7 rfl rfl)
theorem dX6_laysRow_9 : decode cX6_laysRow 9 = .ok (.ifCond .lt 33, 3) := dk_155 0 33 (dk_at dksX6_laysRow_0 9 rfl rfl)
theorem dX6_laysRow_12 : decode cX6_laysRow 12 = .ok (.aload_n 0, 1) := dk_42 (dk_at dksX6_laysRow_0 12 rfl rfl)
theorem dX6_laysRow_13 : decode cX6_laysRow 13 = .ok (.getfield 55, 3) := dk_180 0 55 (dk_at dksX6_laysRow_0 13 rfl rfl)
theorem dX6_laysRow_16 : decode cX6_laysRow 16 = .ok (.iload 4, 2) := dk_21 4 (dk_at dksX6_laysRow_0 16 rfl rfl)
theorem dX6_laysRow_18 : decode cX6_laysRow 18 = .ok (.iload_n 3, 1) := dk_29 (dk_at dksX6_laysRow_0 18 rfl rfl)
theorem dX6_laysRow_19 : decode cX6_laysRow 19 = .ok (.aload_n 0, 1) := dk_42 (dk_at dksX6_laysRow_0 19 rfl rfl)
theorem dX6_laysRow_20 : decode cX6_laysRow 20 = .ok (.getfield 7, 3) := dk_180 0 7 (dk_at dksX6_laysRow_0 20 rfl rfl)
theorem dX6_laysRow_23 : decode cX6_laysRow 23 = .ok (.iconst 0, 1) := dk_3 (dk_at dksX6_laysRow_0 23 rfl rfl)
theorem dX6_laysRow_24 : decode cX6_laysRow 24 = .ok (.iaload, 1) := dk_46 (dk_at dksX6_laysRow_1 0 rfl rfl)
theorem dX6_laysRow_25 : decode cX6_laysRow 25 = .ok (.irem, 1) := dk_112 (dk_at dksX6_laysRow_1 1 rfl rfl)
theorem dX6_laysRow_26 : decode cX6_laysRow 26 = .ok (.iastore, 1) := dk_79 (dk_at dksX6_laysRow_1 2 rfl rfl)
theorem dX6_laysRow_27 : decode cX6_laysRow 27 = .ok (.iload_n 3, 1) := dk_29 (dk_at dksX6_laysRow_1 3 rfl rfl)
theorem dX6_laysRow_28 : decode cX6_laysRow 28 = .ok (.aload_n 0, 1) := dk_42 (dk_at dksX6_laysRow_1 4 rfl rfl)
theorem dX6_laysRow_29 : decode cX6_laysRow 29 = .ok (.getfield 7, 3) := dk_180 0 7 (dk_at dksX6_laysRow_1 5 rfl rfl)
theorem dX6_laysRow_32 : decode cX6_laysRow 32 = .ok (.iconst 0, 1) := dk_3 (dk_at dksX6_laysRow_1 8 rfl rfl)
theorem dX6_laysRow_33 : decode cX6_laysRow 33 = .ok (.iaload, 1) := dk_46 (dk_at dksX6_laysRow_1 9 rfl rfl)
theorem dX6_laysRow_34 : decode cX6_laysRow 34 = .ok (.idiv, 1) := dk_108 (dk_at dksX6_laysRow_1 10 rfl rfl)
theorem dX6_laysRow_35 : decode cX6_laysRow 35 = .ok (.istore_n 3, 1) := dk_62 (dk_at dksX6_laysRow_1 11 rfl rfl)
theorem dX6_laysRow_36 : decode cX6_laysRow 36 = .ok (.iinc 4 (-1), 3) := dk_132 4 255 (dk_at dksX6_laysRow_1 12 rfl rfl)
theorem dX6_laysRow_39 : decode cX6_laysRow 39 = .ok (.goto (-32), 3) := dk_167 255 224 (dk_at dksX6_laysRow_1 15 rfl rfl)
theorem dX6_laysRow_42 : decode cX6_laysRow 42 = .ok (.return_, 1) := dk_177 (dk_at dksX6_laysRow_1 18 rfl rfl)
abbrev cX6_gap : ByteArray := prog_19_method_64_code
def yX6_gap : MethodName := ⟨RX6, "gap", "(II)I"⟩
def dkwX6_gap_5 : List UInt8 := [96, 62, 21, 6, 54, 4, 132, 5, 1, 167, 255, 177, 28, 154, 0, 8, 21, 4, 167, 0, 4, 29, 172]
abbrev dktX6_gap_5 : List UInt8 := dkwX6_gap_5 ++ []
def dkwX6_gap_4 : List UInt8 := [42, 180, 0, 55, 3, 46, 167, 0, 19, 16, 10, 42, 180, 0, 55, 3, 46, 104, 42, 180, 0, 55, 4, 46]
abbrev dktX6_gap_4 : List UInt8 := dkwX6_gap_4 ++ dktX6_gap_5
def dkwX6_gap_3 : List UInt8 := [42, 27, 182, 0, 215, 100, 54, 6, 29, 155, 0, 10, 21, 6, 21, 4, 164, 0, 38, 27, 4, 160, 0, 12]
abbrev dktX6_gap_3 : List UInt8 := dkwX6_gap_3 ++ dktX6_gap_4
def dkwX6_gap_2 : List UInt8 := [54, 5, 21, 5, 42, 27, 182, 0, 228, 162, 0, 75, 42, 21, 5, 27, 182, 0, 231, 42, 27, 182, 0, 198]
abbrev dktX6_gap_2 : List UInt8 := dkwX6_gap_2 ++ dktX6_gap_3
def dkwX6_gap_1 : List UInt8 := [172, 42, 180, 0, 7, 3, 46, 154, 0, 6, 18, 82, 172, 42, 182, 0, 212, 2, 62, 3, 54, 4, 3]
abbrev dktX6_gap_1 : List UInt8 := dkwX6_gap_1 ++ dktX6_gap_2
def dkwX6_gap_0 : List UInt8 := [27, 133, 10, 20, 0, 151, 184, 0, 83, 153, 0, 13, 28, 133, 9, 10, 184, 0, 83, 154, 0, 6, 18, 120]
abbrev dktX6_gap_0 : List UInt8 := dkwX6_gap_0 ++ dktX6_gap_1
theorem dksX6_gap_0 : cX6_gap.data.toList.drop 0 = dktX6_gap_0 := by decide +kernel
theorem dksX6_gap_1 : cX6_gap.data.toList.drop 24 = dktX6_gap_1 := dk_seg dksX6_gap_0 24 rfl rfl
theorem dksX6_gap_2 : cX6_gap.data.toList.drop 47 = dktX6_gap_2 := dk_seg dksX6_gap_1 23 rfl rfl
theorem dksX6_gap_3 : cX6_gap.data.toList.drop 71 = dktX6_gap_3 := dk_seg dksX6_gap_2 24 rfl rfl
theorem dksX6_gap_4 : cX6_gap.data.toList.drop 95 = dktX6_gap_4 := dk_seg dksX6_gap_3 24 rfl rfl
theorem dksX6_gap_5 : cX6_gap.data.toList.drop 119 = dktX6_gap_5 := dk_seg dksX6_gap_4 24 rfl rfl
theorem dX6_gap_0 : decode cX6_gap 0 = .ok (.iload_n 1, 1) := dk_27 (dk_at dksX6_gap_0 0 rfl rfl)
theorem dX6_gap_1 : decode cX6_gap 1 = .ok (.i2l, 1) := dk_133 (dk_at dksX6_gap_0 1 rfl rfl)
theorem dX6_gap_2 : decode cX6_gap 2 = .ok (.lconst 1, 1) := dk_10 (dk_at dksX6_gap_0 2 rfl rfl)
theorem dX6_gap_3 : decode cX6_gap 3 = .ok (.ldc2_w 151, 3) := dk_20 0 151 (dk_at dksX6_gap_0 3 rfl rfl)
theorem dX6_gap_6 : decode cX6_gap 6 = .ok (.invokestatic 83, 3) := dk_184 0 83 (dk_at dksX6_gap_0 6 rfl rfl)
theorem dX6_gap_9 : decode cX6_gap 9 = .ok (.ifCond .eq 13, 3) := dk_153 0 13 (dk_at dksX6_gap_0 9 rfl rfl)
theorem dX6_gap_12 : decode cX6_gap 12 = .ok (.iload_n 2, 1) := dk_28 (dk_at dksX6_gap_0 12 rfl rfl)
theorem dX6_gap_13 : decode cX6_gap 13 = .ok (.i2l, 1) := dk_133 (dk_at dksX6_gap_0 13 rfl rfl)
theorem dX6_gap_14 : decode cX6_gap 14 = .ok (.lconst 0, 1) := dk_9 (dk_at dksX6_gap_0 14 rfl rfl)
theorem dX6_gap_15 : decode cX6_gap 15 = .ok (.lconst 1, 1) := dk_10 (dk_at dksX6_gap_0 15 rfl rfl)
theorem dX6_gap_16 : decode cX6_gap 16 = .ok (.invokestatic 83, 3) := dk_184 0 83 (dk_at dksX6_gap_0 16 rfl rfl)
theorem dX6_gap_19 : decode cX6_gap 19 = .ok (.ifCond .ne 6, 3) := dk_154 0 6 (dk_at dksX6_gap_0 19 rfl rfl)
theorem dX6_gap_22 : decode cX6_gap 22 = .ok (.ldc 120, 2) := dk_18 120 (dk_at dksX6_gap_0 22 rfl rfl)
theorem dX6_gap_24 : decode cX6_gap 24 = .ok (.ireturn, 1) := dk_172 (dk_at dksX6_gap_1 0 rfl rfl)
theorem dX6_gap_25 : decode cX6_gap 25 = .ok (.aload_n 0, 1) := dk_42 (dk_at dksX6_gap_1 1 rfl rfl)
theorem dX6_gap_26 : decode cX6_gap 26 = .ok (.getfield 7, 3) := dk_180 0 7 (dk_at dksX6_gap_1 2 rfl rfl)
theorem dX6_gap_29 : decode cX6_gap 29 = .ok (.iconst 0, 1) := dk_3 (dk_at dksX6_gap_1 5 rfl rfl)
theorem dX6_gap_30 : decode cX6_gap 30 = .ok (.iaload, 1) := dk_46 (dk_at dksX6_gap_1 6 rfl rfl)
theorem dX6_gap_31 : decode cX6_gap 31 = .ok (.ifCond .ne 6, 3) := dk_154 0 6 (dk_at dksX6_gap_1 7 rfl rfl)
theorem dX6_gap_34 : decode cX6_gap 34 = .ok (.ldc 82, 2) := dk_18 82 (dk_at dksX6_gap_1 10 rfl rfl)
theorem dX6_gap_36 : decode cX6_gap 36 = .ok (.ireturn, 1) := dk_172 (dk_at dksX6_gap_1 12 rfl rfl)
theorem dX6_gap_37 : decode cX6_gap 37 = .ok (.aload_n 0, 1) := dk_42 (dk_at dksX6_gap_1 13 rfl rfl)
theorem dX6_gap_38 : decode cX6_gap 38 = .ok (.invokevirtual 212, 3) := dk_182 0 212 (dk_at dksX6_gap_1 14 rfl rfl)
theorem dX6_gap_41 : decode cX6_gap 41 = .ok (.iconst (-1), 1) := dk_2 (dk_at dksX6_gap_1 17 rfl rfl)
theorem dX6_gap_42 : decode cX6_gap 42 = .ok (.istore_n 3, 1) := dk_62 (dk_at dksX6_gap_1 18 rfl rfl)
theorem dX6_gap_43 : decode cX6_gap 43 = .ok (.iconst 0, 1) := dk_3 (dk_at dksX6_gap_1 19 rfl rfl)
theorem dX6_gap_44 : decode cX6_gap 44 = .ok (.istore 4, 2) := dk_54 4 (dk_at dksX6_gap_1 20 rfl rfl)
theorem dX6_gap_46 : decode cX6_gap 46 = .ok (.iconst 0, 1) := dk_3 (dk_at dksX6_gap_1 22 rfl rfl)
theorem dX6_gap_47 : decode cX6_gap 47 = .ok (.istore 5, 2) := dk_54 5 (dk_at dksX6_gap_2 0 rfl rfl)
theorem dX6_gap_49 : decode cX6_gap 49 = .ok (.iload 5, 2) := dk_21 5 (dk_at dksX6_gap_2 2 rfl rfl)
theorem dX6_gap_51 : decode cX6_gap 51 = .ok (.aload_n 0, 1) := dk_42 (dk_at dksX6_gap_2 4 rfl rfl)
theorem dX6_gap_52 : decode cX6_gap 52 = .ok (.iload_n 1, 1) := dk_27 (dk_at dksX6_gap_2 5 rfl rfl)
theorem dX6_gap_53 : decode cX6_gap 53 = .ok (.invokevirtual 228, 3) := dk_182 0 228 (dk_at dksX6_gap_2 6 rfl rfl)
theorem dX6_gap_56 : decode cX6_gap 56 = .ok (.if_icmp .ge 75, 3) := dk_162 0 75 (dk_at dksX6_gap_2 9 rfl rfl)
theorem dX6_gap_59 : decode cX6_gap 59 = .ok (.aload_n 0, 1) := dk_42 (dk_at dksX6_gap_2 12 rfl rfl)
theorem dX6_gap_60 : decode cX6_gap 60 = .ok (.iload 5, 2) := dk_21 5 (dk_at dksX6_gap_2 13 rfl rfl)
theorem dX6_gap_62 : decode cX6_gap 62 = .ok (.iload_n 1, 1) := dk_27 (dk_at dksX6_gap_2 15 rfl rfl)
theorem dX6_gap_63 : decode cX6_gap 63 = .ok (.invokevirtual 231, 3) := dk_182 0 231 (dk_at dksX6_gap_2 16 rfl rfl)
theorem dX6_gap_66 : decode cX6_gap 66 = .ok (.aload_n 0, 1) := dk_42 (dk_at dksX6_gap_2 19 rfl rfl)
theorem dX6_gap_67 : decode cX6_gap 67 = .ok (.iload_n 1, 1) := dk_27 (dk_at dksX6_gap_2 20 rfl rfl)
theorem dX6_gap_68 : decode cX6_gap 68 = .ok (.invokevirtual 198, 3) := dk_182 0 198 (dk_at dksX6_gap_2 21 rfl rfl)
theorem dX6_gap_71 : decode cX6_gap 71 = .ok (.aload_n 0, 1) := dk_42 (dk_at dksX6_gap_3 0 rfl rfl)
theorem dX6_gap_72 : decode cX6_gap 72 = .ok (.iload_n 1, 1) := dk_27 (dk_at dksX6_gap_3 1 rfl rfl)
theorem dX6_gap_73 : decode cX6_gap 73 = .ok (.invokevirtual 215, 3) := dk_182 0 215 (dk_at dksX6_gap_3 2 rfl rfl)
theorem dX6_gap_76 : decode cX6_gap 76 = .ok (.isub, 1) := dk_100 (dk_at dksX6_gap_3 5 rfl rfl)
theorem dX6_gap_77 : decode cX6_gap 77 = .ok (.istore 6, 2) := dk_54 6 (dk_at dksX6_gap_3 6 rfl rfl)
theorem dX6_gap_79 : decode cX6_gap 79 = .ok (.iload_n 3, 1) := dk_29 (dk_at dksX6_gap_3 8 rfl rfl)
theorem dX6_gap_80 : decode cX6_gap 80 = .ok (.ifCond .lt 10, 3) := dk_155 0 10 (dk_at dksX6_gap_3 9 rfl rfl)
theorem dX6_gap_83 : decode cX6_gap 83 = .ok (.iload 6, 2) := dk_21 6 (dk_at dksX6_gap_3 12 rfl rfl)
theorem dX6_gap_85 : decode cX6_gap 85 = .ok (.iload 4, 2) := dk_21 4 (dk_at dksX6_gap_3 14 rfl rfl)
theorem dX6_gap_87 : decode cX6_gap 87 = .ok (.if_icmp .le 38, 3) := dk_164 0 38 (dk_at dksX6_gap_3 16 rfl rfl)
theorem dX6_gap_90 : decode cX6_gap 90 = .ok (.iload_n 1, 1) := dk_27 (dk_at dksX6_gap_3 19 rfl rfl)
theorem dX6_gap_91 : decode cX6_gap 91 = .ok (.iconst 1, 1) := dk_4 (dk_at dksX6_gap_3 20 rfl rfl)
theorem dX6_gap_92 : decode cX6_gap 92 = .ok (.if_icmp .ne 12, 3) := dk_160 0 12 (dk_at dksX6_gap_3 21 rfl rfl)
theorem dX6_gap_95 : decode cX6_gap 95 = .ok (.aload_n 0, 1) := dk_42 (dk_at dksX6_gap_4 0 rfl rfl)
theorem dX6_gap_96 : decode cX6_gap 96 = .ok (.getfield 55, 3) := dk_180 0 55 (dk_at dksX6_gap_4 1 rfl rfl)
theorem dX6_gap_99 : decode cX6_gap 99 = .ok (.iconst 0, 1) := dk_3 (dk_at dksX6_gap_4 4 rfl rfl)
theorem dX6_gap_100 : decode cX6_gap 100 = .ok (.iaload, 1) := dk_46 (dk_at dksX6_gap_4 5 rfl rfl)
theorem dX6_gap_101 : decode cX6_gap 101 = .ok (.goto 19, 3) := dk_167 0 19 (dk_at dksX6_gap_4 6 rfl rfl)
theorem dX6_gap_104 : decode cX6_gap 104 = .ok (.bipush 10, 2) := dk_16 10 (dk_at dksX6_gap_4 9 rfl rfl)
theorem dX6_gap_106 : decode cX6_gap 106 = .ok (.aload_n 0, 1) := dk_42 (dk_at dksX6_gap_4 11 rfl rfl)
theorem dX6_gap_107 : decode cX6_gap 107 = .ok (.getfield 55, 3) := dk_180 0 55 (dk_at dksX6_gap_4 12 rfl rfl)
theorem dX6_gap_110 : decode cX6_gap 110 = .ok (.iconst 0, 1) := dk_3 (dk_at dksX6_gap_4 15 rfl rfl)
theorem dX6_gap_111 : decode cX6_gap 111 = .ok (.iaload, 1) := dk_46 (dk_at dksX6_gap_4 16 rfl rfl)
theorem dX6_gap_112 : decode cX6_gap 112 = .ok (.imul, 1) := dk_104 (dk_at dksX6_gap_4 17 rfl rfl)
theorem dX6_gap_113 : decode cX6_gap 113 = .ok (.aload_n 0, 1) := dk_42 (dk_at dksX6_gap_4 18 rfl rfl)
theorem dX6_gap_114 : decode cX6_gap 114 = .ok (.getfield 55, 3) := dk_180 0 55 (dk_at dksX6_gap_4 19 rfl rfl)
theorem dX6_gap_117 : decode cX6_gap 117 = .ok (.iconst 1, 1) := dk_4 (dk_at dksX6_gap_4 22 rfl rfl)
theorem dX6_gap_118 : decode cX6_gap 118 = .ok (.iaload, 1) := dk_46 (dk_at dksX6_gap_4 23 rfl rfl)
theorem dX6_gap_119 : decode cX6_gap 119 = .ok (.iadd, 1) := dk_96 (dk_at dksX6_gap_5 0 rfl rfl)
theorem dX6_gap_120 : decode cX6_gap 120 = .ok (.istore_n 3, 1) := dk_62 (dk_at dksX6_gap_5 1 rfl rfl)
theorem dX6_gap_121 : decode cX6_gap 121 = .ok (.iload 6, 2) := dk_21 6 (dk_at dksX6_gap_5 2 rfl rfl)
theorem dX6_gap_123 : decode cX6_gap 123 = .ok (.istore 4, 2) := dk_54 4 (dk_at dksX6_gap_5 4 rfl rfl)
theorem dX6_gap_125 : decode cX6_gap 125 = .ok (.iinc 5 1, 3) := dk_132 5 1 (dk_at dksX6_gap_5 6 rfl rfl)
theorem dX6_gap_128 : decode cX6_gap 128 = .ok (.goto (-79), 3) := dk_167 255 177 (dk_at dksX6_gap_5 9 rfl rfl)
theorem dX6_gap_131 : decode cX6_gap 131 = .ok (.iload_n 2, 1) := dk_28 (dk_at dksX6_gap_5 12 rfl rfl)
theorem dX6_gap_132 : decode cX6_gap 132 = .ok (.ifCond .ne 8, 3) := dk_154 0 8 (dk_at dksX6_gap_5 13 rfl rfl)
theorem dX6_gap_135 : decode cX6_gap 135 = .ok (.iload 4, 2) := dk_21 4 (dk_at dksX6_gap_5 16 rfl rfl)
theorem dX6_gap_137 : decode cX6_gap 137 = .ok (.goto 4, 3) := dk_167 0 4 (dk_at dksX6_gap_5 18 rfl rfl)
theorem dX6_gap_140 : decode cX6_gap 140 = .ok (.iload_n 3, 1) := dk_29 (dk_at dksX6_gap_5 21 rfl rfl)
theorem dX6_gap_141 : decode cX6_gap 141 = .ok (.ireturn, 1) := dk_172 (dk_at dksX6_gap_5 22 rfl rfl)
abbrev cX6_feed : ByteArray := prog_19_method_65_code
def yX6_feed : MethodName := ⟨RX6, "feed", "(III)I"⟩
def dkwX6_feed_4 : List UInt8 := [180, 0, 235, 172]
abbrev dktX6_feed_4 : List UInt8 := dkwX6_feed_4 ++ []
def dkwX6_feed_3 : List UInt8 := [17, 0, 255, 126, 79, 42, 89, 180, 0, 235, 4, 96, 181, 0, 235, 132, 4, 1, 167, 255, 186, 42]
abbrev dktX6_feed_3 : List UInt8 := dkwX6_feed_3 ++ dktX6_feed_4
def dkwX6_feed_2 : List UInt8 := [29, 54, 5, 42, 180, 0, 64, 42, 180, 0, 235, 21, 5, 16, 24, 16, 8, 21, 4, 7, 112, 104, 100, 122]
abbrev dktX6_feed_2 : List UInt8 := dkwX6_feed_2 ++ dktX6_feed_3
def dkwX6_feed_1 : List UInt8 := [162, 0, 69, 21, 4, 7, 162, 0, 7, 27, 167, 0, 15, 21, 4, 16, 8, 162, 0, 7, 28, 167, 0, 4]
abbrev dktX6_feed_1 : List UInt8 := dkwX6_feed_1 ++ dktX6_feed_2
def dkwX6_feed_0 : List UInt8 := [42, 180, 0, 235, 16, 12, 96, 16, 96, 164, 0, 6, 18, 121, 172, 3, 54, 4, 21, 4, 16, 12]
abbrev dktX6_feed_0 : List UInt8 := dkwX6_feed_0 ++ dktX6_feed_1
theorem dksX6_feed_0 : cX6_feed.data.toList.drop 0 = dktX6_feed_0 := by decide +kernel
theorem dksX6_feed_1 : cX6_feed.data.toList.drop 22 = dktX6_feed_1 := dk_seg dksX6_feed_0 22 rfl rfl
theorem dksX6_feed_2 : cX6_feed.data.toList.drop 46 = dktX6_feed_2 := dk_seg dksX6_feed_1 24 rfl rfl
theorem dksX6_feed_3 : cX6_feed.data.toList.drop 70 = dktX6_feed_3 := dk_seg dksX6_feed_2 24 rfl rfl
theorem dksX6_feed_4 : cX6_feed.data.toList.drop 92 = dktX6_feed_4 := dk_seg dksX6_feed_3 22 rfl rfl
theorem dX6_feed_0 : decode cX6_feed 0 = .ok (.aload_n 0, 1) := dk_42 (dk_at dksX6_feed_0 0 rfl rfl)
theorem dX6_feed_1 : decode cX6_feed 1 = .ok (.getfield 235, 3) := dk_180 0 235 (dk_at dksX6_feed_0 1 rfl rfl)
theorem dX6_feed_4 : decode cX6_feed 4 = .ok (.bipush 12, 2) := dk_16 12 (dk_at dksX6_feed_0 4 rfl rfl)
theorem dX6_feed_6 : decode cX6_feed 6 = .ok (.iadd, 1) := dk_96 (dk_at dksX6_feed_0 6 rfl rfl)
theorem dX6_feed_7 : decode cX6_feed 7 = .ok (.bipush 96, 2) := dk_16 96 (dk_at dksX6_feed_0 7 rfl rfl)
theorem dX6_feed_9 : decode cX6_feed 9 = .ok (.if_icmp .le 6, 3) := dk_164 0 6 (dk_at dksX6_feed_0 9 rfl rfl)
theorem dX6_feed_12 : decode cX6_feed 12 = .ok (.ldc 121, 2) := dk_18 121 (dk_at dksX6_feed_0 12 rfl rfl)
theorem dX6_feed_14 : decode cX6_feed 14 = .ok (.ireturn, 1) := dk_172 (dk_at dksX6_feed_0 14 rfl rfl)
theorem dX6_feed_15 : decode cX6_feed 15 = .ok (.iconst 0, 1) := dk_3 (dk_at dksX6_feed_0 15 rfl rfl)
theorem dX6_feed_16 : decode cX6_feed 16 = .ok (.istore 4, 2) := dk_54 4 (dk_at dksX6_feed_0 16 rfl rfl)
theorem dX6_feed_18 : decode cX6_feed 18 = .ok (.iload 4, 2) := dk_21 4 (dk_at dksX6_feed_0 18 rfl rfl)
theorem dX6_feed_20 : decode cX6_feed 20 = .ok (.bipush 12, 2) := dk_16 12 (dk_at dksX6_feed_0 20 rfl rfl)
theorem dX6_feed_22 : decode cX6_feed 22 = .ok (.if_icmp .ge 69, 3) := dk_162 0 69 (dk_at dksX6_feed_1 0 rfl rfl)
theorem dX6_feed_25 : decode cX6_feed 25 = .ok (.iload 4, 2) := dk_21 4 (dk_at dksX6_feed_1 3 rfl rfl)
theorem dX6_feed_27 : decode cX6_feed 27 = .ok (.iconst 4, 1) := dk_7 (dk_at dksX6_feed_1 5 rfl rfl)
theorem dX6_feed_28 : decode cX6_feed 28 = .ok (.if_icmp .ge 7, 3) := dk_162 0 7 (dk_at dksX6_feed_1 6 rfl rfl)
theorem dX6_feed_31 : decode cX6_feed 31 = .ok (.iload_n 1, 1) := dk_27 (dk_at dksX6_feed_1 9 rfl rfl)
theorem dX6_feed_32 : decode cX6_feed 32 = .ok (.goto 15, 3) := dk_167 0 15 (dk_at dksX6_feed_1 10 rfl rfl)
theorem dX6_feed_35 : decode cX6_feed 35 = .ok (.iload 4, 2) := dk_21 4 (dk_at dksX6_feed_1 13 rfl rfl)
theorem dX6_feed_37 : decode cX6_feed 37 = .ok (.bipush 8, 2) := dk_16 8 (dk_at dksX6_feed_1 15 rfl rfl)
theorem dX6_feed_39 : decode cX6_feed 39 = .ok (.if_icmp .ge 7, 3) := dk_162 0 7 (dk_at dksX6_feed_1 17 rfl rfl)
theorem dX6_feed_42 : decode cX6_feed 42 = .ok (.iload_n 2, 1) := dk_28 (dk_at dksX6_feed_1 20 rfl rfl)
theorem dX6_feed_43 : decode cX6_feed 43 = .ok (.goto 4, 3) := dk_167 0 4 (dk_at dksX6_feed_1 21 rfl rfl)
theorem dX6_feed_46 : decode cX6_feed 46 = .ok (.iload_n 3, 1) := dk_29 (dk_at dksX6_feed_2 0 rfl rfl)
theorem dX6_feed_47 : decode cX6_feed 47 = .ok (.istore 5, 2) := dk_54 5 (dk_at dksX6_feed_2 1 rfl rfl)
theorem dX6_feed_49 : decode cX6_feed 49 = .ok (.aload_n 0, 1) := dk_42 (dk_at dksX6_feed_2 3 rfl rfl)
theorem dX6_feed_50 : decode cX6_feed 50 = .ok (.getfield 64, 3) := dk_180 0 64 (dk_at dksX6_feed_2 4 rfl rfl)
theorem dX6_feed_53 : decode cX6_feed 53 = .ok (.aload_n 0, 1) := dk_42 (dk_at dksX6_feed_2 7 rfl rfl)
theorem dX6_feed_54 : decode cX6_feed 54 = .ok (.getfield 235, 3) := dk_180 0 235 (dk_at dksX6_feed_2 8 rfl rfl)
theorem dX6_feed_57 : decode cX6_feed 57 = .ok (.iload 5, 2) := dk_21 5 (dk_at dksX6_feed_2 11 rfl rfl)
theorem dX6_feed_59 : decode cX6_feed 59 = .ok (.bipush 24, 2) := dk_16 24 (dk_at dksX6_feed_2 13 rfl rfl)
theorem dX6_feed_61 : decode cX6_feed 61 = .ok (.bipush 8, 2) := dk_16 8 (dk_at dksX6_feed_2 15 rfl rfl)
theorem dX6_feed_63 : decode cX6_feed 63 = .ok (.iload 4, 2) := dk_21 4 (dk_at dksX6_feed_2 17 rfl rfl)
theorem dX6_feed_65 : decode cX6_feed 65 = .ok (.iconst 4, 1) := dk_7 (dk_at dksX6_feed_2 19 rfl rfl)
theorem dX6_feed_66 : decode cX6_feed 66 = .ok (.irem, 1) := dk_112 (dk_at dksX6_feed_2 20 rfl rfl)
theorem dX6_feed_67 : decode cX6_feed 67 = .ok (.imul, 1) := dk_104 (dk_at dksX6_feed_2 21 rfl rfl)
theorem dX6_feed_68 : decode cX6_feed 68 = .ok (.isub, 1) := dk_100 (dk_at dksX6_feed_2 22 rfl rfl)
theorem dX6_feed_69 : decode cX6_feed 69 = .ok (.ishr, 1) := dk_122 (dk_at dksX6_feed_2 23 rfl rfl)
theorem dX6_feed_70 : decode cX6_feed 70 = .ok (.sipush 255, 3) := dk_17 0 255 (dk_at dksX6_feed_3 0 rfl rfl)
theorem dX6_feed_73 : decode cX6_feed 73 = .ok (.iand, 1) := dk_126 (dk_at dksX6_feed_3 3 rfl rfl)
theorem dX6_feed_74 : decode cX6_feed 74 = .ok (.iastore, 1) := dk_79 (dk_at dksX6_feed_3 4 rfl rfl)
theorem dX6_feed_75 : decode cX6_feed 75 = .ok (.aload_n 0, 1) := dk_42 (dk_at dksX6_feed_3 5 rfl rfl)
theorem dX6_feed_76 : decode cX6_feed 76 = .ok (.dup, 1) := dk_89 (dk_at dksX6_feed_3 6 rfl rfl)
theorem dX6_feed_77 : decode cX6_feed 77 = .ok (.getfield 235, 3) := dk_180 0 235 (dk_at dksX6_feed_3 7 rfl rfl)
theorem dX6_feed_80 : decode cX6_feed 80 = .ok (.iconst 1, 1) := dk_4 (dk_at dksX6_feed_3 10 rfl rfl)
theorem dX6_feed_81 : decode cX6_feed 81 = .ok (.iadd, 1) := dk_96 (dk_at dksX6_feed_3 11 rfl rfl)
theorem dX6_feed_82 : decode cX6_feed 82 = .ok (.putfield 235, 3) := dk_181 0 235 (dk_at dksX6_feed_3 12 rfl rfl)
theorem dX6_feed_85 : decode cX6_feed 85 = .ok (.iinc 4 1, 3) := dk_132 4 1 (dk_at dksX6_feed_3 15 rfl rfl)
theorem dX6_feed_88 : decode cX6_feed 88 = .ok (.goto (-70), 3) := dk_167 255 186 (dk_at dksX6_feed_3 18 rfl rfl)
theorem dX6_feed_91 : decode cX6_feed 91 = .ok (.aload_n 0, 1) := dk_42 (dk_at dksX6_feed_3 21 rfl rfl)
theorem dX6_feed_92 : decode cX6_feed 92 = .ok (.getfield 235, 3) := dk_180 0 235 (dk_at dksX6_feed_4 0 rfl rfl)
theorem dX6_feed_95 : decode cX6_feed 95 = .ok (.ireturn, 1) := dk_172 (dk_at dksX6_feed_4 3 rfl rfl)
abbrev cX6_trim : ByteArray := prog_19_method_66_code
def yX6_trim : MethodName := ⟨RX6, "trim", "(I)I"⟩
def dkwX6_trim_0 : List UInt8 := [27, 133, 9, 42, 180, 0, 235, 133, 184, 0, 83, 154, 0, 6, 18, 120, 172, 42, 27, 181, 0, 235, 27, 172]
abbrev dktX6_trim_0 : List UInt8 := dkwX6_trim_0 ++ []
theorem dksX6_trim_0 : cX6_trim.data.toList.drop 0 = dktX6_trim_0 := by decide +kernel
theorem dX6_trim_0 : decode cX6_trim 0 = .ok (.iload_n 1, 1) := dk_27 (dk_at dksX6_trim_0 0 rfl rfl)
theorem dX6_trim_1 : decode cX6_trim 1 = .ok (.i2l, 1) := dk_133 (dk_at dksX6_trim_0 1 rfl rfl)
theorem dX6_trim_2 : decode cX6_trim 2 = .ok (.lconst 0, 1) := dk_9 (dk_at dksX6_trim_0 2 rfl rfl)
theorem dX6_trim_3 : decode cX6_trim 3 = .ok (.aload_n 0, 1) := dk_42 (dk_at dksX6_trim_0 3 rfl rfl)
theorem dX6_trim_4 : decode cX6_trim 4 = .ok (.getfield 235, 3) := dk_180 0 235 (dk_at dksX6_trim_0 4 rfl rfl)
theorem dX6_trim_7 : decode cX6_trim 7 = .ok (.i2l, 1) := dk_133 (dk_at dksX6_trim_0 7 rfl rfl)
theorem dX6_trim_8 : decode cX6_trim 8 = .ok (.invokestatic 83, 3) := dk_184 0 83 (dk_at dksX6_trim_0 8 rfl rfl)
theorem dX6_trim_11 : decode cX6_trim 11 = .ok (.ifCond .ne 6, 3) := dk_154 0 6 (dk_at dksX6_trim_0 11 rfl rfl)
theorem dX6_trim_14 : decode cX6_trim 14 = .ok (.ldc 120, 2) := dk_18 120 (dk_at dksX6_trim_0 14 rfl rfl)
theorem dX6_trim_16 : decode cX6_trim 16 = .ok (.ireturn, 1) := dk_172 (dk_at dksX6_trim_0 16 rfl rfl)
theorem dX6_trim_17 : decode cX6_trim 17 = .ok (.aload_n 0, 1) := dk_42 (dk_at dksX6_trim_0 17 rfl rfl)
theorem dX6_trim_18 : decode cX6_trim 18 = .ok (.iload_n 1, 1) := dk_27 (dk_at dksX6_trim_0 18 rfl rfl)
theorem dX6_trim_19 : decode cX6_trim 19 = .ok (.putfield 235, 3) := dk_181 0 235 (dk_at dksX6_trim_0 19 rfl rfl)
theorem dX6_trim_22 : decode cX6_trim 22 = .ok (.iload_n 1, 1) := dk_27 (dk_at dksX6_trim_0 22 rfl rfl)
theorem dX6_trim_23 : decode cX6_trim 23 = .ok (.ireturn, 1) := dk_172 (dk_at dksX6_trim_0 23 rfl rfl)
abbrev cX6_text : ByteArray := prog_19_method_83_code
def yX6_text : MethodName := ⟨RX6, "text", "()I"⟩
def dkwX6_text_3 : List UInt8 := [180, 1, 22, 79, 42, 180, 0, 7, 4, 92, 46, 4, 96, 79, 42, 180, 0, 7, 4, 46, 4, 100, 172]
abbrev dktX6_text_3 : List UInt8 := dkwX6_text_3 ++ []
def dkwX6_text_2 : List UInt8 := [3, 96, 27, 79, 42, 180, 0, 7, 28, 4, 96, 42, 180, 1, 49, 79, 42, 180, 0, 7, 28, 5, 96, 42]
abbrev dktX6_text_2 : List UInt8 := dkwX6_text_2 ++ dktX6_text_3
def dkwX6_text_1 : List UInt8 := [16, 14, 160, 0, 6, 18, 121, 172, 42, 42, 180, 0, 7, 4, 46, 182, 1, 64, 61, 42, 180, 0, 7, 28]
abbrev dktX6_text_1 : List UInt8 := dkwX6_text_1 ++ dktX6_text_2
def dkwX6_text_0 : List UInt8 := [42, 182, 1, 70, 60, 27, 156, 0, 11, 16, 156, 42, 180, 0, 252, 100, 172, 42, 180, 0, 7, 4, 46]
abbrev dktX6_text_0 : List UInt8 := dkwX6_text_0 ++ dktX6_text_1
theorem dksX6_text_0 : cX6_text.data.toList.drop 0 = dktX6_text_0 := by decide +kernel
theorem dksX6_text_1 : cX6_text.data.toList.drop 23 = dktX6_text_1 := dk_seg dksX6_text_0 23 rfl rfl
theorem dksX6_text_2 : cX6_text.data.toList.drop 47 = dktX6_text_2 := dk_seg dksX6_text_1 24 rfl rfl
theorem dksX6_text_3 : cX6_text.data.toList.drop 71 = dktX6_text_3 := dk_seg dksX6_text_2 24 rfl rfl
theorem dX6_text_0 : decode cX6_text 0 = .ok (.aload_n 0, 1) := dk_42 (dk_at dksX6_text_0 0 rfl rfl)
theorem dX6_text_1 : decode cX6_text 1 = .ok (.invokevirtual 326, 3) := dk_182 1 70 (dk_at dksX6_text_0 1 rfl rfl)
theorem dX6_text_4 : decode cX6_text 4 = .ok (.istore_n 1, 1) := dk_60 (dk_at dksX6_text_0 4 rfl rfl)
theorem dX6_text_5 : decode cX6_text 5 = .ok (.iload_n 1, 1) := dk_27 (dk_at dksX6_text_0 5 rfl rfl)
theorem dX6_text_6 : decode cX6_text 6 = .ok (.ifCond .ge 11, 3) := dk_156 0 11 (dk_at dksX6_text_0 6 rfl rfl)
theorem dX6_text_9 : decode cX6_text 9 = .ok (.bipush (-100), 2) := dk_16 156 (dk_at dksX6_text_0 9 rfl rfl)
theorem dX6_text_11 : decode cX6_text 11 = .ok (.aload_n 0, 1) := dk_42 (dk_at dksX6_text_0 11 rfl rfl)
theorem dX6_text_12 : decode cX6_text 12 = .ok (.getfield 252, 3) := dk_180 0 252 (dk_at dksX6_text_0 12 rfl rfl)
theorem dX6_text_15 : decode cX6_text 15 = .ok (.isub, 1) := dk_100 (dk_at dksX6_text_0 15 rfl rfl)
theorem dX6_text_16 : decode cX6_text 16 = .ok (.ireturn, 1) := dk_172 (dk_at dksX6_text_0 16 rfl rfl)
theorem dX6_text_17 : decode cX6_text 17 = .ok (.aload_n 0, 1) := dk_42 (dk_at dksX6_text_0 17 rfl rfl)
theorem dX6_text_18 : decode cX6_text 18 = .ok (.getfield 7, 3) := dk_180 0 7 (dk_at dksX6_text_0 18 rfl rfl)
theorem dX6_text_21 : decode cX6_text 21 = .ok (.iconst 1, 1) := dk_4 (dk_at dksX6_text_0 21 rfl rfl)
theorem dX6_text_22 : decode cX6_text 22 = .ok (.iaload, 1) := dk_46 (dk_at dksX6_text_0 22 rfl rfl)
theorem dX6_text_23 : decode cX6_text 23 = .ok (.bipush 14, 2) := dk_16 14 (dk_at dksX6_text_1 0 rfl rfl)
theorem dX6_text_25 : decode cX6_text 25 = .ok (.if_icmp .ne 6, 3) := dk_160 0 6 (dk_at dksX6_text_1 2 rfl rfl)
theorem dX6_text_28 : decode cX6_text 28 = .ok (.ldc 121, 2) := dk_18 121 (dk_at dksX6_text_1 5 rfl rfl)
theorem dX6_text_30 : decode cX6_text 30 = .ok (.ireturn, 1) := dk_172 (dk_at dksX6_text_1 7 rfl rfl)
theorem dX6_text_31 : decode cX6_text 31 = .ok (.aload_n 0, 1) := dk_42 (dk_at dksX6_text_1 8 rfl rfl)
theorem dX6_text_32 : decode cX6_text 32 = .ok (.aload_n 0, 1) := dk_42 (dk_at dksX6_text_1 9 rfl rfl)
theorem dX6_text_33 : decode cX6_text 33 = .ok (.getfield 7, 3) := dk_180 0 7 (dk_at dksX6_text_1 10 rfl rfl)
theorem dX6_text_36 : decode cX6_text 36 = .ok (.iconst 1, 1) := dk_4 (dk_at dksX6_text_1 13 rfl rfl)
theorem dX6_text_37 : decode cX6_text 37 = .ok (.iaload, 1) := dk_46 (dk_at dksX6_text_1 14 rfl rfl)
theorem dX6_text_38 : decode cX6_text 38 = .ok (.invokevirtual 320, 3) := dk_182 1 64 (dk_at dksX6_text_1 15 rfl rfl)
theorem dX6_text_41 : decode cX6_text 41 = .ok (.istore_n 2, 1) := dk_61 (dk_at dksX6_text_1 18 rfl rfl)
theorem dX6_text_42 : decode cX6_text 42 = .ok (.aload_n 0, 1) := dk_42 (dk_at dksX6_text_1 19 rfl rfl)
theorem dX6_text_43 : decode cX6_text 43 = .ok (.getfield 7, 3) := dk_180 0 7 (dk_at dksX6_text_1 20 rfl rfl)
theorem dX6_text_46 : decode cX6_text 46 = .ok (.iload_n 2, 1) := dk_28 (dk_at dksX6_text_1 23 rfl rfl)
theorem dX6_text_47 : decode cX6_text 47 = .ok (.iconst 0, 1) := dk_3 (dk_at dksX6_text_2 0 rfl rfl)
theorem dX6_text_48 : decode cX6_text 48 = .ok (.iadd, 1) := dk_96 (dk_at dksX6_text_2 1 rfl rfl)
theorem dX6_text_49 : decode cX6_text 49 = .ok (.iload_n 1, 1) := dk_27 (dk_at dksX6_text_2 2 rfl rfl)
theorem dX6_text_50 : decode cX6_text 50 = .ok (.iastore, 1) := dk_79 (dk_at dksX6_text_2 3 rfl rfl)
theorem dX6_text_51 : decode cX6_text 51 = .ok (.aload_n 0, 1) := dk_42 (dk_at dksX6_text_2 4 rfl rfl)
theorem dX6_text_52 : decode cX6_text 52 = .ok (.getfield 7, 3) := dk_180 0 7 (dk_at dksX6_text_2 5 rfl rfl)
theorem dX6_text_55 : decode cX6_text 55 = .ok (.iload_n 2, 1) := dk_28 (dk_at dksX6_text_2 8 rfl rfl)
theorem dX6_text_56 : decode cX6_text 56 = .ok (.iconst 1, 1) := dk_4 (dk_at dksX6_text_2 9 rfl rfl)
theorem dX6_text_57 : decode cX6_text 57 = .ok (.iadd, 1) := dk_96 (dk_at dksX6_text_2 10 rfl rfl)
theorem dX6_text_58 : decode cX6_text 58 = .ok (.aload_n 0, 1) := dk_42 (dk_at dksX6_text_2 11 rfl rfl)
theorem dX6_text_59 : decode cX6_text 59 = .ok (.getfield 305, 3) := dk_180 1 49 (dk_at dksX6_text_2 12 rfl rfl)
theorem dX6_text_62 : decode cX6_text 62 = .ok (.iastore, 1) := dk_79 (dk_at dksX6_text_2 15 rfl rfl)
theorem dX6_text_63 : decode cX6_text 63 = .ok (.aload_n 0, 1) := dk_42 (dk_at dksX6_text_2 16 rfl rfl)
theorem dX6_text_64 : decode cX6_text 64 = .ok (.getfield 7, 3) := dk_180 0 7 (dk_at dksX6_text_2 17 rfl rfl)
theorem dX6_text_67 : decode cX6_text 67 = .ok (.iload_n 2, 1) := dk_28 (dk_at dksX6_text_2 20 rfl rfl)
theorem dX6_text_68 : decode cX6_text 68 = .ok (.iconst 2, 1) := dk_5 (dk_at dksX6_text_2 21 rfl rfl)
theorem dX6_text_69 : decode cX6_text 69 = .ok (.iadd, 1) := dk_96 (dk_at dksX6_text_2 22 rfl rfl)
theorem dX6_text_70 : decode cX6_text 70 = .ok (.aload_n 0, 1) := dk_42 (dk_at dksX6_text_2 23 rfl rfl)
theorem dX6_text_71 : decode cX6_text 71 = .ok (.getfield 278, 3) := dk_180 1 22 (dk_at dksX6_text_3 0 rfl rfl)
theorem dX6_text_74 : decode cX6_text 74 = .ok (.iastore, 1) := dk_79 (dk_at dksX6_text_3 3 rfl rfl)
theorem dX6_text_75 : decode cX6_text 75 = .ok (.aload_n 0, 1) := dk_42 (dk_at dksX6_text_3 4 rfl rfl)
theorem dX6_text_76 : decode cX6_text 76 = .ok (.getfield 7, 3) := dk_180 0 7 (dk_at dksX6_text_3 5 rfl rfl)
theorem dX6_text_79 : decode cX6_text 79 = .ok (.iconst 1, 1) := dk_4 (dk_at dksX6_text_3 8 rfl rfl)
theorem dX6_text_80 : decode cX6_text 80 = .ok (.dup2, 1) := dk_92 (dk_at dksX6_text_3 9 rfl rfl)
theorem dX6_text_81 : decode cX6_text 81 = .ok (.iaload, 1) := dk_46 (dk_at dksX6_text_3 10 rfl rfl)
theorem dX6_text_82 : decode cX6_text 82 = .ok (.iconst 1, 1) := dk_4 (dk_at dksX6_text_3 11 rfl rfl)
theorem dX6_text_83 : decode cX6_text 83 = .ok (.iadd, 1) := dk_96 (dk_at dksX6_text_3 12 rfl rfl)
theorem dX6_text_84 : decode cX6_text 84 = .ok (.iastore, 1) := dk_79 (dk_at dksX6_text_3 13 rfl rfl)
theorem dX6_text_85 : decode cX6_text 85 = .ok (.aload_n 0, 1) := dk_42 (dk_at dksX6_text_3 14 rfl rfl)
theorem dX6_text_86 : decode cX6_text 86 = .ok (.getfield 7, 3) := dk_180 0 7 (dk_at dksX6_text_3 15 rfl rfl)
theorem dX6_text_89 : decode cX6_text 89 = .ok (.iconst 1, 1) := dk_4 (dk_at dksX6_text_3 18 rfl rfl)
theorem dX6_text_90 : decode cX6_text 90 = .ok (.iaload, 1) := dk_46 (dk_at dksX6_text_3 19 rfl rfl)
theorem dX6_text_91 : decode cX6_text 91 = .ok (.iconst 1, 1) := dk_4 (dk_at dksX6_text_3 20 rfl rfl)
theorem dX6_text_92 : decode cX6_text 92 = .ok (.isub, 1) := dk_100 (dk_at dksX6_text_3 21 rfl rfl)
theorem dX6_text_93 : decode cX6_text 93 = .ok (.ireturn, 1) := dk_172 (dk_at dksX6_text_3 22 rfl rfl)
abbrev cX6_parse : ByteArray := prog_19_method_82_code
def yX6_parse : MethodName := ⟨RX6, "parse", "()I"⟩
def dkwX6_parse_5 : List UInt8 := [28, 153, 0, 7, 27, 167, 0, 4, 2, 172]
abbrev dktX6_parse_5 : List UInt8 := dkwX6_parse_5 ++ []
def dkwX6_parse_4 : List UInt8 := [182, 1, 61, 153, 0, 14, 42, 180, 0, 249, 154, 0, 7, 4, 167, 0, 4, 3, 61, 42, 3, 181, 0, 235]
abbrev dktX6_parse_4 : List UInt8 := dkwX6_parse_4 ++ dktX6_parse_5
def dkwX6_parse_3 : List UInt8 := [182, 1, 67, 60, 27, 155, 0, 7, 4, 167, 0, 4, 3, 61, 28, 153, 0, 28, 42, 182, 1, 31, 42, 27]
abbrev dktX6_parse_3 : List UInt8 := dkwX6_parse_3 ++ dktX6_parse_4
def dkwX6_parse_2 : List UInt8 := [180, 0, 7, 4, 46, 182, 1, 64, 7, 96, 167, 0, 6, 17, 11, 82, 181, 1, 19, 42, 182, 1, 31, 42]
abbrev dktX6_parse_2 : List UInt8 := dkwX6_parse_2 ++ dktX6_parse_3
def dkwX6_parse_1 : List UInt8 := [181, 1, 22, 42, 3, 181, 1, 49, 42, 42, 180, 0, 7, 4, 46, 16, 14, 162, 0, 18, 42, 42]
abbrev dktX6_parse_1 : List UInt8 := dkwX6_parse_1 ++ dktX6_parse_2
def dkwX6_parse_0 : List UInt8 := [42, 3, 181, 0, 246, 42, 6, 181, 0, 249, 42, 3, 181, 1, 58, 42, 3, 181, 1, 55, 42, 3]
abbrev dktX6_parse_0 : List UInt8 := dkwX6_parse_0 ++ dktX6_parse_1
theorem dksX6_parse_0 : cX6_parse.data.toList.drop 0 = dktX6_parse_0 := by decide +kernel
theorem dksX6_parse_1 : cX6_parse.data.toList.drop 22 = dktX6_parse_1 := dk_seg dksX6_parse_0 22 rfl rfl
theorem dksX6_parse_2 : cX6_parse.data.toList.drop 44 = dktX6_parse_2 := dk_seg dksX6_parse_1 22 rfl rfl
theorem dksX6_parse_3 : cX6_parse.data.toList.drop 68 = dktX6_parse_3 := dk_seg dksX6_parse_2 24 rfl rfl
theorem dksX6_parse_4 : cX6_parse.data.toList.drop 92 = dktX6_parse_4 := dk_seg dksX6_parse_3 24 rfl rfl
theorem dksX6_parse_5 : cX6_parse.data.toList.drop 116 = dktX6_parse_5 := dk_seg dksX6_parse_4 24 rfl rfl
theorem dX6_parse_0 : decode cX6_parse 0 = .ok (.aload_n 0, 1) := dk_42 (dk_at dksX6_parse_0 0 rfl rfl)
theorem dX6_parse_1 : decode cX6_parse 1 = .ok (.iconst 0, 1) := dk_3 (dk_at dksX6_parse_0 1 rfl rfl)
theorem dX6_parse_2 : decode cX6_parse 2 = .ok (.putfield 246, 3) := dk_181 0 246 (dk_at dksX6_parse_0 2 rfl rfl)
theorem dX6_parse_5 : decode cX6_parse 5 = .ok (.aload_n 0, 1) := dk_42 (dk_at dksX6_parse_0 5 rfl rfl)
theorem dX6_parse_6 : decode cX6_parse 6 = .ok (.iconst 3, 1) := dk_6 (dk_at dksX6_parse_0 6 rfl rfl)
theorem dX6_parse_7 : decode cX6_parse 7 = .ok (.putfield 249, 3) := dk_181 0 249 (dk_at dksX6_parse_0 7 rfl rfl)
theorem dX6_parse_10 : decode cX6_parse 10 = .ok (.aload_n 0, 1) := dk_42 (dk_at dksX6_parse_0 10 rfl rfl)
theorem dX6_parse_11 : decode cX6_parse 11 = .ok (.iconst 0, 1) := dk_3 (dk_at dksX6_parse_0 11 rfl rfl)
theorem dX6_parse_12 : decode cX6_parse 12 = .ok (.putfield 314, 3) := dk_181 1 58 (dk_at dksX6_parse_0 12 rfl rfl)
theorem dX6_parse_15 : decode cX6_parse 15 = .ok (.aload_n 0, 1) := dk_42 (dk_at dksX6_parse_0 15 rfl rfl)
theorem dX6_parse_16 : decode cX6_parse 16 = .ok (.iconst 0, 1) := dk_3 (dk_at dksX6_parse_0 16 rfl rfl)
theorem dX6_parse_17 : decode cX6_parse 17 = .ok (.putfield 311, 3) := dk_181 1 55 (dk_at dksX6_parse_0 17 rfl rfl)
theorem dX6_parse_20 : decode cX6_parse 20 = .ok (.aload_n 0, 1) := dk_42 (dk_at dksX6_parse_0 20 rfl rfl)
theorem dX6_parse_21 : decode cX6_parse 21 = .ok (.iconst 0, 1) := dk_3 (dk_at dksX6_parse_0 21 rfl rfl)
theorem dX6_parse_22 : decode cX6_parse 22 = .ok (.putfield 278, 3) := dk_181 1 22 (dk_at dksX6_parse_1 0 rfl rfl)
theorem dX6_parse_25 : decode cX6_parse 25 = .ok (.aload_n 0, 1) := dk_42 (dk_at dksX6_parse_1 3 rfl rfl)
theorem dX6_parse_26 : decode cX6_parse 26 = .ok (.iconst 0, 1) := dk_3 (dk_at dksX6_parse_1 4 rfl rfl)
theorem dX6_parse_27 : decode cX6_parse 27 = .ok (.putfield 305, 3) := dk_181 1 49 (dk_at dksX6_parse_1 5 rfl rfl)
theorem dX6_parse_30 : decode cX6_parse 30 = .ok (.aload_n 0, 1) := dk_42 (dk_at dksX6_parse_1 8 rfl rfl)
theorem dX6_parse_31 : decode cX6_parse 31 = .ok (.aload_n 0, 1) := dk_42 (dk_at dksX6_parse_1 9 rfl rfl)
theorem dX6_parse_32 : decode cX6_parse 32 = .ok (.getfield 7, 3) := dk_180 0 7 (dk_at dksX6_parse_1 10 rfl rfl)
theorem dX6_parse_35 : decode cX6_parse 35 = .ok (.iconst 1, 1) := dk_4 (dk_at dksX6_parse_1 13 rfl rfl)
theorem dX6_parse_36 : decode cX6_parse 36 = .ok (.iaload, 1) := dk_46 (dk_at dksX6_parse_1 14 rfl rfl)
theorem dX6_parse_37 : decode cX6_parse 37 = .ok (.bipush 14, 2) := dk_16 14 (dk_at dksX6_parse_1 15 rfl rfl)
theorem dX6_parse_39 : decode cX6_parse 39 = .ok (.if_icmp .ge 18, 3) := dk_162 0 18 (dk_at dksX6_parse_1 17 rfl rfl)
theorem dX6_parse_42 : decode cX6_parse 42 = .ok (.aload_n 0, 1) := dk_42 (dk_at dksX6_parse_1 20 rfl rfl)
theorem dX6_parse_43 : decode cX6_parse 43 = .ok (.aload_n 0, 1) := dk_42 (dk_at dksX6_parse_1 21 rfl rfl)
theorem dX6_parse_44 : decode cX6_parse 44 = .ok (.getfield 7, 3) := dk_180 0 7 (dk_at dksX6_parse_2 0 rfl rfl)
theorem dX6_parse_47 : decode cX6_parse 47 = .ok (.iconst 1, 1) := dk_4 (dk_at dksX6_parse_2 3 rfl rfl)
theorem dX6_parse_48 : decode cX6_parse 48 = .ok (.iaload, 1) := dk_46 (dk_at dksX6_parse_2 4 rfl rfl)
theorem dX6_parse_49 : decode cX6_parse 49 = .ok (.invokevirtual 320, 3) := dk_182 1 64 (dk_at dksX6_parse_2 5 rfl rfl)
theorem dX6_parse_52 : decode cX6_parse 52 = .ok (.iconst 4, 1) := dk_7 (dk_at dksX6_parse_2 8 rfl rfl)
theorem dX6_parse_53 : decode cX6_parse 53 = .ok (.iadd, 1) := dk_96 (dk_at dksX6_parse_2 9 rfl rfl)
theorem dX6_parse_54 : decode cX6_parse 54 = .ok (.goto 6, 3) := dk_167 0 6 (dk_at dksX6_parse_2 10 rfl rfl)
theorem dX6_parse_57 : decode cX6_parse 57 = .ok (.sipush 2898, 3) := dk_17 11 82 (dk_at dksX6_parse_2 13 rfl rfl)
theorem dX6_parse_60 : decode cX6_parse 60 = .ok (.putfield 275, 3) := dk_181 1 19 (dk_at dksX6_parse_2 16 rfl rfl)
theorem dX6_parse_63 : decode cX6_parse 63 = .ok (.aload_n 0, 1) := dk_42 (dk_at dksX6_parse_2 19 rfl rfl)
theorem dX6_parse_64 : decode cX6_parse 64 = .ok (.invokevirtual 287, 3) := dk_182 1 31 (dk_at dksX6_parse_2 20 rfl rfl)
theorem dX6_parse_67 : decode cX6_parse 67 = .ok (.aload_n 0, 1) := dk_42 (dk_at dksX6_parse_2 23 rfl rfl)
theorem dX6_parse_68 : decode cX6_parse 68 = .ok (.invokevirtual 323, 3) := dk_182 1 67 (dk_at dksX6_parse_3 0 rfl rfl)
theorem dX6_parse_71 : decode cX6_parse 71 = .ok (.istore_n 1, 1) := dk_60 (dk_at dksX6_parse_3 3 rfl rfl)
theorem dX6_parse_72 : decode cX6_parse 72 = .ok (.iload_n 1, 1) := dk_27 (dk_at dksX6_parse_3 4 rfl rfl)
theorem dX6_parse_73 : decode cX6_parse 73 = .ok (.ifCond .lt 7, 3) := dk_155 0 7 (dk_at dksX6_parse_3 5 rfl rfl)
theorem dX6_parse_76 : decode cX6_parse 76 = .ok (.iconst 1, 1) := dk_4 (dk_at dksX6_parse_3 8 rfl rfl)
theorem dX6_parse_77 : decode cX6_parse 77 = .ok (.goto 4, 3) := dk_167 0 4 (dk_at dksX6_parse_3 9 rfl rfl)
theorem dX6_parse_80 : decode cX6_parse 80 = .ok (.iconst 0, 1) := dk_3 (dk_at dksX6_parse_3 12 rfl rfl)
theorem dX6_parse_81 : decode cX6_parse 81 = .ok (.istore_n 2, 1) := dk_61 (dk_at dksX6_parse_3 13 rfl rfl)
theorem dX6_parse_82 : decode cX6_parse 82 = .ok (.iload_n 2, 1) := dk_28 (dk_at dksX6_parse_3 14 rfl rfl)
theorem dX6_parse_83 : decode cX6_parse 83 = .ok (.ifCond .eq 28, 3) := dk_153 0 28 (dk_at dksX6_parse_3 15 rfl rfl)
theorem dX6_parse_86 : decode cX6_parse 86 = .ok (.aload_n 0, 1) := dk_42 (dk_at dksX6_parse_3 18 rfl rfl)
theorem dX6_parse_87 : decode cX6_parse 87 = .ok (.invokevirtual 287, 3) := dk_182 1 31 (dk_at dksX6_parse_3 19 rfl rfl)
theorem dX6_parse_90 : decode cX6_parse 90 = .ok (.aload_n 0, 1) := dk_42 (dk_at dksX6_parse_3 22 rfl rfl)
theorem dX6_parse_91 : decode cX6_parse 91 = .ok (.iload_n 1, 1) := dk_27 (dk_at dksX6_parse_3 23 rfl rfl)
theorem dX6_parse_92 : decode cX6_parse 92 = .ok (.invokevirtual 317, 3) := dk_182 1 61 (dk_at dksX6_parse_4 0 rfl rfl)
theorem dX6_parse_95 : decode cX6_parse 95 = .ok (.ifCond .eq 14, 3) := dk_153 0 14 (dk_at dksX6_parse_4 3 rfl rfl)
theorem dX6_parse_98 : decode cX6_parse 98 = .ok (.aload_n 0, 1) := dk_42 (dk_at dksX6_parse_4 6 rfl rfl)
theorem dX6_parse_99 : decode cX6_parse 99 = .ok (.getfield 249, 3) := dk_180 0 249 (dk_at dksX6_parse_4 7 rfl rfl)
theorem dX6_parse_102 : decode cX6_parse 102 = .ok (.ifCond .ne 7, 3) := dk_154 0 7 (dk_at dksX6_parse_4 10 rfl rfl)
theorem dX6_parse_105 : decode cX6_parse 105 = .ok (.iconst 1, 1) := dk_4 (dk_at dksX6_parse_4 13 rfl rfl)
theorem dX6_parse_106 : decode cX6_parse 106 = .ok (.goto 4, 3) := dk_167 0 4 (dk_at dksX6_parse_4 14 rfl rfl)
theorem dX6_parse_109 : decode cX6_parse 109 = .ok (.iconst 0, 1) := dk_3 (dk_at dksX6_parse_4 17 rfl rfl)
theorem dX6_parse_110 : decode cX6_parse 110 = .ok (.istore_n 2, 1) := dk_61 (dk_at dksX6_parse_4 18 rfl rfl)
theorem dX6_parse_111 : decode cX6_parse 111 = .ok (.aload_n 0, 1) := dk_42 (dk_at dksX6_parse_4 19 rfl rfl)
theorem dX6_parse_112 : decode cX6_parse 112 = .ok (.iconst 0, 1) := dk_3 (dk_at dksX6_parse_4 20 rfl rfl)
theorem dX6_parse_113 : decode cX6_parse 113 = .ok (.putfield 235, 3) := dk_181 0 235 (dk_at dksX6_parse_4 21 rfl rfl)
theorem dX6_parse_116 : decode cX6_parse 116 = .ok (.iload_n 2, 1) := dk_28 (dk_at dksX6_parse_5 0 rfl rfl)
theorem dX6_parse_117 : decode cX6_parse 117 = .ok (.ifCond .eq 7, 3) := dk_153 0 7 (dk_at dksX6_parse_5 1 rfl rfl)
theorem dX6_parse_120 : decode cX6_parse 120 = .ok (.iload_n 1, 1) := dk_27 (dk_at dksX6_parse_5 4 rfl rfl)
theorem dX6_parse_121 : decode cX6_parse 121 = .ok (.goto 4, 3) := dk_167 0 4 (dk_at dksX6_parse_5 5 rfl rfl)
theorem dX6_parse_124 : decode cX6_parse 124 = .ok (.iconst (-1), 1) := dk_2 (dk_at dksX6_parse_5 8 rfl rfl)
theorem dX6_parse_125 : decode cX6_parse 125 = .ok (.ireturn, 1) := dk_172 (dk_at dksX6_parse_5 9 rfl rfl)
abbrev cX6_nextToken : ByteArray := prog_19_method_69_code
def yX6_nextToken : MethodName := ⟨RX6, "nextToken", "()V"⟩
def dkwX6_nextToken_14 : List UInt8 := [42, 180, 0, 252, 46, 181, 1, 2, 42, 89, 180, 0, 246, 4, 96, 181, 0, 246, 177]
abbrev dktX6_nextToken_14 : List UInt8 := dkwX6_nextToken_14 ++ []
def dkwX6_nextToken_13 : List UInt8 := [164, 0, 7, 7, 167, 0, 4, 5, 181, 0, 249, 167, 0, 31, 42, 6, 181, 0, 249, 42, 42, 180, 0, 64]
abbrev dktX6_nextToken_13 : List UInt8 := dkwX6_nextToken_13 ++ dktX6_nextToken_14
def dkwX6_nextToken_12 : List UInt8 := [96, 181, 0, 246, 167, 255, 191, 42, 27, 154, 0, 16, 42, 180, 0, 246, 42, 180, 0, 252, 100, 7]
abbrev dktX6_nextToken_12 : List UInt8 := dkwX6_nextToken_12 ++ dktX6_nextToken_13
def dkwX6_nextToken_11 : List UInt8 := [180, 0, 246, 46, 96, 16, 48, 100, 167, 0, 7, 42, 180, 1, 8, 181, 1, 8, 42, 89, 180, 0, 246, 4]
abbrev dktX6_nextToken_11 : List UInt8 := dkwX6_nextToken_11 ++ dktX6_nextToken_12
def dkwX6_nextToken_10 : List UInt8 := [180, 0, 246, 42, 180, 0, 252, 100, 7, 162, 0, 26, 16, 10, 42, 180, 1, 8, 104, 42, 180, 0, 64, 42]
abbrev dktX6_nextToken_10 : List UInt8 := dkwX6_nextToken_10 ++ dktX6_nextToken_11
def dkwX6_nextToken_9 : List UInt8 := [182, 1, 5, 153, 0, 105, 42, 3, 181, 1, 8, 42, 42, 180, 0, 246, 182, 1, 5, 153, 0, 60, 42, 42]
abbrev dktX6_nextToken_9 : List UInt8 := dkwX6_nextToken_9 ++ dktX6_nextToken_10
def dkwX6_nextToken_8 : List UInt8 := [180, 0, 64, 42, 180, 0, 252, 46, 167, 0, 4, 3, 181, 1, 2, 167, 0, 144, 42, 42, 180, 0, 252]
abbrev dktX6_nextToken_8 : List UInt8 := dkwX6_nextToken_8 ++ dktX6_nextToken_9
def dkwX6_nextToken_7 : List UInt8 := [167, 0, 4, 4, 181, 0, 249, 42, 42, 180, 0, 246, 42, 180, 0, 252, 100, 4, 160, 0, 15, 42]
abbrev dktX6_nextToken_7 : List UInt8 := dkwX6_nextToken_7 ++ dktX6_nextToken_8
def dkwX6_nextToken_6 : List UInt8 := [153, 0, 16, 42, 89, 180, 0, 246, 4, 96, 181, 0, 246, 167, 255, 235, 42, 27, 153, 0, 7, 7]
abbrev dktX6_nextToken_6 : List UInt8 := dkwX6_nextToken_6 ++ dktX6_nextToken_7
def dkwX6_nextToken_5 : List UInt8 := [167, 0, 225, 42, 42, 180, 0, 252, 182, 0, 255, 153, 0, 73, 42, 42, 180, 0, 246, 182, 0, 255]
abbrev dktX6_nextToken_5 : List UInt8 := dkwX6_nextToken_5 ++ dktX6_nextToken_6
def dkwX6_nextToken_4 : List UInt8 := [180, 0, 246, 181, 0, 252, 42, 180, 0, 252, 42, 180, 0, 235, 160, 0, 11, 42, 3, 181, 0, 249]
abbrev dktX6_nextToken_4 : List UInt8 := dkwX6_nextToken_4 ++ dktX6_nextToken_5
def dkwX6_nextToken_3 : List UInt8 := [167, 255, 221, 27, 153, 0, 15, 28, 42, 180, 0, 246, 160, 0, 7, 4, 167, 0, 4, 3, 60, 42, 42]
abbrev dktX6_nextToken_3 : List UInt8 := dkwX6_nextToken_3 ++ dktX6_nextToken_4
def dkwX6_nextToken_2 : List UInt8 := [180, 0, 64, 42, 180, 0, 246, 46, 16, 32, 160, 0, 16, 42, 89, 180, 0, 246, 4, 96, 181, 0, 246]
abbrev dktX6_nextToken_2 : List UInt8 := dkwX6_nextToken_2 ++ dktX6_nextToken_3
def dkwX6_nextToken_1 : List UInt8 := [167, 0, 4, 3, 60, 42, 180, 0, 246, 61, 42, 180, 0, 246, 42, 180, 0, 235, 162, 0, 30, 42]
abbrev dktX6_nextToken_1 : List UInt8 := dkwX6_nextToken_1 ++ dktX6_nextToken_2
def dkwX6_nextToken_0 : List UInt8 := [42, 180, 0, 246, 158, 0, 23, 42, 180, 0, 249, 4, 159, 0, 11, 42, 180, 0, 249, 5, 160, 0, 7, 4]
abbrev dktX6_nextToken_0 : List UInt8 := dkwX6_nextToken_0 ++ dktX6_nextToken_1
theorem dksX6_nextToken_0 : cX6_nextToken.data.toList.drop 0 = dktX6_nextToken_0 := by decide +kernel
theorem dksX6_nextToken_1 : cX6_nextToken.data.toList.drop 24 = dktX6_nextToken_1 := dk_seg dksX6_nextToken_0 24 rfl rfl
theorem dksX6_nextToken_2 : cX6_nextToken.data.toList.drop 46 = dktX6_nextToken_2 := dk_seg dksX6_nextToken_1 22 rfl rfl
theorem dksX6_nextToken_3 : cX6_nextToken.data.toList.drop 69 = dktX6_nextToken_3 := dk_seg dksX6_nextToken_2 23 rfl rfl
theorem dksX6_nextToken_4 : cX6_nextToken.data.toList.drop 92 = dktX6_nextToken_4 := dk_seg dksX6_nextToken_3 23 rfl rfl
theorem dksX6_nextToken_5 : cX6_nextToken.data.toList.drop 114 = dktX6_nextToken_5 := dk_seg dksX6_nextToken_4 22 rfl rfl
theorem dksX6_nextToken_6 : cX6_nextToken.data.toList.drop 136 = dktX6_nextToken_6 := dk_seg dksX6_nextToken_5 22 rfl rfl
theorem dksX6_nextToken_7 : cX6_nextToken.data.toList.drop 158 = dktX6_nextToken_7 := dk_seg dksX6_nextToken_6 22 rfl rfl
theorem dksX6_nextToken_8 : cX6_nextToken.data.toList.drop 180 = dktX6_nextToken_8 := dk_seg dksX6_nextToken_7 22 rfl rfl
theorem dksX6_nextToken_9 : cX6_nextToken.data.toList.drop 203 = dktX6_nextToken_9 := dk_seg dksX6_nextToken_8 23 rfl rfl
theorem dksX6_nextToken_10 : cX6_nextToken.data.toList.drop 227 = dktX6_nextToken_10 := dk_seg dksX6_nextToken_9 24 rfl rfl
theorem dksX6_nextToken_11 : cX6_nextToken.data.toList.drop 251 = dktX6_nextToken_11 := dk_seg dksX6_nextToken_10 24 rfl rfl
theorem dksX6_nextToken_12 : cX6_nextToken.data.toList.drop 275 = dktX6_nextToken_12 := dk_seg dksX6_nextToken_11 24 rfl rfl
theorem dksX6_nextToken_13 : cX6_nextToken.data.toList.drop 297 = dktX6_nextToken_13 := dk_seg dksX6_nextToken_12 22 rfl rfl
theorem dksX6_nextToken_14 : cX6_nextToken.data.toList.drop 321 = dktX6_nextToken_14 := dk_seg dksX6_nextToken_13 24 rfl rfl
theorem dX6_nextToken_0 : decode cX6_nextToken 0 = .ok (.aload_n 0, 1) := dk_42 (dk_at dksX6_nextToken_0 0 rfl rfl)
theorem dX6_nextToken_1 : decode cX6_nextToken 1 = .ok (.getfield 246, 3) := dk_180 0 246 (dk_at dksX6_nextToken_0 1 rfl rfl)
theorem dX6_nextToken_4 : decode cX6_nextToken 4 = .ok (.ifCond .le 23, 3) := dk_158 0 23 (dk_at dksX6_nextToken_0 4 rfl rfl)
theorem dX6_nextToken_7 : decode cX6_nextToken 7 = .ok (.aload_n 0, 1) := dk_42 (dk_at dksX6_nextToken_0 7 rfl rfl)
theorem dX6_nextToken_8 : decode cX6_nextToken 8 = .ok (.getfield 249, 3) := dk_180 0 249 (dk_at dksX6_nextToken_0 8 rfl rfl)
theorem dX6_nextToken_11 : decode cX6_nextToken 11 = .ok (.iconst 1, 1) := dk_4 (dk_at dksX6_nextToken_0 11 rfl rfl)
theorem dX6_nextToken_12 : decode cX6_nextToken 12 = .ok (.if_icmp .eq 11, 3) := dk_159 0 11 (dk_at dksX6_nextToken_0 12 rfl rfl)
theorem dX6_nextToken_15 : decode cX6_nextToken 15 = .ok (.aload_n 0, 1) := dk_42 (dk_at dksX6_nextToken_0 15 rfl rfl)
theorem dX6_nextToken_16 : decode cX6_nextToken 16 = .ok (.getfield 249, 3) := dk_180 0 249 (dk_at dksX6_nextToken_0 16 rfl rfl)
theorem dX6_nextToken_19 : decode cX6_nextToken 19 = .ok (.iconst 2, 1) := dk_5 (dk_at dksX6_nextToken_0 19 rfl rfl)
theorem dX6_nextToken_20 : decode cX6_nextToken 20 = .ok (.if_icmp .ne 7, 3) := dk_160 0 7 (dk_at dksX6_nextToken_0 20 rfl rfl)
theorem dX6_nextToken_23 : decode cX6_nextToken 23 = .ok (.iconst 1, 1) := dk_4 (dk_at dksX6_nextToken_0 23 rfl rfl)
theorem dX6_nextToken_24 : decode cX6_nextToken 24 = .ok (.goto 4, 3) := dk_167 0 4 (dk_at dksX6_nextToken_1 0 rfl rfl)
theorem dX6_nextToken_27 : decode cX6_nextToken 27 = .ok (.iconst 0, 1) := dk_3 (dk_at dksX6_nextToken_1 3 rfl rfl)
theorem dX6_nextToken_28 : decode cX6_nextToken 28 = .ok (.istore_n 1, 1) := dk_60 (dk_at dksX6_nextToken_1 4 rfl rfl)
theorem dX6_nextToken_29 : decode cX6_nextToken 29 = .ok (.aload_n 0, 1) := dk_42 (dk_at dksX6_nextToken_1 5 rfl rfl)
theorem dX6_nextToken_30 : decode cX6_nextToken 30 = .ok (.getfield 246, 3) := dk_180 0 246 (dk_at dksX6_nextToken_1 6 rfl rfl)
theorem dX6_nextToken_33 : decode cX6_nextToken 33 = .ok (.istore_n 2, 1) := dk_61 (dk_at dksX6_nextToken_1 9 rfl rfl)
theorem dX6_nextToken_34 : decode cX6_nextToken 34 = .ok (.aload_n 0, 1) := dk_42 (dk_at dksX6_nextToken_1 10 rfl rfl)
theorem dX6_nextToken_35 : decode cX6_nextToken 35 = .ok (.getfield 246, 3) := dk_180 0 246 (dk_at dksX6_nextToken_1 11 rfl rfl)
theorem dX6_nextToken_38 : decode cX6_nextToken 38 = .ok (.aload_n 0, 1) := dk_42 (dk_at dksX6_nextToken_1 14 rfl rfl)
theorem dX6_nextToken_39 : decode cX6_nextToken 39 = .ok (.getfield 235, 3) := dk_180 0 235 (dk_at dksX6_nextToken_1 15 rfl rfl)
theorem dX6_nextToken_42 : decode cX6_nextToken 42 = .ok (.if_icmp .ge 30, 3) := dk_162 0 30 (dk_at dksX6_nextToken_1 18 rfl rfl)
theorem dX6_nextToken_45 : decode cX6_nextToken 45 = .ok (.aload_n 0, 1) := dk_42 (dk_at dksX6_nextToken_1 21 rfl rfl)
theorem dX6_nextToken_46 : decode cX6_nextToken 46 = .ok (.getfield 64, 3) := dk_180 0 64 (dk_at dksX6_nextToken_2 0 rfl rfl)
theorem dX6_nextToken_49 : decode cX6_nextToken 49 = .ok (.aload_n 0, 1) := dk_42 (dk_at dksX6_nextToken_2 3 rfl rfl)
theorem dX6_nextToken_50 : decode cX6_nextToken 50 = .ok (.getfield 246, 3) := dk_180 0 246 (dk_at dksX6_nextToken_2 4 rfl rfl)
theorem dX6_nextToken_53 : decode cX6_nextToken 53 = .ok (.iaload, 1) := dk_46 (dk_at dksX6_nextToken_2 7 rfl rfl)
theorem dX6_nextToken_54 : decode cX6_nextToken 54 = .ok (.bipush 32, 2) := dk_16 32 (dk_at dksX6_nextToken_2 8 rfl rfl)
theorem dX6_nextToken_56 : decode cX6_nextToken 56 = .ok (.if_icmp .ne 16, 3) := dk_160 0 16 (dk_at dksX6_nextToken_2 10 rfl rfl)
theorem dX6_nextToken_59 : decode cX6_nextToken 59 = .ok (.aload_n 0, 1) := dk_42 (dk_at dksX6_nextToken_2 13 rfl rfl)
theorem dX6_nextToken_60 : decode cX6_nextToken 60 = .ok (.dup, 1) := dk_89 (dk_at dksX6_nextToken_2 14 rfl rfl)
theorem dX6_nextToken_61 : decode cX6_nextToken 61 = .ok (.getfield 246, 3) := dk_180 0 246 (dk_at dksX6_nextToken_2 15 rfl rfl)
theorem dX6_nextToken_64 : decode cX6_nextToken 64 = .ok (.iconst 1, 1) := dk_4 (dk_at dksX6_nextToken_2 18 rfl rfl)
theorem dX6_nextToken_65 : decode cX6_nextToken 65 = .ok (.iadd, 1) := dk_96 (dk_at dksX6_nextToken_2 19 rfl rfl)
theorem dX6_nextToken_66 : decode cX6_nextToken 66 = .ok (.putfield 246, 3) := dk_181 0 246 (dk_at dksX6_nextToken_2 20 rfl rfl)
theorem dX6_nextToken_69 : decode cX6_nextToken 69 = .ok (.goto (-35), 3) := dk_167 255 221 (dk_at dksX6_nextToken_3 0 rfl rfl)
theorem dX6_nextToken_72 : decode cX6_nextToken 72 = .ok (.iload_n 1, 1) := dk_27 (dk_at dksX6_nextToken_3 3 rfl rfl)
theorem dX6_nextToken_73 : decode cX6_nextToken 73 = .ok (.ifCond .eq 15, 3) := dk_153 0 15 (dk_at dksX6_nextToken_3 4 rfl rfl)
theorem dX6_nextToken_76 : decode cX6_nextToken 76 = .ok (.iload_n 2, 1) := dk_28 (dk_at dksX6_nextToken_3 7 rfl rfl)
theorem dX6_nextToken_77 : decode cX6_nextToken 77 = .ok (.aload_n 0, 1) := dk_42 (dk_at dksX6_nextToken_3 8 rfl rfl)
theorem dX6_nextToken_78 : decode cX6_nextToken 78 = .ok (.getfield 246, 3) := dk_180 0 246 (dk_at dksX6_nextToken_3 9 rfl rfl)
theorem dX6_nextToken_81 : decode cX6_nextToken 81 = .ok (.if_icmp .ne 7, 3) := dk_160 0 7 (dk_at dksX6_nextToken_3 12 rfl rfl)
theorem dX6_nextToken_84 : decode cX6_nextToken 84 = .ok (.iconst 1, 1) := dk_4 (dk_at dksX6_nextToken_3 15 rfl rfl)
theorem dX6_nextToken_85 : decode cX6_nextToken 85 = .ok (.goto 4, 3) := dk_167 0 4 (dk_at dksX6_nextToken_3 16 rfl rfl)
theorem dX6_nextToken_88 : decode cX6_nextToken 88 = .ok (.iconst 0, 1) := dk_3 (dk_at dksX6_nextToken_3 19 rfl rfl)
theorem dX6_nextToken_89 : decode cX6_nextToken 89 = .ok (.istore_n 1, 1) := dk_60 (dk_at dksX6_nextToken_3 20 rfl rfl)
theorem dX6_nextToken_90 : decode cX6_nextToken 90 = .ok (.aload_n 0, 1) := dk_42 (dk_at dksX6_nextToken_3 21 rfl rfl)
theorem dX6_nextToken_91 : decode cX6_nextToken 91 = .ok (.aload_n 0, 1) := dk_42 (dk_at dksX6_nextToken_3 22 rfl rfl)
theorem dX6_nextToken_92 : decode cX6_nextToken 92 = .ok (.getfield 246, 3) := dk_180 0 246 (dk_at dksX6_nextToken_4 0 rfl rfl)
theorem dX6_nextToken_95 : decode cX6_nextToken 95 = .ok (.putfield 252, 3) := dk_181 0 252 (dk_at dksX6_nextToken_4 3 rfl rfl)
theorem dX6_nextToken_98 : decode cX6_nextToken 98 = .ok (.aload_n 0, 1) := dk_42 (dk_at dksX6_nextToken_4 6 rfl rfl)
theorem dX6_nextToken_99 : decode cX6_nextToken 99 = .ok (.getfield 252, 3) := dk_180 0 252 (dk_at dksX6_nextToken_4 7 rfl rfl)
theorem dX6_nextToken_102 : decode cX6_nextToken 102 = .ok (.aload_n 0, 1) := dk_42 (dk_at dksX6_nextToken_4 10 rfl rfl)
theorem dX6_nextToken_103 : decode cX6_nextToken 103 = .ok (.getfield 235, 3) := dk_180 0 235 (dk_at dksX6_nextToken_4 11 rfl rfl)
theorem dX6_nextToken_106 : decode cX6_nextToken 106 = .ok (.if_icmp .ne 11, 3) := dk_160 0 11 (dk_at dksX6_nextToken_4 14 rfl rfl)
theorem dX6_nextToken_109 : decode cX6_nextToken 109 = .ok (.aload_n 0, 1) := dk_42 (dk_at dksX6_nextToken_4 17 rfl rfl)
theorem dX6_nextToken_110 : decode cX6_nextToken 110 = .ok (.iconst 0, 1) := dk_3 (dk_at dksX6_nextToken_4 18 rfl rfl)
theorem dX6_nextToken_111 : decode cX6_nextToken 111 = .ok (.putfield 249, 3) := dk_181 0 249 (dk_at dksX6_nextToken_4 19 rfl rfl)
theorem dX6_nextToken_114 : decode cX6_nextToken 114 = .ok (.goto 225, 3) := dk_167 0 225 (dk_at dksX6_nextToken_5 0 rfl rfl)
theorem dX6_nextToken_117 : decode cX6_nextToken 117 = .ok (.aload_n 0, 1) := dk_42 (dk_at dksX6_nextToken_5 3 rfl rfl)
theorem dX6_nextToken_118 : decode cX6_nextToken 118 = .ok (.aload_n 0, 1) := dk_42 (dk_at dksX6_nextToken_5 4 rfl rfl)
theorem dX6_nextToken_119 : decode cX6_nextToken 119 = .ok (.getfield 252, 3) := dk_180 0 252 (dk_at dksX6_nextToken_5 5 rfl rfl)
theorem dX6_nextToken_122 : decode cX6_nextToken 122 = .ok (.invokevirtual 255, 3) := dk_182 0 255 (dk_at dksX6_nextToken_5 8 rfl rfl)
theorem dX6_nextToken_125 : decode cX6_nextToken 125 = .ok (.ifCond .eq 73, 3) := dk_153 0 73 (dk_at dksX6_nextToken_5 11 rfl rfl)
theorem dX6_nextToken_128 : decode cX6_nextToken 128 = .ok (.aload_n 0, 1) := dk_42 (dk_at dksX6_nextToken_5 14 rfl rfl)
theorem dX6_nextToken_129 : decode cX6_nextToken 129 = .ok (.aload_n 0, 1) := dk_42 (dk_at dksX6_nextToken_5 15 rfl rfl)
theorem dX6_nextToken_130 : decode cX6_nextToken 130 = .ok (.getfield 246, 3) := dk_180 0 246 (dk_at dksX6_nextToken_5 16 rfl rfl)
theorem dX6_nextToken_133 : decode cX6_nextToken 133 = .ok (.invokevirtual 255, 3) := dk_182 0 255 (dk_at dksX6_nextToken_5 19 rfl rfl)
theorem dX6_nextToken_136 : decode cX6_nextToken 136 = .ok (.ifCond .eq 16, 3) := dk_153 0 16 (dk_at dksX6_nextToken_6 0 rfl rfl)
theorem dX6_nextToken_139 : decode cX6_nextToken 139 = .ok (.aload_n 0, 1) := dk_42 (dk_at dksX6_nextToken_6 3 rfl rfl)
theorem dX6_nextToken_140 : decode cX6_nextToken 140 = .ok (.dup, 1) := dk_89 (dk_at dksX6_nextToken_6 4 rfl rfl)
theorem dX6_nextToken_141 : decode cX6_nextToken 141 = .ok (.getfield 246, 3) := dk_180 0 246 (dk_at dksX6_nextToken_6 5 rfl rfl)
theorem dX6_nextToken_144 : decode cX6_nextToken 144 = .ok (.iconst 1, 1) := dk_4 (dk_at dksX6_nextToken_6 8 rfl rfl)
theorem dX6_nextToken_145 : decode cX6_nextToken 145 = .ok (.iadd, 1) := dk_96 (dk_at dksX6_nextToken_6 9 rfl rfl)
theorem dX6_nextToken_146 : decode cX6_nextToken 146 = .ok (.putfield 246, 3) := dk_181 0 246 (dk_at dksX6_nextToken_6 10 rfl rfl)
theorem dX6_nextToken_149 : decode cX6_nextToken 149 = .ok (.goto (-21), 3) := dk_167 255 235 (dk_at dksX6_nextToken_6 13 rfl rfl)
theorem dX6_nextToken_152 : decode cX6_nextToken 152 = .ok (.aload_n 0, 1) := dk_42 (dk_at dksX6_nextToken_6 16 rfl rfl)
theorem dX6_nextToken_153 : decode cX6_nextToken 153 = .ok (.iload_n 1, 1) := dk_27 (dk_at dksX6_nextToken_6 17 rfl rfl)
theorem dX6_nextToken_154 : decode cX6_nextToken 154 = .ok (.ifCond .eq 7, 3) := dk_153 0 7 (dk_at dksX6_nextToken_6 18 rfl rfl)
theorem dX6_nextToken_157 : decode cX6_nextToken 157 = .ok (.iconst 4, 1) := dk_7 (dk_at dksX6_nextToken_6 21 rfl rfl)
theorem dX6_nextToken_158 : decode cX6_nextToken 158 = .ok (.goto 4, 3) := dk_167 0 4 (dk_at dksX6_nextToken_7 0 rfl rfl)
theorem dX6_nextToken_161 : decode cX6_nextToken 161 = .ok (.iconst 1, 1) := dk_4 (dk_at dksX6_nextToken_7 3 rfl rfl)
theorem dX6_nextToken_162 : decode cX6_nextToken 162 = .ok (.putfield 249, 3) := dk_181 0 249 (dk_at dksX6_nextToken_7 4 rfl rfl)
theorem dX6_nextToken_165 : decode cX6_nextToken 165 = .ok (.aload_n 0, 1) := dk_42 (dk_at dksX6_nextToken_7 7 rfl rfl)
theorem dX6_nextToken_166 : decode cX6_nextToken 166 = .ok (.aload_n 0, 1) := dk_42 (dk_at dksX6_nextToken_7 8 rfl rfl)
theorem dX6_nextToken_167 : decode cX6_nextToken 167 = .ok (.getfield 246, 3) := dk_180 0 246 (dk_at dksX6_nextToken_7 9 rfl rfl)
theorem dX6_nextToken_170 : decode cX6_nextToken 170 = .ok (.aload_n 0, 1) := dk_42 (dk_at dksX6_nextToken_7 12 rfl rfl)
theorem dX6_nextToken_171 : decode cX6_nextToken 171 = .ok (.getfield 252, 3) := dk_180 0 252 (dk_at dksX6_nextToken_7 13 rfl rfl)
theorem dX6_nextToken_174 : decode cX6_nextToken 174 = .ok (.isub, 1) := dk_100 (dk_at dksX6_nextToken_7 16 rfl rfl)
theorem dX6_nextToken_175 : decode cX6_nextToken 175 = .ok (.iconst 1, 1) := dk_4 (dk_at dksX6_nextToken_7 17 rfl rfl)
theorem dX6_nextToken_176 : decode cX6_nextToken 176 = .ok (.if_icmp .ne 15, 3) := dk_160 0 15 (dk_at dksX6_nextToken_7 18 rfl rfl)
theorem dX6_nextToken_179 : decode cX6_nextToken 179 = .ok (.aload_n 0, 1) := dk_42 (dk_at dksX6_nextToken_7 21 rfl rfl)
theorem dX6_nextToken_180 : decode cX6_nextToken 180 = .ok (.getfield 64, 3) := dk_180 0 64 (dk_at dksX6_nextToken_8 0 rfl rfl)
theorem dX6_nextToken_183 : decode cX6_nextToken 183 = .ok (.aload_n 0, 1) := dk_42 (dk_at dksX6_nextToken_8 3 rfl rfl)
theorem dX6_nextToken_184 : decode cX6_nextToken 184 = .ok (.getfield 252, 3) := dk_180 0 252 (dk_at dksX6_nextToken_8 4 rfl rfl)
theorem dX6_nextToken_187 : decode cX6_nextToken 187 = .ok (.iaload, 1) := dk_46 (dk_at dksX6_nextToken_8 7 rfl rfl)
theorem dX6_nextToken_188 : decode cX6_nextToken 188 = .ok (.goto 4, 3) := dk_167 0 4 (dk_at dksX6_nextToken_8 8 rfl rfl)
theorem dX6_nextToken_191 : decode cX6_nextToken 191 = .ok (.iconst 0, 1) := dk_3 (dk_at dksX6_nextToken_8 11 rfl rfl)
theorem dX6_nextToken_192 : decode cX6_nextToken 192 = .ok (.putfield 258, 3) := dk_181 1 2 (dk_at dksX6_nextToken_8 12 rfl rfl)
theorem dX6_nextToken_195 : decode cX6_nextToken 195 = .ok (.goto 144, 3) := dk_167 0 144 (dk_at dksX6_nextToken_8 15 rfl rfl)
theorem dX6_nextToken_198 : decode cX6_nextToken 198 = .ok (.aload_n 0, 1) := dk_42 (dk_at dksX6_nextToken_8 18 rfl rfl)
theorem dX6_nextToken_199 : decode cX6_nextToken 199 = .ok (.aload_n 0, 1) := dk_42 (dk_at dksX6_nextToken_8 19 rfl rfl)
theorem dX6_nextToken_200 : decode cX6_nextToken 200 = .ok (.getfield 252, 3) := dk_180 0 252 (dk_at dksX6_nextToken_8 20 rfl rfl)
theorem dX6_nextToken_203 : decode cX6_nextToken 203 = .ok (.invokevirtual 261, 3) := dk_182 1 5 (dk_at dksX6_nextToken_9 0 rfl rfl)
theorem dX6_nextToken_206 : decode cX6_nextToken 206 = .ok (.ifCond .eq 105, 3) := dk_153 0 105 (dk_at dksX6_nextToken_9 3 rfl rfl)
theorem dX6_nextToken_209 : decode cX6_nextToken 209 = .ok (.aload_n 0, 1) := dk_42 (dk_at dksX6_nextToken_9 6 rfl rfl)
theorem dX6_nextToken_210 : decode cX6_nextToken 210 = .ok (.iconst 0, 1) := dk_3 (dk_at dksX6_nextToken_9 7 rfl rfl)
theorem dX6_nextToken_211 : decode cX6_nextToken 211 = .ok (.putfield 264, 3) := dk_181 1 8 (dk_at dksX6_nextToken_9 8 rfl rfl)
theorem dX6_nextToken_214 : decode cX6_nextToken 214 = .ok (.aload_n 0, 1) := dk_42 (dk_at dksX6_nextToken_9 11 rfl rfl)
theorem dX6_nextToken_215 : decode cX6_nextToken 215 = .ok (.aload_n 0, 1) := dk_42 (dk_at dksX6_nextToken_9 12 rfl rfl)
theorem dX6_nextToken_216 : decode cX6_nextToken 216 = .ok (.getfield 246, 3) := dk_180 0 246 (dk_at dksX6_nextToken_9 13 rfl rfl)
theorem dX6_nextToken_219 : decode cX6_nextToken 219 = .ok (.invokevirtual 261, 3) := dk_182 1 5 (dk_at dksX6_nextToken_9 16 rfl rfl)
theorem dX6_nextToken_222 : decode cX6_nextToken 222 = .ok (.ifCond .eq 60, 3) := dk_153 0 60 (dk_at dksX6_nextToken_9 19 rfl rfl)
theorem dX6_nextToken_225 : decode cX6_nextToken 225 = .ok (.aload_n 0, 1) := dk_42 (dk_at dksX6_nextToken_9 22 rfl rfl)
theorem dX6_nextToken_226 : decode cX6_nextToken 226 = .ok (.aload_n 0, 1) := dk_42 (dk_at dksX6_nextToken_9 23 rfl rfl)
theorem dX6_nextToken_227 : decode cX6_nextToken 227 = .ok (.getfield 246, 3) := dk_180 0 246 (dk_at dksX6_nextToken_10 0 rfl rfl)
theorem dX6_nextToken_230 : decode cX6_nextToken 230 = .ok (.aload_n 0, 1) := dk_42 (dk_at dksX6_nextToken_10 3 rfl rfl)
theorem dX6_nextToken_231 : decode cX6_nextToken 231 = .ok (.getfield 252, 3) := dk_180 0 252 (dk_at dksX6_nextToken_10 4 rfl rfl)
theorem dX6_nextToken_234 : decode cX6_nextToken 234 = .ok (.isub, 1) := dk_100 (dk_at dksX6_nextToken_10 7 rfl rfl)
theorem dX6_nextToken_235 : decode cX6_nextToken 235 = .ok (.iconst 4, 1) := dk_7 (dk_at dksX6_nextToken_10 8 rfl rfl)
theorem dX6_nextToken_236 : decode cX6_nextToken 236 = .ok (.if_icmp .ge 26, 3) := dk_162 0 26 (dk_at dksX6_nextToken_10 9 rfl rfl)
theorem dX6_nextToken_239 : decode cX6_nextToken 239 = .ok (.bipush 10, 2) := dk_16 10 (dk_at dksX6_nextToken_10 12 rfl rfl)
theorem dX6_nextToken_241 : decode cX6_nextToken 241 = .ok (.aload_n 0, 1) := dk_42 (dk_at dksX6_nextToken_10 14 rfl rfl)
theorem dX6_nextToken_242 : decode cX6_nextToken 242 = .ok (.getfield 264, 3) := dk_180 1 8 (dk_at dksX6_nextToken_10 15 rfl rfl)
theorem dX6_nextToken_245 : decode cX6_nextToken 245 = .ok (.imul, 1) := dk_104 (dk_at dksX6_nextToken_10 18 rfl rfl)
theorem dX6_nextToken_246 : decode cX6_nextToken 246 = .ok (.aload_n 0, 1) := dk_42 (dk_at dksX6_nextToken_10 19 rfl rfl)
theorem dX6_nextToken_247 : decode cX6_nextToken 247 = .ok (.getfield 64, 3) := dk_180 0 64 (dk_at dksX6_nextToken_10 20 rfl rfl)
theorem dX6_nextToken_250 : decode cX6_nextToken 250 = .ok (.aload_n 0, 1) := dk_42 (dk_at dksX6_nextToken_10 23 rfl rfl)
theorem dX6_nextToken_251 : decode cX6_nextToken 251 = .ok (.getfield 246, 3) := dk_180 0 246 (dk_at dksX6_nextToken_11 0 rfl rfl)
theorem dX6_nextToken_254 : decode cX6_nextToken 254 = .ok (.iaload, 1) := dk_46 (dk_at dksX6_nextToken_11 3 rfl rfl)
theorem dX6_nextToken_255 : decode cX6_nextToken 255 = .ok (.iadd, 1) := dk_96 (dk_at dksX6_nextToken_11 4 rfl rfl)
theorem dX6_nextToken_256 : decode cX6_nextToken 256 = .ok (.bipush 48, 2) := dk_16 48 (dk_at dksX6_nextToken_11 5 rfl rfl)
theorem dX6_nextToken_258 : decode cX6_nextToken 258 = .ok (.isub, 1) := dk_100 (dk_at dksX6_nextToken_11 7 rfl rfl)
theorem dX6_nextToken_259 : decode cX6_nextToken 259 = .ok (.goto 7, 3) := dk_167 0 7 (dk_at dksX6_nextToken_11 8 rfl rfl)
theorem dX6_nextToken_262 : decode cX6_nextToken 262 = .ok (.aload_n 0, 1) := dk_42 (dk_at dksX6_nextToken_11 11 rfl rfl)
theorem dX6_nextToken_263 : decode cX6_nextToken 263 = .ok (.getfield 264, 3) := dk_180 1 8 (dk_at dksX6_nextToken_11 12 rfl rfl)
theorem dX6_nextToken_266 : decode cX6_nextToken 266 = .ok (.putfield 264, 3) := dk_181 1 8 (dk_at dksX6_nextToken_11 15 rfl rfl)
theorem dX6_nextToken_269 : decode cX6_nextToken 269 = .ok (.aload_n 0, 1) := dk_42 (dk_at dksX6_nextToken_11 18 rfl rfl)
theorem dX6_nextToken_270 : decode cX6_nextToken 270 = .ok (.dup, 1) := dk_89 (dk_at dksX6_nextToken_11 19 rfl rfl)
theorem dX6_nextToken_271 : decode cX6_nextToken 271 = .ok (.getfield 246, 3) := dk_180 0 246 (dk_at dksX6_nextToken_11 20 rfl rfl)
theorem dX6_nextToken_274 : decode cX6_nextToken 274 = .ok (.iconst 1, 1) := dk_4 (dk_at dksX6_nextToken_11 23 rfl rfl)
theorem dX6_nextToken_275 : decode cX6_nextToken 275 = .ok (.iadd, 1) := dk_96 (dk_at dksX6_nextToken_12 0 rfl rfl)
theorem dX6_nextToken_276 : decode cX6_nextToken 276 = .ok (.putfield 246, 3) := dk_181 0 246 (dk_at dksX6_nextToken_12 1 rfl rfl)
theorem dX6_nextToken_279 : decode cX6_nextToken 279 = .ok (.goto (-65), 3) := dk_167 255 191 (dk_at dksX6_nextToken_12 4 rfl rfl)
theorem dX6_nextToken_282 : decode cX6_nextToken 282 = .ok (.aload_n 0, 1) := dk_42 (dk_at dksX6_nextToken_12 7 rfl rfl)
theorem dX6_nextToken_283 : decode cX6_nextToken 283 = .ok (.iload_n 1, 1) := dk_27 (dk_at dksX6_nextToken_12 8 rfl rfl)
theorem dX6_nextToken_284 : decode cX6_nextToken 284 = .ok (.ifCond .ne 16, 3) := dk_154 0 16 (dk_at dksX6_nextToken_12 9 rfl rfl)
theorem dX6_nextToken_287 : decode cX6_nextToken 287 = .ok (.aload_n 0, 1) := dk_42 (dk_at dksX6_nextToken_12 12 rfl rfl)
theorem dX6_nextToken_288 : decode cX6_nextToken 288 = .ok (.getfield 246, 3) := dk_180 0 246 (dk_at dksX6_nextToken_12 13 rfl rfl)
theorem dX6_nextToken_291 : decode cX6_nextToken 291 = .ok (.aload_n 0, 1) := dk_42 (dk_at dksX6_nextToken_12 16 rfl rfl)
theorem dX6_nextToken_292 : decode cX6_nextToken 292 = .ok (.getfield 252, 3) := dk_180 0 252 (dk_at dksX6_nextToken_12 17 rfl rfl)
theorem dX6_nextToken_295 : decode cX6_nextToken 295 = .ok (.isub, 1) := dk_100 (dk_at dksX6_nextToken_12 20 rfl rfl)
theorem dX6_nextToken_296 : decode cX6_nextToken 296 = .ok (.iconst 4, 1) := dk_7 (dk_at dksX6_nextToken_12 21 rfl rfl)
theorem dX6_nextToken_297 : decode cX6_nextToken 297 = .ok (.if_icmp .le 7, 3) := dk_164 0 7 (dk_at dksX6_nextToken_13 0 rfl rfl)
theorem dX6_nextToken_300 : decode cX6_nextToken 300 = .ok (.iconst 4, 1) := dk_7 (dk_at dksX6_nextToken_13 3 rfl rfl)
theorem dX6_nextToken_301 : decode cX6_nextToken 301 = .ok (.goto 4, 3) := dk_167 0 4 (dk_at dksX6_nextToken_13 4 rfl rfl)
theorem dX6_nextToken_304 : decode cX6_nextToken 304 = .ok (.iconst 2, 1) := dk_5 (dk_at dksX6_nextToken_13 7 rfl rfl)
theorem dX6_nextToken_305 : decode cX6_nextToken 305 = .ok (.putfield 249, 3) := dk_181 0 249 (dk_at dksX6_nextToken_13 8 rfl rfl)
theorem dX6_nextToken_308 : decode cX6_nextToken 308 = .ok (.goto 31, 3) := dk_167 0 31 (dk_at dksX6_nextToken_13 11 rfl rfl)
theorem dX6_nextToken_311 : decode cX6_nextToken 311 = .ok (.aload_n 0, 1) := dk_42 (dk_at dksX6_nextToken_13 14 rfl rfl)
theorem dX6_nextToken_312 : decode cX6_nextToken 312 = .ok (.iconst 3, 1) := dk_6 (dk_at dksX6_nextToken_13 15 rfl rfl)
theorem dX6_nextToken_313 : decode cX6_nextToken 313 = .ok (.putfield 249, 3) := dk_181 0 249 (dk_at dksX6_nextToken_13 16 rfl rfl)
theorem dX6_nextToken_316 : decode cX6_nextToken 316 = .ok (.aload_n 0, 1) := dk_42 (dk_at dksX6_nextToken_13 19 rfl rfl)
theorem dX6_nextToken_317 : decode cX6_nextToken 317 = .ok (.aload_n 0, 1) := dk_42 (dk_at dksX6_nextToken_13 20 rfl rfl)
theorem dX6_nextToken_318 : decode cX6_nextToken 318 = .ok (.getfield 64, 3) := dk_180 0 64 (dk_at dksX6_nextToken_13 21 rfl rfl)
theorem dX6_nextToken_321 : decode cX6_nextToken 321 = .ok (.aload_n 0, 1) := dk_42 (dk_at dksX6_nextToken_14 0 rfl rfl)
theorem dX6_nextToken_322 : decode cX6_nextToken 322 = .ok (.getfield 252, 3) := dk_180 0 252 (dk_at dksX6_nextToken_14 1 rfl rfl)
theorem dX6_nextToken_325 : decode cX6_nextToken 325 = .ok (.iaload, 1) := dk_46 (dk_at dksX6_nextToken_14 4 rfl rfl)
theorem dX6_nextToken_326 : decode cX6_nextToken 326 = .ok (.putfield 258, 3) := dk_181 1 2 (dk_at dksX6_nextToken_14 5 rfl rfl)
theorem dX6_nextToken_329 : decode cX6_nextToken 329 = .ok (.aload_n 0, 1) := dk_42 (dk_at dksX6_nextToken_14 8 rfl rfl)
theorem dX6_nextToken_330 : decode cX6_nextToken 330 = .ok (.dup, 1) := dk_89 (dk_at dksX6_nextToken_14 9 rfl rfl)
theorem dX6_nextToken_331 : decode cX6_nextToken 331 = .ok (.getfield 246, 3) := dk_180 0 246 (dk_at dksX6_nextToken_14 10 rfl rfl)
theorem dX6_nextToken_334 : decode cX6_nextToken 334 = .ok (.iconst 1, 1) := dk_4 (dk_at dksX6_nextToken_14 13 rfl rfl)
theorem dX6_nextToken_335 : decode cX6_nextToken 335 = .ok (.iadd, 1) := dk_96 (dk_at dksX6_nextToken_14 14 rfl rfl)
theorem dX6_nextToken_336 : decode cX6_nextToken 336 = .ok (.putfield 246, 3) := dk_181 0 246 (dk_at dksX6_nextToken_14 15 rfl rfl)
theorem dX6_nextToken_339 : decode cX6_nextToken 339 = .ok (.return_, 1) := dk_177 (dk_at dksX6_nextToken_14 18 rfl rfl)
abbrev cX6_isLetter : ByteArray := prog_19_method_67_code
def yX6_isLetter : MethodName := ⟨RX6, "isLetter", "(I)Z"⟩
def dkwX6_isLetter_1 : List UInt8 := [153, 0, 7, 4, 167, 0, 4, 3, 172]
abbrev dktX6_isLetter_1 : List UInt8 := dkwX6_isLetter_1 ++ []
def dkwX6_isLetter_0 : List UInt8 := [27, 42, 180, 0, 235, 162, 0, 26, 42, 180, 0, 64, 27, 46, 133, 20, 0, 238, 20, 0, 240, 184, 0, 83]
abbrev dktX6_isLetter_0 : List UInt8 := dkwX6_isLetter_0 ++ dktX6_isLetter_1
theorem dksX6_isLetter_0 : cX6_isLetter.data.toList.drop 0 = dktX6_isLetter_0 := by decide +kernel
theorem dksX6_isLetter_1 : cX6_isLetter.data.toList.drop 24 = dktX6_isLetter_1 := dk_seg dksX6_isLetter_0 24 rfl rfl
theorem dX6_isLetter_0 : decode cX6_isLetter 0 = .ok (.iload_n 1, 1) := dk_27 (dk_at dksX6_isLetter_0 0 rfl rfl)
theorem dX6_isLetter_1 : decode cX6_isLetter 1 = .ok (.aload_n 0, 1) := dk_42 (dk_at dksX6_isLetter_0 1 rfl rfl)
theorem dX6_isLetter_2 : decode cX6_isLetter 2 = .ok (.getfield 235, 3) := dk_180 0 235 (dk_at dksX6_isLetter_0 2 rfl rfl)
theorem dX6_isLetter_5 : decode cX6_isLetter 5 = .ok (.if_icmp .ge 26, 3) := dk_162 0 26 (dk_at dksX6_isLetter_0 5 rfl rfl)
theorem dX6_isLetter_8 : decode cX6_isLetter 8 = .ok (.aload_n 0, 1) := dk_42 (dk_at dksX6_isLetter_0 8 rfl rfl)
theorem dX6_isLetter_9 : decode cX6_isLetter 9 = .ok (.getfield 64, 3) := dk_180 0 64 (dk_at dksX6_isLetter_0 9 rfl rfl)
theorem dX6_isLetter_12 : decode cX6_isLetter 12 = .ok (.iload_n 1, 1) := dk_27 (dk_at dksX6_isLetter_0 12 rfl rfl)
theorem dX6_isLetter_13 : decode cX6_isLetter 13 = .ok (.iaload, 1) := dk_46 (dk_at dksX6_isLetter_0 13 rfl rfl)
theorem dX6_isLetter_14 : decode cX6_isLetter 14 = .ok (.i2l, 1) := dk_133 (dk_at dksX6_isLetter_0 14 rfl rfl)
theorem dX6_isLetter_15 : decode cX6_isLetter 15 = .ok (.ldc2_w 238, 3) := dk_20 0 238 (dk_at dksX6_isLetter_0 15 rfl rfl)
theorem dX6_isLetter_18 : decode cX6_isLetter 18 = .ok (.ldc2_w 240, 3) := dk_20 0 240 (dk_at dksX6_isLetter_0 18 rfl rfl)
theorem dX6_isLetter_21 : decode cX6_isLetter 21 = .ok (.invokestatic 83, 3) := dk_184 0 83 (dk_at dksX6_isLetter_0 21 rfl rfl)
theorem dX6_isLetter_24 : decode cX6_isLetter 24 = .ok (.ifCond .eq 7, 3) := dk_153 0 7 (dk_at dksX6_isLetter_1 0 rfl rfl)
theorem dX6_isLetter_27 : decode cX6_isLetter 27 = .ok (.iconst 1, 1) := dk_4 (dk_at dksX6_isLetter_1 3 rfl rfl)
theorem dX6_isLetter_28 : decode cX6_isLetter 28 = .ok (.goto 4, 3) := dk_167 0 4 (dk_at dksX6_isLetter_1 4 rfl rfl)
theorem dX6_isLetter_31 : decode cX6_isLetter 31 = .ok (.iconst 0, 1) := dk_3 (dk_at dksX6_isLetter_1 7 rfl rfl)
theorem dX6_isLetter_32 : decode cX6_isLetter 32 = .ok (.ireturn, 1) := dk_172 (dk_at dksX6_isLetter_1 8 rfl rfl)
abbrev cX6_isDigit : ByteArray := prog_19_method_68_code
def yX6_isDigit : MethodName := ⟨RX6, "isDigit", "(I)Z"⟩
def dkwX6_isDigit_1 : List UInt8 := [153, 0, 7, 4, 167, 0, 4, 3, 172]
abbrev dktX6_isDigit_1 : List UInt8 := dkwX6_isDigit_1 ++ []
def dkwX6_isDigit_0 : List UInt8 := [27, 42, 180, 0, 235, 162, 0, 26, 42, 180, 0, 64, 27, 46, 133, 20, 0, 242, 20, 0, 244, 184, 0, 83]
abbrev dktX6_isDigit_0 : List UInt8 := dkwX6_isDigit_0 ++ dktX6_isDigit_1
theorem dksX6_isDigit_0 : cX6_isDigit.data.toList.drop 0 = dktX6_isDigit_0 := by decide +kernel
theorem dksX6_isDigit_1 : cX6_isDigit.data.toList.drop 24 = dktX6_isDigit_1 := dk_seg dksX6_isDigit_0 24 rfl rfl
theorem dX6_isDigit_0 : decode cX6_isDigit 0 = .ok (.iload_n 1, 1) := dk_27 (dk_at dksX6_isDigit_0 0 rfl rfl)
theorem dX6_isDigit_1 : decode cX6_isDigit 1 = .ok (.aload_n 0, 1) := dk_42 (dk_at dksX6_isDigit_0 1 rfl rfl)
theorem dX6_isDigit_2 : decode cX6_isDigit 2 = .ok (.getfield 235, 3) := dk_180 0 235 (dk_at dksX6_isDigit_0 2 rfl rfl)
theorem dX6_isDigit_5 : decode cX6_isDigit 5 = .ok (.if_icmp .ge 26, 3) := dk_162 0 26 (dk_at dksX6_isDigit_0 5 rfl rfl)
theorem dX6_isDigit_8 : decode cX6_isDigit 8 = .ok (.aload_n 0, 1) := dk_42 (dk_at dksX6_isDigit_0 8 rfl rfl)
theorem dX6_isDigit_9 : decode cX6_isDigit 9 = .ok (.getfield 64, 3) := dk_180 0 64 (dk_at dksX6_isDigit_0 9 rfl rfl)
theorem dX6_isDigit_12 : decode cX6_isDigit 12 = .ok (.iload_n 1, 1) := dk_27 (dk_at dksX6_isDigit_0 12 rfl rfl)
theorem dX6_isDigit_13 : decode cX6_isDigit 13 = .ok (.iaload, 1) := dk_46 (dk_at dksX6_isDigit_0 13 rfl rfl)
theorem dX6_isDigit_14 : decode cX6_isDigit 14 = .ok (.i2l, 1) := dk_133 (dk_at dksX6_isDigit_0 14 rfl rfl)
theorem dX6_isDigit_15 : decode cX6_isDigit 15 = .ok (.ldc2_w 242, 3) := dk_20 0 242 (dk_at dksX6_isDigit_0 15 rfl rfl)
theorem dX6_isDigit_18 : decode cX6_isDigit 18 = .ok (.ldc2_w 244, 3) := dk_20 0 244 (dk_at dksX6_isDigit_0 18 rfl rfl)
theorem dX6_isDigit_21 : decode cX6_isDigit 21 = .ok (.invokestatic 83, 3) := dk_184 0 83 (dk_at dksX6_isDigit_0 21 rfl rfl)
theorem dX6_isDigit_24 : decode cX6_isDigit 24 = .ok (.ifCond .eq 7, 3) := dk_153 0 7 (dk_at dksX6_isDigit_1 0 rfl rfl)
theorem dX6_isDigit_27 : decode cX6_isDigit 27 = .ok (.iconst 1, 1) := dk_4 (dk_at dksX6_isDigit_1 3 rfl rfl)
theorem dX6_isDigit_28 : decode cX6_isDigit 28 = .ok (.goto 4, 3) := dk_167 0 4 (dk_at dksX6_isDigit_1 4 rfl rfl)
theorem dX6_isDigit_31 : decode cX6_isDigit 31 = .ok (.iconst 0, 1) := dk_3 (dk_at dksX6_isDigit_1 7 rfl rfl)
theorem dX6_isDigit_32 : decode cX6_isDigit 32 = .ok (.ireturn, 1) := dk_172 (dk_at dksX6_isDigit_1 8 rfl rfl)
abbrev cX6_key : ByteArray := prog_19_method_73_code
def yX6_key : MethodName := ⟨RX6, "key", "()I"⟩
def dkwX6_key_2 : List UInt8 := [182, 1, 15, 153, 0, 7, 5, 167, 0, 4, 2, 172]
abbrev dktX6_key_2 : List UInt8 := dkwX6_key_2 ++ []
def dkwX6_key_1 : List UInt8 := [16, 115, 182, 1, 11, 153, 0, 5, 4, 172, 42, 16, 116, 16, 104, 16, 114, 16, 111, 16, 119, 3]
abbrev dktX6_key_1 : List UInt8 := dkwX6_key_1 ++ dktX6_key_2
def dkwX6_key_0 : List UInt8 := [42, 16, 114, 16, 111, 16, 111, 16, 109, 182, 1, 11, 153, 0, 5, 3, 172, 42, 16, 109, 16, 105, 16, 115]
abbrev dktX6_key_0 : List UInt8 := dkwX6_key_0 ++ dktX6_key_1
theorem dksX6_key_0 : cX6_key.data.toList.drop 0 = dktX6_key_0 := by decide +kernel
theorem dksX6_key_1 : cX6_key.data.toList.drop 24 = dktX6_key_1 := dk_seg dksX6_key_0 24 rfl rfl
theorem dksX6_key_2 : cX6_key.data.toList.drop 46 = dktX6_key_2 := dk_seg dksX6_key_1 22 rfl rfl
theorem dX6_key_0 : decode cX6_key 0 = .ok (.aload_n 0, 1) := dk_42 (dk_at dksX6_key_0 0 rfl rfl)
theorem dX6_key_1 : decode cX6_key 1 = .ok (.bipush 114, 2) := dk_16 114 (dk_at dksX6_key_0 1 rfl rfl)
theorem dX6_key_3 : decode cX6_key 3 = .ok (.bipush 111, 2) := dk_16 111 (dk_at dksX6_key_0 3 rfl rfl)
theorem dX6_key_5 : decode cX6_key 5 = .ok (.bipush 111, 2) := dk_16 111 (dk_at dksX6_key_0 5 rfl rfl)
theorem dX6_key_7 : decode cX6_key 7 = .ok (.bipush 109, 2) := dk_16 109 (dk_at dksX6_key_0 7 rfl rfl)
theorem dX6_key_9 : decode cX6_key 9 = .ok (.invokevirtual 267, 3) := dk_182 1 11 (dk_at dksX6_key_0 9 rfl rfl)
theorem dX6_key_12 : decode cX6_key 12 = .ok (.ifCond .eq 5, 3) := dk_153 0 5 (dk_at dksX6_key_0 12 rfl rfl)
theorem dX6_key_15 : decode cX6_key 15 = .ok (.iconst 0, 1) := dk_3 (dk_at dksX6_key_0 15 rfl rfl)
theorem dX6_key_16 : decode cX6_key 16 = .ok (.ireturn, 1) := dk_172 (dk_at dksX6_key_0 16 rfl rfl)
theorem dX6_key_17 : decode cX6_key 17 = .ok (.aload_n 0, 1) := dk_42 (dk_at dksX6_key_0 17 rfl rfl)
theorem dX6_key_18 : decode cX6_key 18 = .ok (.bipush 109, 2) := dk_16 109 (dk_at dksX6_key_0 18 rfl rfl)
theorem dX6_key_20 : decode cX6_key 20 = .ok (.bipush 105, 2) := dk_16 105 (dk_at dksX6_key_0 20 rfl rfl)
theorem dX6_key_22 : decode cX6_key 22 = .ok (.bipush 115, 2) := dk_16 115 (dk_at dksX6_key_0 22 rfl rfl)
theorem dX6_key_24 : decode cX6_key 24 = .ok (.bipush 115, 2) := dk_16 115 (dk_at dksX6_key_1 0 rfl rfl)
theorem dX6_key_26 : decode cX6_key 26 = .ok (.invokevirtual 267, 3) := dk_182 1 11 (dk_at dksX6_key_1 2 rfl rfl)
theorem dX6_key_29 : decode cX6_key 29 = .ok (.ifCond .eq 5, 3) := dk_153 0 5 (dk_at dksX6_key_1 5 rfl rfl)
theorem dX6_key_32 : decode cX6_key 32 = .ok (.iconst 1, 1) := dk_4 (dk_at dksX6_key_1 8 rfl rfl)
theorem dX6_key_33 : decode cX6_key 33 = .ok (.ireturn, 1) := dk_172 (dk_at dksX6_key_1 9 rfl rfl)
theorem dX6_key_34 : decode cX6_key 34 = .ok (.aload_n 0, 1) := dk_42 (dk_at dksX6_key_1 10 rfl rfl)
theorem dX6_key_35 : decode cX6_key 35 = .ok (.bipush 116, 2) := dk_16 116 (dk_at dksX6_key_1 11 rfl rfl)
theorem dX6_key_37 : decode cX6_key 37 = .ok (.bipush 104, 2) := dk_16 104 (dk_at dksX6_key_1 13 rfl rfl)
theorem dX6_key_39 : decode cX6_key 39 = .ok (.bipush 114, 2) := dk_16 114 (dk_at dksX6_key_1 15 rfl rfl)
theorem dX6_key_41 : decode cX6_key 41 = .ok (.bipush 111, 2) := dk_16 111 (dk_at dksX6_key_1 17 rfl rfl)
theorem dX6_key_43 : decode cX6_key 43 = .ok (.bipush 119, 2) := dk_16 119 (dk_at dksX6_key_1 19 rfl rfl)
theorem dX6_key_45 : decode cX6_key 45 = .ok (.iconst 0, 1) := dk_3 (dk_at dksX6_key_1 21 rfl rfl)
theorem dX6_key_46 : decode cX6_key 46 = .ok (.invokevirtual 271, 3) := dk_182 1 15 (dk_at dksX6_key_2 0 rfl rfl)
theorem dX6_key_49 : decode cX6_key 49 = .ok (.ifCond .eq 7, 3) := dk_153 0 7 (dk_at dksX6_key_2 3 rfl rfl)
theorem dX6_key_52 : decode cX6_key 52 = .ok (.iconst 2, 1) := dk_5 (dk_at dksX6_key_2 6 rfl rfl)
theorem dX6_key_53 : decode cX6_key 53 = .ok (.goto 4, 3) := dk_167 0 4 (dk_at dksX6_key_2 7 rfl rfl)
theorem dX6_key_56 : decode cX6_key 56 = .ok (.iconst (-1), 1) := dk_2 (dk_at dksX6_key_2 10 rfl rfl)
theorem dX6_key_57 : decode cX6_key 57 = .ok (.ireturn, 1) := dk_172 (dk_at dksX6_key_2 11 rfl rfl)
abbrev cX6_isWordAt : ByteArray := prog_19_method_71_code
def yX6_isWordAt : MethodName := ⟨RX6, "isWordAt", "(IIII)Z"⟩
def dkwX6_isWordAt_4 : List UInt8 := [160, 0, 7, 4, 167, 0, 4, 3, 172]
abbrev dktX6_isWordAt_4 : List UInt8 := dkwX6_isWordAt_4 ++ []
def dkwX6_isWordAt_3 : List UInt8 := [46, 29, 160, 0, 28, 21, 4, 153, 0, 19, 42, 180, 0, 64, 42, 180, 0, 252, 6, 96, 46, 21, 4]
abbrev dktX6_isWordAt_3 : List UInt8 := dkwX6_isWordAt_3 ++ dktX6_isWordAt_4
def dkwX6_isWordAt_2 : List UInt8 := [180, 0, 64, 42, 180, 0, 252, 4, 96, 46, 28, 160, 0, 43, 42, 180, 0, 64, 42, 180, 0, 252, 5, 96]
abbrev dktX6_isWordAt_2 : List UInt8 := dkwX6_isWordAt_2 ++ dktX6_isWordAt_3
def dkwX6_isWordAt_1 : List UInt8 := [42, 180, 0, 252, 100, 21, 5, 160, 0, 71, 42, 180, 0, 64, 42, 180, 0, 252, 46, 27, 160, 0, 58, 42]
abbrev dktX6_isWordAt_1 : List UInt8 := dkwX6_isWordAt_1 ++ dktX6_isWordAt_2
def dkwX6_isWordAt_0 : List UInt8 := [21, 4, 154, 0, 7, 6, 167, 0, 4, 7, 54, 5, 42, 180, 0, 249, 4, 160, 0, 85, 42, 180, 0, 246]
abbrev dktX6_isWordAt_0 : List UInt8 := dkwX6_isWordAt_0 ++ dktX6_isWordAt_1
theorem dksX6_isWordAt_0 : cX6_isWordAt.data.toList.drop 0 = dktX6_isWordAt_0 := by decide +kernel
theorem dksX6_isWordAt_1 : cX6_isWordAt.data.toList.drop 24 = dktX6_isWordAt_1 := dk_seg dksX6_isWordAt_0 24 rfl rfl
theorem dksX6_isWordAt_2 : cX6_isWordAt.data.toList.drop 48 = dktX6_isWordAt_2 := dk_seg dksX6_isWordAt_1 24 rfl rfl
theorem dksX6_isWordAt_3 : cX6_isWordAt.data.toList.drop 72 = dktX6_isWordAt_3 := dk_seg dksX6_isWordAt_2 24 rfl rfl
theorem dksX6_isWordAt_4 : cX6_isWordAt.data.toList.drop 95 = dktX6_isWordAt_4 := dk_seg dksX6_isWordAt_3 23 rfl rfl
theorem dX6_isWordAt_0 : decode cX6_isWordAt 0 = .ok (.iload 4, 2) := dk_21 4 (dk_at dksX6_isWordAt_0 0 rfl rfl)
theorem dX6_isWordAt_2 : decode cX6_isWordAt 2 = .ok (.ifCond .ne 7, 3) := dk_154 0 7 (dk_at dksX6_isWordAt_0 2 rfl rfl)
theorem dX6_isWordAt_5 : decode cX6_isWordAt 5 = .ok (.iconst 3, 1) := dk_6 (dk_at dksX6_isWordAt_0 5 rfl rfl)
theorem dX6_isWordAt_6 : decode cX6_isWordAt 6 = .ok (.goto 4, 3) := dk_167 0 4 (dk_at dksX6_isWordAt_0 6 rfl rfl)
theorem dX6_isWordAt_9 : decode cX6_isWordAt 9 = .ok (.iconst 4, 1) := dk_7 (dk_at dksX6_isWordAt_0 9 rfl rfl)
theorem dX6_isWordAt_10 : decode cX6_isWordAt 10 = .ok (.istore 5, 2) := dk_54 5 (dk_at dksX6_isWordAt_0 10 rfl rfl)
theorem dX6_isWordAt_12 : decode cX6_isWordAt 12 = .ok (.aload_n 0, 1) := dk_42 (dk_at dksX6_isWordAt_0 12 rfl rfl)
theorem dX6_isWordAt_13 : decode cX6_isWordAt 13 = .ok (.getfield 249, 3) := dk_180 0 249 (dk_at dksX6_isWordAt_0 13 rfl rfl)
theorem dX6_isWordAt_16 : decode cX6_isWordAt 16 = .ok (.iconst 1, 1) := dk_4 (dk_at dksX6_isWordAt_0 16 rfl rfl)
theorem dX6_isWordAt_17 : decode cX6_isWordAt 17 = .ok (.if_icmp .ne 85, 3) := dk_160 0 85 (dk_at dksX6_isWordAt_0 17 rfl rfl)
theorem dX6_isWordAt_20 : decode cX6_isWordAt 20 = .ok (.aload_n 0, 1) := dk_42 (dk_at dksX6_isWordAt_0 20 rfl rfl)
theorem dX6_isWordAt_21 : decode cX6_isWordAt 21 = .ok (.getfield 246, 3) := dk_180 0 246 (dk_at dksX6_isWordAt_0 21 rfl rfl)
theorem dX6_isWordAt_24 : decode cX6_isWordAt 24 = .ok (.aload_n 0, 1) := dk_42 (dk_at dksX6_isWordAt_1 0 rfl rfl)
theorem dX6_isWordAt_25 : decode cX6_isWordAt 25 = .ok (.getfield 252, 3) := dk_180 0 252 (dk_at dksX6_isWordAt_1 1 rfl rfl)
theorem dX6_isWordAt_28 : decode cX6_isWordAt 28 = .ok (.isub, 1) := dk_100 (dk_at dksX6_isWordAt_1 4 rfl rfl)
theorem dX6_isWordAt_29 : decode cX6_isWordAt 29 = .ok (.iload 5, 2) := dk_21 5 (dk_at dksX6_isWordAt_1 5 rfl rfl)
theorem dX6_isWordAt_31 : decode cX6_isWordAt 31 = .ok (.if_icmp .ne 71, 3) := dk_160 0 71 (dk_at dksX6_isWordAt_1 7 rfl rfl)
theorem dX6_isWordAt_34 : decode cX6_isWordAt 34 = .ok (.aload_n 0, 1) := dk_42 (dk_at dksX6_isWordAt_1 10 rfl rfl)
theorem dX6_isWordAt_35 : decode cX6_isWordAt 35 = .ok (.getfield 64, 3) := dk_180 0 64 (dk_at dksX6_isWordAt_1 11 rfl rfl)
theorem dX6_isWordAt_38 : decode cX6_isWordAt 38 = .ok (.aload_n 0, 1) := dk_42 (dk_at dksX6_isWordAt_1 14 rfl rfl)
theorem dX6_isWordAt_39 : decode cX6_isWordAt 39 = .ok (.getfield 252, 3) := dk_180 0 252 (dk_at dksX6_isWordAt_1 15 rfl rfl)
theorem dX6_isWordAt_42 : decode cX6_isWordAt 42 = .ok (.iaload, 1) := dk_46 (dk_at dksX6_isWordAt_1 18 rfl rfl)
theorem dX6_isWordAt_43 : decode cX6_isWordAt 43 = .ok (.iload_n 1, 1) := dk_27 (dk_at dksX6_isWordAt_1 19 rfl rfl)
theorem dX6_isWordAt_44 : decode cX6_isWordAt 44 = .ok (.if_icmp .ne 58, 3) := dk_160 0 58 (dk_at dksX6_isWordAt_1 20 rfl rfl)
theorem dX6_isWordAt_47 : decode cX6_isWordAt 47 = .ok (.aload_n 0, 1) := dk_42 (dk_at dksX6_isWordAt_1 23 rfl rfl)
theorem dX6_isWordAt_48 : decode cX6_isWordAt 48 = .ok (.getfield 64, 3) := dk_180 0 64 (dk_at dksX6_isWordAt_2 0 rfl rfl)
theorem dX6_isWordAt_51 : decode cX6_isWordAt 51 = .ok (.aload_n 0, 1) := dk_42 (dk_at dksX6_isWordAt_2 3 rfl rfl)
theorem dX6_isWordAt_52 : decode cX6_isWordAt 52 = .ok (.getfield 252, 3) := dk_180 0 252 (dk_at dksX6_isWordAt_2 4 rfl rfl)
theorem dX6_isWordAt_55 : decode cX6_isWordAt 55 = .ok (.iconst 1, 1) := dk_4 (dk_at dksX6_isWordAt_2 7 rfl rfl)
theorem dX6_isWordAt_56 : decode cX6_isWordAt 56 = .ok (.iadd, 1) := dk_96 (dk_at dksX6_isWordAt_2 8 rfl rfl)
theorem dX6_isWordAt_57 : decode cX6_isWordAt 57 = .ok (.iaload, 1) := dk_46 (dk_at dksX6_isWordAt_2 9 rfl rfl)
theorem dX6_isWordAt_58 : decode cX6_isWordAt 58 = .ok (.iload_n 2, 1) := dk_28 (dk_at dksX6_isWordAt_2 10 rfl rfl)
theorem dX6_isWordAt_59 : decode cX6_isWordAt 59 = .ok (.if_icmp .ne 43, 3) := dk_160 0 43 (dk_at dksX6_isWordAt_2 11 rfl rfl)
theorem dX6_isWordAt_62 : decode cX6_isWordAt 62 = .ok (.aload_n 0, 1) := dk_42 (dk_at dksX6_isWordAt_2 14 rfl rfl)
theorem dX6_isWordAt_63 : decode cX6_isWordAt 63 = .ok (.getfield 64, 3) := dk_180 0 64 (dk_at dksX6_isWordAt_2 15 rfl rfl)
theorem dX6_isWordAt_66 : decode cX6_isWordAt 66 = .ok (.aload_n 0, 1) := dk_42 (dk_at dksX6_isWordAt_2 18 rfl rfl)
theorem dX6_isWordAt_67 : decode cX6_isWordAt 67 = .ok (.getfield 252, 3) := dk_180 0 252 (dk_at dksX6_isWordAt_2 19 rfl rfl)
theorem dX6_isWordAt_70 : decode cX6_isWordAt 70 = .ok (.iconst 2, 1) := dk_5 (dk_at dksX6_isWordAt_2 22 rfl rfl)
theorem dX6_isWordAt_71 : decode cX6_isWordAt 71 = .ok (.iadd, 1) := dk_96 (dk_at dksX6_isWordAt_2 23 rfl rfl)
theorem dX6_isWordAt_72 : decode cX6_isWordAt 72 = .ok (.iaload, 1) := dk_46 (dk_at dksX6_isWordAt_3 0 rfl rfl)
theorem dX6_isWordAt_73 : decode cX6_isWordAt 73 = .ok (.iload_n 3, 1) := dk_29 (dk_at dksX6_isWordAt_3 1 rfl rfl)
theorem dX6_isWordAt_74 : decode cX6_isWordAt 74 = .ok (.if_icmp .ne 28, 3) := dk_160 0 28 (dk_at dksX6_isWordAt_3 2 rfl rfl)
theorem dX6_isWordAt_77 : decode cX6_isWordAt 77 = .ok (.iload 4, 2) := dk_21 4 (dk_at dksX6_isWordAt_3 5 rfl rfl)
theorem dX6_isWordAt_79 : decode cX6_isWordAt 79 = .ok (.ifCond .eq 19, 3) := dk_153 0 19 (dk_at dksX6_isWordAt_3 7 rfl rfl)
theorem dX6_isWordAt_82 : decode cX6_isWordAt 82 = .ok (.aload_n 0, 1) := dk_42 (dk_at dksX6_isWordAt_3 10 rfl rfl)
theorem dX6_isWordAt_83 : decode cX6_isWordAt 83 = .ok (.getfield 64, 3) := dk_180 0 64 (dk_at dksX6_isWordAt_3 11 rfl rfl)
theorem dX6_isWordAt_86 : decode cX6_isWordAt 86 = .ok (.aload_n 0, 1) := dk_42 (dk_at dksX6_isWordAt_3 14 rfl rfl)
theorem dX6_isWordAt_87 : decode cX6_isWordAt 87 = .ok (.getfield 252, 3) := dk_180 0 252 (dk_at dksX6_isWordAt_3 15 rfl rfl)
theorem dX6_isWordAt_90 : decode cX6_isWordAt 90 = .ok (.iconst 3, 1) := dk_6 (dk_at dksX6_isWordAt_3 18 rfl rfl)
theorem dX6_isWordAt_91 : decode cX6_isWordAt 91 = .ok (.iadd, 1) := dk_96 (dk_at dksX6_isWordAt_3 19 rfl rfl)
theorem dX6_isWordAt_92 : decode cX6_isWordAt 92 = .ok (.iaload, 1) := dk_46 (dk_at dksX6_isWordAt_3 20 rfl rfl)
theorem dX6_isWordAt_93 : decode cX6_isWordAt 93 = .ok (.iload 4, 2) := dk_21 4 (dk_at dksX6_isWordAt_3 21 rfl rfl)
theorem dX6_isWordAt_95 : decode cX6_isWordAt 95 = .ok (.if_icmp .ne 7, 3) := dk_160 0 7 (dk_at dksX6_isWordAt_4 0 rfl rfl)
theorem dX6_isWordAt_98 : decode cX6_isWordAt 98 = .ok (.iconst 1, 1) := dk_4 (dk_at dksX6_isWordAt_4 3 rfl rfl)
theorem dX6_isWordAt_99 : decode cX6_isWordAt 99 = .ok (.goto 4, 3) := dk_167 0 4 (dk_at dksX6_isWordAt_4 4 rfl rfl)
theorem dX6_isWordAt_102 : decode cX6_isWordAt 102 = .ok (.iconst 0, 1) := dk_3 (dk_at dksX6_isWordAt_4 7 rfl rfl)
theorem dX6_isWordAt_103 : decode cX6_isWordAt 103 = .ok (.ireturn, 1) := dk_172 (dk_at dksX6_isWordAt_4 8 rfl rfl)
abbrev cX6_isLong : ByteArray := prog_19_method_72_code
def yX6_isLong : MethodName := ⟨RX6, "isLong", "(IIIIII)Z"⟩
def dkwX6_isLong_5 : List UInt8 := [42, 180, 0, 64, 42, 180, 0, 252, 8, 96, 46, 21, 6, 160, 0, 7, 4, 167, 0, 4, 3, 172]
abbrev dktX6_isLong_5 : List UInt8 := dkwX6_isLong_5 ++ []
def dkwX6_isLong_4 : List UInt8 := [160, 0, 44, 42, 180, 0, 64, 42, 180, 0, 252, 7, 96, 46, 21, 5, 160, 0, 28, 21, 6, 153, 0, 19]
abbrev dktX6_isLong_4 : List UInt8 := dkwX6_isLong_4 ++ dktX6_isLong_5
def dkwX6_isLong_3 : List UInt8 := [180, 0, 252, 5, 96, 46, 29, 160, 0, 60, 42, 180, 0, 64, 42, 180, 0, 252, 6, 96, 46, 21, 4]
abbrev dktX6_isLong_3 : List UInt8 := dkwX6_isLong_3 ++ dktX6_isLong_4
def dkwX6_isLong_2 : List UInt8 := [160, 0, 90, 42, 180, 0, 64, 42, 180, 0, 252, 4, 96, 46, 28, 160, 0, 75, 42, 180, 0, 64, 42]
abbrev dktX6_isLong_2 : List UInt8 := dkwX6_isLong_2 ++ dktX6_isLong_3
def dkwX6_isLong_1 : List UInt8 := [180, 0, 246, 42, 180, 0, 252, 100, 21, 7, 160, 0, 103, 42, 180, 0, 64, 42, 180, 0, 252, 46, 27]
abbrev dktX6_isLong_1 : List UInt8 := dkwX6_isLong_1 ++ dktX6_isLong_2
def dkwX6_isLong_0 : List UInt8 := [21, 6, 154, 0, 7, 8, 167, 0, 5, 16, 6, 54, 7, 42, 180, 0, 249, 4, 160, 0, 117, 42]
abbrev dktX6_isLong_0 : List UInt8 := dkwX6_isLong_0 ++ dktX6_isLong_1
theorem dksX6_isLong_0 : cX6_isLong.data.toList.drop 0 = dktX6_isLong_0 := by decide +kernel
theorem dksX6_isLong_1 : cX6_isLong.data.toList.drop 22 = dktX6_isLong_1 := dk_seg dksX6_isLong_0 22 rfl rfl
theorem dksX6_isLong_2 : cX6_isLong.data.toList.drop 45 = dktX6_isLong_2 := dk_seg dksX6_isLong_1 23 rfl rfl
theorem dksX6_isLong_3 : cX6_isLong.data.toList.drop 68 = dktX6_isLong_3 := dk_seg dksX6_isLong_2 23 rfl rfl
theorem dksX6_isLong_4 : cX6_isLong.data.toList.drop 91 = dktX6_isLong_4 := dk_seg dksX6_isLong_3 23 rfl rfl
theorem dksX6_isLong_5 : cX6_isLong.data.toList.drop 115 = dktX6_isLong_5 := dk_seg dksX6_isLong_4 24 rfl rfl
theorem dX6_isLong_0 : decode cX6_isLong 0 = .ok (.iload 6, 2) := dk_21 6 (dk_at dksX6_isLong_0 0 rfl rfl)
theorem dX6_isLong_2 : decode cX6_isLong 2 = .ok (.ifCond .ne 7, 3) := dk_154 0 7 (dk_at dksX6_isLong_0 2 rfl rfl)
theorem dX6_isLong_5 : decode cX6_isLong 5 = .ok (.iconst 5, 1) := dk_8 (dk_at dksX6_isLong_0 5 rfl rfl)
theorem dX6_isLong_6 : decode cX6_isLong 6 = .ok (.goto 5, 3) := dk_167 0 5 (dk_at dksX6_isLong_0 6 rfl rfl)
theorem dX6_isLong_9 : decode cX6_isLong 9 = .ok (.bipush 6, 2) := dk_16 6 (dk_at dksX6_isLong_0 9 rfl rfl)
theorem dX6_isLong_11 : decode cX6_isLong 11 = .ok (.istore 7, 2) := dk_54 7 (dk_at dksX6_isLong_0 11 rfl rfl)
theorem dX6_isLong_13 : decode cX6_isLong 13 = .ok (.aload_n 0, 1) := dk_42 (dk_at dksX6_isLong_0 13 rfl rfl)
theorem dX6_isLong_14 : decode cX6_isLong 14 = .ok (.getfield 249, 3) := dk_180 0 249 (dk_at dksX6_isLong_0 14 rfl rfl)
theorem dX6_isLong_17 : decode cX6_isLong 17 = .ok (.iconst 1, 1) := dk_4 (dk_at dksX6_isLong_0 17 rfl rfl)
theorem dX6_isLong_18 : decode cX6_isLong 18 = .ok (.if_icmp .ne 117, 3) := dk_160 0 117 (dk_at dksX6_isLong_0 18 rfl rfl)
theorem dX6_isLong_21 : decode cX6_isLong 21 = .ok (.aload_n 0, 1) := dk_42 (dk_at dksX6_isLong_0 21 rfl rfl)
theorem dX6_isLong_22 : decode cX6_isLong 22 = .ok (.getfield 246, 3) := dk_180 0 246 (dk_at dksX6_isLong_1 0 rfl rfl)
theorem dX6_isLong_25 : decode cX6_isLong 25 = .ok (.aload_n 0, 1) := dk_42 (dk_at dksX6_isLong_1 3 rfl rfl)
theorem dX6_isLong_26 : decode cX6_isLong 26 = .ok (.getfield 252, 3) := dk_180 0 252 (dk_at dksX6_isLong_1 4 rfl rfl)
theorem dX6_isLong_29 : decode cX6_isLong 29 = .ok (.isub, 1) := dk_100 (dk_at dksX6_isLong_1 7 rfl rfl)
theorem dX6_isLong_30 : decode cX6_isLong 30 = .ok (.iload 7, 2) := dk_21 7 (dk_at dksX6_isLong_1 8 rfl rfl)
theorem dX6_isLong_32 : decode cX6_isLong 32 = .ok (.if_icmp .ne 103, 3) := dk_160 0 103 (dk_at dksX6_isLong_1 10 rfl rfl)
theorem dX6_isLong_35 : decode cX6_isLong 35 = .ok (.aload_n 0, 1) := dk_42 (dk_at dksX6_isLong_1 13 rfl rfl)
theorem dX6_isLong_36 : decode cX6_isLong 36 = .ok (.getfield 64, 3) := dk_180 0 64 (dk_at dksX6_isLong_1 14 rfl rfl)
theorem dX6_isLong_39 : decode cX6_isLong 39 = .ok (.aload_n 0, 1) := dk_42 (dk_at dksX6_isLong_1 17 rfl rfl)
theorem dX6_isLong_40 : decode cX6_isLong 40 = .ok (.getfield 252, 3) := dk_180 0 252 (dk_at dksX6_isLong_1 18 rfl rfl)
theorem dX6_isLong_43 : decode cX6_isLong 43 = .ok (.iaload, 1) := dk_46 (dk_at dksX6_isLong_1 21 rfl rfl)
theorem dX6_isLong_44 : decode cX6_isLong 44 = .ok (.iload_n 1, 1) := dk_27 (dk_at dksX6_isLong_1 22 rfl rfl)
theorem dX6_isLong_45 : decode cX6_isLong 45 = .ok (.if_icmp .ne 90, 3) := dk_160 0 90 (dk_at dksX6_isLong_2 0 rfl rfl)
theorem dX6_isLong_48 : decode cX6_isLong 48 = .ok (.aload_n 0, 1) := dk_42 (dk_at dksX6_isLong_2 3 rfl rfl)
theorem dX6_isLong_49 : decode cX6_isLong 49 = .ok (.getfield 64, 3) := dk_180 0 64 (dk_at dksX6_isLong_2 4 rfl rfl)
theorem dX6_isLong_52 : decode cX6_isLong 52 = .ok (.aload_n 0, 1) := dk_42 (dk_at dksX6_isLong_2 7 rfl rfl)
theorem dX6_isLong_53 : decode cX6_isLong 53 = .ok (.getfield 252, 3) := dk_180 0 252 (dk_at dksX6_isLong_2 8 rfl rfl)
theorem dX6_isLong_56 : decode cX6_isLong 56 = .ok (.iconst 1, 1) := dk_4 (dk_at dksX6_isLong_2 11 rfl rfl)
theorem dX6_isLong_57 : decode cX6_isLong 57 = .ok (.iadd, 1) := dk_96 (dk_at dksX6_isLong_2 12 rfl rfl)
theorem dX6_isLong_58 : decode cX6_isLong 58 = .ok (.iaload, 1) := dk_46 (dk_at dksX6_isLong_2 13 rfl rfl)
theorem dX6_isLong_59 : decode cX6_isLong 59 = .ok (.iload_n 2, 1) := dk_28 (dk_at dksX6_isLong_2 14 rfl rfl)
theorem dX6_isLong_60 : decode cX6_isLong 60 = .ok (.if_icmp .ne 75, 3) := dk_160 0 75 (dk_at dksX6_isLong_2 15 rfl rfl)
theorem dX6_isLong_63 : decode cX6_isLong 63 = .ok (.aload_n 0, 1) := dk_42 (dk_at dksX6_isLong_2 18 rfl rfl)
theorem dX6_isLong_64 : decode cX6_isLong 64 = .ok (.getfield 64, 3) := dk_180 0 64 (dk_at dksX6_isLong_2 19 rfl rfl)
theorem dX6_isLong_67 : decode cX6_isLong 67 = .ok (.aload_n 0, 1) := dk_42 (dk_at dksX6_isLong_2 22 rfl rfl)
theorem dX6_isLong_68 : decode cX6_isLong 68 = .ok (.getfield 252, 3) := dk_180 0 252 (dk_at dksX6_isLong_3 0 rfl rfl)
theorem dX6_isLong_71 : decode cX6_isLong 71 = .ok (.iconst 2, 1) := dk_5 (dk_at dksX6_isLong_3 3 rfl rfl)
theorem dX6_isLong_72 : decode cX6_isLong 72 = .ok (.iadd, 1) := dk_96 (dk_at dksX6_isLong_3 4 rfl rfl)
theorem dX6_isLong_73 : decode cX6_isLong 73 = .ok (.iaload, 1) := dk_46 (dk_at dksX6_isLong_3 5 rfl rfl)
theorem dX6_isLong_74 : decode cX6_isLong 74 = .ok (.iload_n 3, 1) := dk_29 (dk_at dksX6_isLong_3 6 rfl rfl)
theorem dX6_isLong_75 : decode cX6_isLong 75 = .ok (.if_icmp .ne 60, 3) := dk_160 0 60 (dk_at dksX6_isLong_3 7 rfl rfl)
theorem dX6_isLong_78 : decode cX6_isLong 78 = .ok (.aload_n 0, 1) := dk_42 (dk_at dksX6_isLong_3 10 rfl rfl)
theorem dX6_isLong_79 : decode cX6_isLong 79 = .ok (.getfield 64, 3) := dk_180 0 64 (dk_at dksX6_isLong_3 11 rfl rfl)
theorem dX6_isLong_82 : decode cX6_isLong 82 = .ok (.aload_n 0, 1) := dk_42 (dk_at dksX6_isLong_3 14 rfl rfl)
theorem dX6_isLong_83 : decode cX6_isLong 83 = .ok (.getfield 252, 3) := dk_180 0 252 (dk_at dksX6_isLong_3 15 rfl rfl)
theorem dX6_isLong_86 : decode cX6_isLong 86 = .ok (.iconst 3, 1) := dk_6 (dk_at dksX6_isLong_3 18 rfl rfl)
theorem dX6_isLong_87 : decode cX6_isLong 87 = .ok (.iadd, 1) := dk_96 (dk_at dksX6_isLong_3 19 rfl rfl)
theorem dX6_isLong_88 : decode cX6_isLong 88 = .ok (.iaload, 1) := dk_46 (dk_at dksX6_isLong_3 20 rfl rfl)
theorem dX6_isLong_89 : decode cX6_isLong 89 = .ok (.iload 4, 2) := dk_21 4 (dk_at dksX6_isLong_3 21 rfl rfl)
theorem dX6_isLong_91 : decode cX6_isLong 91 = .ok (.if_icmp .ne 44, 3) := dk_160 0 44 (dk_at dksX6_isLong_4 0 rfl rfl)
theorem dX6_isLong_94 : decode cX6_isLong 94 = .ok (.aload_n 0, 1) := dk_42 (dk_at dksX6_isLong_4 3 rfl rfl)
theorem dX6_isLong_95 : decode cX6_isLong 95 = .ok (.getfield 64, 3) := dk_180 0 64 (dk_at dksX6_isLong_4 4 rfl rfl)
theorem dX6_isLong_98 : decode cX6_isLong 98 = .ok (.aload_n 0, 1) := dk_42 (dk_at dksX6_isLong_4 7 rfl rfl)
theorem dX6_isLong_99 : decode cX6_isLong 99 = .ok (.getfield 252, 3) := dk_180 0 252 (dk_at dksX6_isLong_4 8 rfl rfl)
theorem dX6_isLong_102 : decode cX6_isLong 102 = .ok (.iconst 4, 1) := dk_7 (dk_at dksX6_isLong_4 11 rfl rfl)
theorem dX6_isLong_103 : decode cX6_isLong 103 = .ok (.iadd, 1) := dk_96 (dk_at dksX6_isLong_4 12 rfl rfl)
theorem dX6_isLong_104 : decode cX6_isLong 104 = .ok (.iaload, 1) := dk_46 (dk_at dksX6_isLong_4 13 rfl rfl)
theorem dX6_isLong_105 : decode cX6_isLong 105 = .ok (.iload 5, 2) := dk_21 5 (dk_at dksX6_isLong_4 14 rfl rfl)
theorem dX6_isLong_107 : decode cX6_isLong 107 = .ok (.if_icmp .ne 28, 3) := dk_160 0 28 (dk_at dksX6_isLong_4 16 rfl rfl)
theorem dX6_isLong_110 : decode cX6_isLong 110 = .ok (.iload 6, 2) := dk_21 6 (dk_at dksX6_isLong_4 19 rfl rfl)
theorem dX6_isLong_112 : decode cX6_isLong 112 = .ok (.ifCond .eq 19, 3) := dk_153 0 19 (dk_at dksX6_isLong_4 21 rfl rfl)
theorem dX6_isLong_115 : decode cX6_isLong 115 = .ok (.aload_n 0, 1) := dk_42 (dk_at dksX6_isLong_5 0 rfl rfl)
theorem dX6_isLong_116 : decode cX6_isLong 116 = .ok (.getfield 64, 3) := dk_180 0 64 (dk_at dksX6_isLong_5 1 rfl rfl)
theorem dX6_isLong_119 : decode cX6_isLong 119 = .ok (.aload_n 0, 1) := dk_42 (dk_at dksX6_isLong_5 4 rfl rfl)
theorem dX6_isLong_120 : decode cX6_isLong 120 = .ok (.getfield 252, 3) := dk_180 0 252 (dk_at dksX6_isLong_5 5 rfl rfl)
theorem dX6_isLong_123 : decode cX6_isLong 123 = .ok (.iconst 5, 1) := dk_8 (dk_at dksX6_isLong_5 8 rfl rfl)
theorem dX6_isLong_124 : decode cX6_isLong 124 = .ok (.iadd, 1) := dk_96 (dk_at dksX6_isLong_5 9 rfl rfl)
theorem dX6_isLong_125 : decode cX6_isLong 125 = .ok (.iaload, 1) := dk_46 (dk_at dksX6_isLong_5 10 rfl rfl)
theorem dX6_isLong_126 : decode cX6_isLong 126 = .ok (.iload 6, 2) := dk_21 6 (dk_at dksX6_isLong_5 11 rfl rfl)
theorem dX6_isLong_128 : decode cX6_isLong 128 = .ok (.if_icmp .ne 7, 3) := dk_160 0 7 (dk_at dksX6_isLong_5 13 rfl rfl)
theorem dX6_isLong_131 : decode cX6_isLong 131 = .ok (.iconst 1, 1) := dk_4 (dk_at dksX6_isLong_5 16 rfl rfl)
theorem dX6_isLong_132 : decode cX6_isLong 132 = .ok (.goto 4, 3) := dk_167 0 4 (dk_at dksX6_isLong_5 17 rfl rfl)
theorem dX6_isLong_135 : decode cX6_isLong 135 = .ok (.iconst 0, 1) := dk_3 (dk_at dksX6_isLong_5 20 rfl rfl)
theorem dX6_isLong_136 : decode cX6_isLong 136 = .ok (.ireturn, 1) := dk_172 (dk_at dksX6_isLong_5 21 rfl rfl)
abbrev cX6_either : ByteArray := prog_19_method_76_code
def yX6_either : MethodName := ⟨RX6, "either", "(I)Z"⟩
def dkwX6_either_1 : List UInt8 := [27, 182, 1, 25, 154, 0, 5, 3, 172, 42, 5, 16, 124, 182, 1, 34, 167, 255, 226, 4, 172]
abbrev dktX6_either_1 : List UInt8 := dkwX6_either_1 ++ []
def dkwX6_either_0 : List UInt8 := [42, 27, 182, 1, 25, 154, 0, 5, 3, 172, 42, 16, 124, 182, 1, 28, 153, 0, 27, 42, 182, 1, 31, 42]
abbrev dktX6_either_0 : List UInt8 := dkwX6_either_0 ++ dktX6_either_1
theorem dksX6_either_0 : cX6_either.data.toList.drop 0 = dktX6_either_0 := by decide +kernel
theorem dksX6_either_1 : cX6_either.data.toList.drop 24 = dktX6_either_1 := dk_seg dksX6_either_0 24 rfl rfl
theorem dX6_either_0 : decode cX6_either 0 = .ok (.aload_n 0, 1) := dk_42 (dk_at dksX6_either_0 0 rfl rfl)
theorem dX6_either_1 : decode cX6_either 1 = .ok (.iload_n 1, 1) := dk_27 (dk_at dksX6_either_0 1 rfl rfl)
theorem dX6_either_2 : decode cX6_either 2 = .ok (.invokevirtual 281, 3) := dk_182 1 25 (dk_at dksX6_either_0 2 rfl rfl)
theorem dX6_either_5 : decode cX6_either 5 = .ok (.ifCond .ne 5, 3) := dk_154 0 5 (dk_at dksX6_either_0 5 rfl rfl)
theorem dX6_either_8 : decode cX6_either 8 = .ok (.iconst 0, 1) := dk_3 (dk_at dksX6_either_0 8 rfl rfl)
theorem dX6_either_9 : decode cX6_either 9 = .ok (.ireturn, 1) := dk_172 (dk_at dksX6_either_0 9 rfl rfl)
theorem dX6_either_10 : decode cX6_either 10 = .ok (.aload_n 0, 1) := dk_42 (dk_at dksX6_either_0 10 rfl rfl)
theorem dX6_either_11 : decode cX6_either 11 = .ok (.bipush 124, 2) := dk_16 124 (dk_at dksX6_either_0 11 rfl rfl)
theorem dX6_either_13 : decode cX6_either 13 = .ok (.invokevirtual 284, 3) := dk_182 1 28 (dk_at dksX6_either_0 13 rfl rfl)
theorem dX6_either_16 : decode cX6_either 16 = .ok (.ifCond .eq 27, 3) := dk_153 0 27 (dk_at dksX6_either_0 16 rfl rfl)
theorem dX6_either_19 : decode cX6_either 19 = .ok (.aload_n 0, 1) := dk_42 (dk_at dksX6_either_0 19 rfl rfl)
theorem dX6_either_20 : decode cX6_either 20 = .ok (.invokevirtual 287, 3) := dk_182 1 31 (dk_at dksX6_either_0 20 rfl rfl)
theorem dX6_either_23 : decode cX6_either 23 = .ok (.aload_n 0, 1) := dk_42 (dk_at dksX6_either_0 23 rfl rfl)
theorem dX6_either_24 : decode cX6_either 24 = .ok (.iload_n 1, 1) := dk_27 (dk_at dksX6_either_1 0 rfl rfl)
theorem dX6_either_25 : decode cX6_either 25 = .ok (.invokevirtual 281, 3) := dk_182 1 25 (dk_at dksX6_either_1 1 rfl rfl)
theorem dX6_either_28 : decode cX6_either 28 = .ok (.ifCond .ne 5, 3) := dk_154 0 5 (dk_at dksX6_either_1 4 rfl rfl)
theorem dX6_either_31 : decode cX6_either 31 = .ok (.iconst 0, 1) := dk_3 (dk_at dksX6_either_1 7 rfl rfl)
theorem dX6_either_32 : decode cX6_either 32 = .ok (.ireturn, 1) := dk_172 (dk_at dksX6_either_1 8 rfl rfl)
theorem dX6_either_33 : decode cX6_either 33 = .ok (.aload_n 0, 1) := dk_42 (dk_at dksX6_either_1 9 rfl rfl)
theorem dX6_either_34 : decode cX6_either 34 = .ok (.iconst 2, 1) := dk_5 (dk_at dksX6_either_1 10 rfl rfl)
theorem dX6_either_35 : decode cX6_either 35 = .ok (.bipush 124, 2) := dk_16 124 (dk_at dksX6_either_1 11 rfl rfl)
theorem dX6_either_37 : decode cX6_either 37 = .ok (.invokevirtual 290, 3) := dk_182 1 34 (dk_at dksX6_either_1 13 rfl rfl)
theorem dX6_either_40 : decode cX6_either 40 = .ok (.goto (-30), 3) := dk_167 255 226 (dk_at dksX6_either_1 16 rfl rfl)
theorem dX6_either_43 : decode cX6_either 43 = .ok (.iconst 1, 1) := dk_4 (dk_at dksX6_either_1 19 rfl rfl)
theorem dX6_either_44 : decode cX6_either 44 = .ok (.ireturn, 1) := dk_172 (dk_at dksX6_either_1 20 rfl rfl)
abbrev cX6_both : ByteArray := prog_19_method_77_code
def yX6_both : MethodName := ⟨RX6, "both", "(I)Z"⟩
def dkwX6_both_1 : List UInt8 := [27, 182, 1, 37, 154, 0, 5, 3, 172, 42, 5, 16, 38, 182, 1, 34, 167, 255, 226, 4, 172]
abbrev dktX6_both_1 : List UInt8 := dkwX6_both_1 ++ []
def dkwX6_both_0 : List UInt8 := [42, 27, 182, 1, 37, 154, 0, 5, 3, 172, 42, 16, 38, 182, 1, 28, 153, 0, 27, 42, 182, 1, 31, 42]
abbrev dktX6_both_0 : List UInt8 := dkwX6_both_0 ++ dktX6_both_1
theorem dksX6_both_0 : cX6_both.data.toList.drop 0 = dktX6_both_0 := by decide +kernel
theorem dksX6_both_1 : cX6_both.data.toList.drop 24 = dktX6_both_1 := dk_seg dksX6_both_0 24 rfl rfl
theorem dX6_both_0 : decode cX6_both 0 = .ok (.aload_n 0, 1) := dk_42 (dk_at dksX6_both_0 0 rfl rfl)
theorem dX6_both_1 : decode cX6_both 1 = .ok (.iload_n 1, 1) := dk_27 (dk_at dksX6_both_0 1 rfl rfl)
theorem dX6_both_2 : decode cX6_both 2 = .ok (.invokevirtual 293, 3) := dk_182 1 37 (dk_at dksX6_both_0 2 rfl rfl)
theorem dX6_both_5 : decode cX6_both 5 = .ok (.ifCond .ne 5, 3) := dk_154 0 5 (dk_at dksX6_both_0 5 rfl rfl)
theorem dX6_both_8 : decode cX6_both 8 = .ok (.iconst 0, 1) := dk_3 (dk_at dksX6_both_0 8 rfl rfl)
theorem dX6_both_9 : decode cX6_both 9 = .ok (.ireturn, 1) := dk_172 (dk_at dksX6_both_0 9 rfl rfl)
theorem dX6_both_10 : decode cX6_both 10 = .ok (.aload_n 0, 1) := dk_42 (dk_at dksX6_both_0 10 rfl rfl)
theorem dX6_both_11 : decode cX6_both 11 = .ok (.bipush 38, 2) := dk_16 38 (dk_at dksX6_both_0 11 rfl rfl)
theorem dX6_both_13 : decode cX6_both 13 = .ok (.invokevirtual 284, 3) := dk_182 1 28 (dk_at dksX6_both_0 13 rfl rfl)
theorem dX6_both_16 : decode cX6_both 16 = .ok (.ifCond .eq 27, 3) := dk_153 0 27 (dk_at dksX6_both_0 16 rfl rfl)
theorem dX6_both_19 : decode cX6_both 19 = .ok (.aload_n 0, 1) := dk_42 (dk_at dksX6_both_0 19 rfl rfl)
theorem dX6_both_20 : decode cX6_both 20 = .ok (.invokevirtual 287, 3) := dk_182 1 31 (dk_at dksX6_both_0 20 rfl rfl)
theorem dX6_both_23 : decode cX6_both 23 = .ok (.aload_n 0, 1) := dk_42 (dk_at dksX6_both_0 23 rfl rfl)
theorem dX6_both_24 : decode cX6_both 24 = .ok (.iload_n 1, 1) := dk_27 (dk_at dksX6_both_1 0 rfl rfl)
theorem dX6_both_25 : decode cX6_both 25 = .ok (.invokevirtual 293, 3) := dk_182 1 37 (dk_at dksX6_both_1 1 rfl rfl)
theorem dX6_both_28 : decode cX6_both 28 = .ok (.ifCond .ne 5, 3) := dk_154 0 5 (dk_at dksX6_both_1 4 rfl rfl)
theorem dX6_both_31 : decode cX6_both 31 = .ok (.iconst 0, 1) := dk_3 (dk_at dksX6_both_1 7 rfl rfl)
theorem dX6_both_32 : decode cX6_both 32 = .ok (.ireturn, 1) := dk_172 (dk_at dksX6_both_1 8 rfl rfl)
theorem dX6_both_33 : decode cX6_both 33 = .ok (.aload_n 0, 1) := dk_42 (dk_at dksX6_both_1 9 rfl rfl)
theorem dX6_both_34 : decode cX6_both 34 = .ok (.iconst 2, 1) := dk_5 (dk_at dksX6_both_1 10 rfl rfl)
theorem dX6_both_35 : decode cX6_both 35 = .ok (.bipush 38, 2) := dk_16 38 (dk_at dksX6_both_1 11 rfl rfl)
theorem dX6_both_37 : decode cX6_both 37 = .ok (.invokevirtual 290, 3) := dk_182 1 34 (dk_at dksX6_both_1 13 rfl rfl)
theorem dX6_both_40 : decode cX6_both 40 = .ok (.goto (-30), 3) := dk_167 255 226 (dk_at dksX6_both_1 16 rfl rfl)
theorem dX6_both_43 : decode cX6_both 43 = .ok (.iconst 1, 1) := dk_4 (dk_at dksX6_both_1 19 rfl rfl)
theorem dX6_both_44 : decode cX6_both 44 = .ok (.ireturn, 1) := dk_172 (dk_at dksX6_both_1 20 rfl rfl)
abbrev cX6_test : ByteArray := prog_19_method_78_code
def yX6_test : MethodName := ⟨RX6, "test", "(I)Z"⟩
def dkwX6_test_2 : List UInt8 := [42, 27, 182, 1, 40, 154, 0, 5, 3, 172, 42, 5, 28, 182, 1, 34, 4, 172]
abbrev dktX6_test_2 : List UInt8 := dkwX6_test_2 ++ []
def dkwX6_test_1 : List UInt8 := [182, 1, 28, 154, 0, 12, 42, 16, 62, 182, 1, 28, 153, 0, 28, 42, 180, 1, 2, 61, 42, 182, 1, 31]
abbrev dktX6_test_1 : List UInt8 := dkwX6_test_1 ++ dktX6_test_2
def dkwX6_test_0 : List UInt8 := [42, 27, 182, 1, 40, 154, 0, 5, 3, 172, 42, 16, 60, 182, 1, 28, 154, 0, 21, 42, 16, 61]
abbrev dktX6_test_0 : List UInt8 := dkwX6_test_0 ++ dktX6_test_1
theorem dksX6_test_0 : cX6_test.data.toList.drop 0 = dktX6_test_0 := by decide +kernel
theorem dksX6_test_1 : cX6_test.data.toList.drop 22 = dktX6_test_1 := dk_seg dksX6_test_0 22 rfl rfl
theorem dksX6_test_2 : cX6_test.data.toList.drop 46 = dktX6_test_2 := dk_seg dksX6_test_1 24 rfl rfl
theorem dX6_test_0 : decode cX6_test 0 = .ok (.aload_n 0, 1) := dk_42 (dk_at dksX6_test_0 0 rfl rfl)
theorem dX6_test_1 : decode cX6_test 1 = .ok (.iload_n 1, 1) := dk_27 (dk_at dksX6_test_0 1 rfl rfl)
theorem dX6_test_2 : decode cX6_test 2 = .ok (.invokevirtual 296, 3) := dk_182 1 40 (dk_at dksX6_test_0 2 rfl rfl)
theorem dX6_test_5 : decode cX6_test 5 = .ok (.ifCond .ne 5, 3) := dk_154 0 5 (dk_at dksX6_test_0 5 rfl rfl)
theorem dX6_test_8 : decode cX6_test 8 = .ok (.iconst 0, 1) := dk_3 (dk_at dksX6_test_0 8 rfl rfl)
theorem dX6_test_9 : decode cX6_test 9 = .ok (.ireturn, 1) := dk_172 (dk_at dksX6_test_0 9 rfl rfl)
theorem dX6_test_10 : decode cX6_test 10 = .ok (.aload_n 0, 1) := dk_42 (dk_at dksX6_test_0 10 rfl rfl)
theorem dX6_test_11 : decode cX6_test 11 = .ok (.bipush 60, 2) := dk_16 60 (dk_at dksX6_test_0 11 rfl rfl)
theorem dX6_test_13 : decode cX6_test 13 = .ok (.invokevirtual 284, 3) := dk_182 1 28 (dk_at dksX6_test_0 13 rfl rfl)
theorem dX6_test_16 : decode cX6_test 16 = .ok (.ifCond .ne 21, 3) := dk_154 0 21 (dk_at dksX6_test_0 16 rfl rfl)
theorem dX6_test_19 : decode cX6_test 19 = .ok (.aload_n 0, 1) := dk_42 (dk_at dksX6_test_0 19 rfl rfl)
theorem dX6_test_20 : decode cX6_test 20 = .ok (.bipush 61, 2) := dk_16 61 (dk_at dksX6_test_0 20 rfl rfl)
theorem dX6_test_22 : decode cX6_test 22 = .ok (.invokevirtual 284, 3) := dk_182 1 28 (dk_at dksX6_test_1 0 rfl rfl)
theorem dX6_test_25 : decode cX6_test 25 = .ok (.ifCond .ne 12, 3) := dk_154 0 12 (dk_at dksX6_test_1 3 rfl rfl)
theorem dX6_test_28 : decode cX6_test 28 = .ok (.aload_n 0, 1) := dk_42 (dk_at dksX6_test_1 6 rfl rfl)
theorem dX6_test_29 : decode cX6_test 29 = .ok (.bipush 62, 2) := dk_16 62 (dk_at dksX6_test_1 7 rfl rfl)
theorem dX6_test_31 : decode cX6_test 31 = .ok (.invokevirtual 284, 3) := dk_182 1 28 (dk_at dksX6_test_1 9 rfl rfl)
theorem dX6_test_34 : decode cX6_test 34 = .ok (.ifCond .eq 28, 3) := dk_153 0 28 (dk_at dksX6_test_1 12 rfl rfl)
theorem dX6_test_37 : decode cX6_test 37 = .ok (.aload_n 0, 1) := dk_42 (dk_at dksX6_test_1 15 rfl rfl)
theorem dX6_test_38 : decode cX6_test 38 = .ok (.getfield 258, 3) := dk_180 1 2 (dk_at dksX6_test_1 16 rfl rfl)
theorem dX6_test_41 : decode cX6_test 41 = .ok (.istore_n 2, 1) := dk_61 (dk_at dksX6_test_1 19 rfl rfl)
theorem dX6_test_42 : decode cX6_test 42 = .ok (.aload_n 0, 1) := dk_42 (dk_at dksX6_test_1 20 rfl rfl)
theorem dX6_test_43 : decode cX6_test 43 = .ok (.invokevirtual 287, 3) := dk_182 1 31 (dk_at dksX6_test_1 21 rfl rfl)
theorem dX6_test_46 : decode cX6_test 46 = .ok (.aload_n 0, 1) := dk_42 (dk_at dksX6_test_2 0 rfl rfl)
theorem dX6_test_47 : decode cX6_test 47 = .ok (.iload_n 1, 1) := dk_27 (dk_at dksX6_test_2 1 rfl rfl)
theorem dX6_test_48 : decode cX6_test 48 = .ok (.invokevirtual 296, 3) := dk_182 1 40 (dk_at dksX6_test_2 2 rfl rfl)
theorem dX6_test_51 : decode cX6_test 51 = .ok (.ifCond .ne 5, 3) := dk_154 0 5 (dk_at dksX6_test_2 5 rfl rfl)
theorem dX6_test_54 : decode cX6_test 54 = .ok (.iconst 0, 1) := dk_3 (dk_at dksX6_test_2 8 rfl rfl)
theorem dX6_test_55 : decode cX6_test 55 = .ok (.ireturn, 1) := dk_172 (dk_at dksX6_test_2 9 rfl rfl)
theorem dX6_test_56 : decode cX6_test 56 = .ok (.aload_n 0, 1) := dk_42 (dk_at dksX6_test_2 10 rfl rfl)
theorem dX6_test_57 : decode cX6_test 57 = .ok (.iconst 2, 1) := dk_5 (dk_at dksX6_test_2 11 rfl rfl)
theorem dX6_test_58 : decode cX6_test 58 = .ok (.iload_n 2, 1) := dk_28 (dk_at dksX6_test_2 12 rfl rfl)
theorem dX6_test_59 : decode cX6_test 59 = .ok (.invokevirtual 290, 3) := dk_182 1 34 (dk_at dksX6_test_2 13 rfl rfl)
theorem dX6_test_62 : decode cX6_test 62 = .ok (.iconst 1, 1) := dk_4 (dk_at dksX6_test_2 16 rfl rfl)
theorem dX6_test_63 : decode cX6_test 63 = .ok (.ireturn, 1) := dk_172 (dk_at dksX6_test_2 17 rfl rfl)
abbrev cX6_sum : ByteArray := prog_19_method_79_code
def yX6_sum : MethodName := ⟨RX6, "sum", "(I)Z"⟩
def dkwX6_sum_2 : List UInt8 := [172, 42, 5, 28, 182, 1, 34, 167, 255, 213, 4, 172]
abbrev dktX6_sum_2 : List UInt8 := dkwX6_sum_2 ++ []
def dkwX6_sum_1 : List UInt8 := [182, 1, 28, 153, 0, 31, 42, 180, 1, 2, 61, 42, 182, 1, 31, 42, 27, 182, 1, 43, 154, 0, 5, 3]
abbrev dktX6_sum_1 : List UInt8 := dkwX6_sum_1 ++ dktX6_sum_2
def dkwX6_sum_0 : List UInt8 := [42, 27, 182, 1, 43, 154, 0, 5, 3, 172, 42, 16, 43, 182, 1, 28, 154, 0, 12, 42, 16, 45]
abbrev dktX6_sum_0 : List UInt8 := dkwX6_sum_0 ++ dktX6_sum_1
theorem dksX6_sum_0 : cX6_sum.data.toList.drop 0 = dktX6_sum_0 := by decide +kernel
theorem dksX6_sum_1 : cX6_sum.data.toList.drop 22 = dktX6_sum_1 := dk_seg dksX6_sum_0 22 rfl rfl
theorem dksX6_sum_2 : cX6_sum.data.toList.drop 46 = dktX6_sum_2 := dk_seg dksX6_sum_1 24 rfl rfl
theorem dX6_sum_0 : decode cX6_sum 0 = .ok (.aload_n 0, 1) := dk_42 (dk_at dksX6_sum_0 0 rfl rfl)
theorem dX6_sum_1 : decode cX6_sum 1 = .ok (.iload_n 1, 1) := dk_27 (dk_at dksX6_sum_0 1 rfl rfl)
theorem dX6_sum_2 : decode cX6_sum 2 = .ok (.invokevirtual 299, 3) := dk_182 1 43 (dk_at dksX6_sum_0 2 rfl rfl)
theorem dX6_sum_5 : decode cX6_sum 5 = .ok (.ifCond .ne 5, 3) := dk_154 0 5 (dk_at dksX6_sum_0 5 rfl rfl)
theorem dX6_sum_8 : decode cX6_sum 8 = .ok (.iconst 0, 1) := dk_3 (dk_at dksX6_sum_0 8 rfl rfl)
theorem dX6_sum_9 : decode cX6_sum 9 = .ok (.ireturn, 1) := dk_172 (dk_at dksX6_sum_0 9 rfl rfl)
theorem dX6_sum_10 : decode cX6_sum 10 = .ok (.aload_n 0, 1) := dk_42 (dk_at dksX6_sum_0 10 rfl rfl)
theorem dX6_sum_11 : decode cX6_sum 11 = .ok (.bipush 43, 2) := dk_16 43 (dk_at dksX6_sum_0 11 rfl rfl)
theorem dX6_sum_13 : decode cX6_sum 13 = .ok (.invokevirtual 284, 3) := dk_182 1 28 (dk_at dksX6_sum_0 13 rfl rfl)
theorem dX6_sum_16 : decode cX6_sum 16 = .ok (.ifCond .ne 12, 3) := dk_154 0 12 (dk_at dksX6_sum_0 16 rfl rfl)
theorem dX6_sum_19 : decode cX6_sum 19 = .ok (.aload_n 0, 1) := dk_42 (dk_at dksX6_sum_0 19 rfl rfl)
theorem dX6_sum_20 : decode cX6_sum 20 = .ok (.bipush 45, 2) := dk_16 45 (dk_at dksX6_sum_0 20 rfl rfl)
theorem dX6_sum_22 : decode cX6_sum 22 = .ok (.invokevirtual 284, 3) := dk_182 1 28 (dk_at dksX6_sum_1 0 rfl rfl)
theorem dX6_sum_25 : decode cX6_sum 25 = .ok (.ifCond .eq 31, 3) := dk_153 0 31 (dk_at dksX6_sum_1 3 rfl rfl)
theorem dX6_sum_28 : decode cX6_sum 28 = .ok (.aload_n 0, 1) := dk_42 (dk_at dksX6_sum_1 6 rfl rfl)
theorem dX6_sum_29 : decode cX6_sum 29 = .ok (.getfield 258, 3) := dk_180 1 2 (dk_at dksX6_sum_1 7 rfl rfl)
theorem dX6_sum_32 : decode cX6_sum 32 = .ok (.istore_n 2, 1) := dk_61 (dk_at dksX6_sum_1 10 rfl rfl)
theorem dX6_sum_33 : decode cX6_sum 33 = .ok (.aload_n 0, 1) := dk_42 (dk_at dksX6_sum_1 11 rfl rfl)
theorem dX6_sum_34 : decode cX6_sum 34 = .ok (.invokevirtual 287, 3) := dk_182 1 31 (dk_at dksX6_sum_1 12 rfl rfl)
theorem dX6_sum_37 : decode cX6_sum 37 = .ok (.aload_n 0, 1) := dk_42 (dk_at dksX6_sum_1 15 rfl rfl)
theorem dX6_sum_38 : decode cX6_sum 38 = .ok (.iload_n 1, 1) := dk_27 (dk_at dksX6_sum_1 16 rfl rfl)
theorem dX6_sum_39 : decode cX6_sum 39 = .ok (.invokevirtual 299, 3) := dk_182 1 43 (dk_at dksX6_sum_1 17 rfl rfl)
theorem dX6_sum_42 : decode cX6_sum 42 = .ok (.ifCond .ne 5, 3) := dk_154 0 5 (dk_at dksX6_sum_1 20 rfl rfl)
theorem dX6_sum_45 : decode cX6_sum 45 = .ok (.iconst 0, 1) := dk_3 (dk_at dksX6_sum_1 23 rfl rfl)
theorem dX6_sum_46 : decode cX6_sum 46 = .ok (.ireturn, 1) := dk_172 (dk_at dksX6_sum_2 0 rfl rfl)
theorem dX6_sum_47 : decode cX6_sum 47 = .ok (.aload_n 0, 1) := dk_42 (dk_at dksX6_sum_2 1 rfl rfl)
theorem dX6_sum_48 : decode cX6_sum 48 = .ok (.iconst 2, 1) := dk_5 (dk_at dksX6_sum_2 2 rfl rfl)
theorem dX6_sum_49 : decode cX6_sum 49 = .ok (.iload_n 2, 1) := dk_28 (dk_at dksX6_sum_2 3 rfl rfl)
theorem dX6_sum_50 : decode cX6_sum 50 = .ok (.invokevirtual 290, 3) := dk_182 1 34 (dk_at dksX6_sum_2 4 rfl rfl)
theorem dX6_sum_53 : decode cX6_sum 53 = .ok (.goto (-43), 3) := dk_167 255 213 (dk_at dksX6_sum_2 7 rfl rfl)
theorem dX6_sum_56 : decode cX6_sum 56 = .ok (.iconst 1, 1) := dk_4 (dk_at dksX6_sum_2 10 rfl rfl)
theorem dX6_sum_57 : decode cX6_sum 57 = .ok (.ireturn, 1) := dk_172 (dk_at dksX6_sum_2 11 rfl rfl)
abbrev cX6_term : ByteArray := prog_19_method_80_code
def yX6_term : MethodName := ⟨RX6, "term", "(I)Z"⟩
def dkwX6_term_2 : List UInt8 := [172, 42, 5, 28, 182, 1, 34, 167, 255, 213, 4, 172]
abbrev dktX6_term_2 : List UInt8 := dkwX6_term_2 ++ []
def dkwX6_term_1 : List UInt8 := [182, 1, 28, 153, 0, 31, 42, 180, 1, 2, 61, 42, 182, 1, 31, 42, 27, 182, 1, 46, 154, 0, 5, 3]
abbrev dktX6_term_1 : List UInt8 := dkwX6_term_1 ++ dktX6_term_2
def dkwX6_term_0 : List UInt8 := [42, 27, 182, 1, 46, 154, 0, 5, 3, 172, 42, 16, 42, 182, 1, 28, 154, 0, 12, 42, 16, 47]
abbrev dktX6_term_0 : List UInt8 := dkwX6_term_0 ++ dktX6_term_1
theorem dksX6_term_0 : cX6_term.data.toList.drop 0 = dktX6_term_0 := by decide +kernel
theorem dksX6_term_1 : cX6_term.data.toList.drop 22 = dktX6_term_1 := dk_seg dksX6_term_0 22 rfl rfl
theorem dksX6_term_2 : cX6_term.data.toList.drop 46 = dktX6_term_2 := dk_seg dksX6_term_1 24 rfl rfl
theorem dX6_term_0 : decode cX6_term 0 = .ok (.aload_n 0, 1) := dk_42 (dk_at dksX6_term_0 0 rfl rfl)
theorem dX6_term_1 : decode cX6_term 1 = .ok (.iload_n 1, 1) := dk_27 (dk_at dksX6_term_0 1 rfl rfl)
theorem dX6_term_2 : decode cX6_term 2 = .ok (.invokevirtual 302, 3) := dk_182 1 46 (dk_at dksX6_term_0 2 rfl rfl)
theorem dX6_term_5 : decode cX6_term 5 = .ok (.ifCond .ne 5, 3) := dk_154 0 5 (dk_at dksX6_term_0 5 rfl rfl)
theorem dX6_term_8 : decode cX6_term 8 = .ok (.iconst 0, 1) := dk_3 (dk_at dksX6_term_0 8 rfl rfl)
theorem dX6_term_9 : decode cX6_term 9 = .ok (.ireturn, 1) := dk_172 (dk_at dksX6_term_0 9 rfl rfl)
theorem dX6_term_10 : decode cX6_term 10 = .ok (.aload_n 0, 1) := dk_42 (dk_at dksX6_term_0 10 rfl rfl)
theorem dX6_term_11 : decode cX6_term 11 = .ok (.bipush 42, 2) := dk_16 42 (dk_at dksX6_term_0 11 rfl rfl)
theorem dX6_term_13 : decode cX6_term 13 = .ok (.invokevirtual 284, 3) := dk_182 1 28 (dk_at dksX6_term_0 13 rfl rfl)
theorem dX6_term_16 : decode cX6_term 16 = .ok (.ifCond .ne 12, 3) := dk_154 0 12 (dk_at dksX6_term_0 16 rfl rfl)
theorem dX6_term_19 : decode cX6_term 19 = .ok (.aload_n 0, 1) := dk_42 (dk_at dksX6_term_0 19 rfl rfl)
theorem dX6_term_20 : decode cX6_term 20 = .ok (.bipush 47, 2) := dk_16 47 (dk_at dksX6_term_0 20 rfl rfl)
theorem dX6_term_22 : decode cX6_term 22 = .ok (.invokevirtual 284, 3) := dk_182 1 28 (dk_at dksX6_term_1 0 rfl rfl)
theorem dX6_term_25 : decode cX6_term 25 = .ok (.ifCond .eq 31, 3) := dk_153 0 31 (dk_at dksX6_term_1 3 rfl rfl)
theorem dX6_term_28 : decode cX6_term 28 = .ok (.aload_n 0, 1) := dk_42 (dk_at dksX6_term_1 6 rfl rfl)
theorem dX6_term_29 : decode cX6_term 29 = .ok (.getfield 258, 3) := dk_180 1 2 (dk_at dksX6_term_1 7 rfl rfl)
theorem dX6_term_32 : decode cX6_term 32 = .ok (.istore_n 2, 1) := dk_61 (dk_at dksX6_term_1 10 rfl rfl)
theorem dX6_term_33 : decode cX6_term 33 = .ok (.aload_n 0, 1) := dk_42 (dk_at dksX6_term_1 11 rfl rfl)
theorem dX6_term_34 : decode cX6_term 34 = .ok (.invokevirtual 287, 3) := dk_182 1 31 (dk_at dksX6_term_1 12 rfl rfl)
theorem dX6_term_37 : decode cX6_term 37 = .ok (.aload_n 0, 1) := dk_42 (dk_at dksX6_term_1 15 rfl rfl)
theorem dX6_term_38 : decode cX6_term 38 = .ok (.iload_n 1, 1) := dk_27 (dk_at dksX6_term_1 16 rfl rfl)
theorem dX6_term_39 : decode cX6_term 39 = .ok (.invokevirtual 302, 3) := dk_182 1 46 (dk_at dksX6_term_1 17 rfl rfl)
theorem dX6_term_42 : decode cX6_term 42 = .ok (.ifCond .ne 5, 3) := dk_154 0 5 (dk_at dksX6_term_1 20 rfl rfl)
theorem dX6_term_45 : decode cX6_term 45 = .ok (.iconst 0, 1) := dk_3 (dk_at dksX6_term_1 23 rfl rfl)
theorem dX6_term_46 : decode cX6_term 46 = .ok (.ireturn, 1) := dk_172 (dk_at dksX6_term_2 0 rfl rfl)
theorem dX6_term_47 : decode cX6_term 47 = .ok (.aload_n 0, 1) := dk_42 (dk_at dksX6_term_2 1 rfl rfl)
theorem dX6_term_48 : decode cX6_term 48 = .ok (.iconst 2, 1) := dk_5 (dk_at dksX6_term_2 2 rfl rfl)
theorem dX6_term_49 : decode cX6_term 49 = .ok (.iload_n 2, 1) := dk_28 (dk_at dksX6_term_2 3 rfl rfl)
theorem dX6_term_50 : decode cX6_term 50 = .ok (.invokevirtual 290, 3) := dk_182 1 34 (dk_at dksX6_term_2 4 rfl rfl)
theorem dX6_term_53 : decode cX6_term 53 = .ok (.goto (-43), 3) := dk_167 255 213 (dk_at dksX6_term_2 7 rfl rfl)
theorem dX6_term_56 : decode cX6_term 56 = .ok (.iconst 1, 1) := dk_4 (dk_at dksX6_term_2 10 rfl rfl)
theorem dX6_term_57 : decode cX6_term 57 = .ok (.ireturn, 1) := dk_172 (dk_at dksX6_term_2 11 rfl rfl)
abbrev cX6_part0 : ByteArray := prog_19_method_81_code
def yX6_part0 : MethodName := ⟨RX6, "part0", "(I)Z"⟩
def dkwX6_part0_9 : List UInt8 := [4, 172]
abbrev dktX6_part0_9 : List UInt8 := dkwX6_part0_9 ++ []
def dkwX6_part0_8 : List UInt8 := [16, 41, 182, 1, 28, 154, 0, 5, 3, 172, 42, 89, 180, 1, 58, 4, 100, 181, 1, 58, 42, 182, 1, 31]
abbrev dktX6_part0_8 : List UInt8 := dkwX6_part0_8 ++ dktX6_part0_9
def dkwX6_part0_7 : List UInt8 := [172, 42, 89, 180, 1, 58, 4, 96, 181, 1, 58, 42, 182, 1, 31, 42, 27, 182, 1, 61, 153, 0, 12, 42]
abbrev dktX6_part0_7 : List UInt8 := dkwX6_part0_7 ++ dktX6_part0_8
def dkwX6_part0_6 : List UInt8 := [182, 1, 34, 4, 172, 42, 16, 40, 182, 1, 28, 153, 0, 12, 42, 180, 1, 58, 16, 8, 160, 0, 5, 3]
abbrev dktX6_part0_6 : List UInt8 := dkwX6_part0_6 ++ dktX6_part0_7
def dkwX6_part0_5 : List UInt8 := [182, 1, 46, 154, 0, 5, 3, 172, 42, 89, 180, 1, 55, 4, 100, 181, 1, 55, 42, 5, 16, 33]
abbrev dktX6_part0_5 : List UInt8 := dkwX6_part0_5 ++ dktX6_part0_6
def dkwX6_part0_4 : List UInt8 := [180, 1, 55, 16, 8, 162, 0, 46, 42, 89, 180, 1, 55, 4, 96, 181, 1, 55, 42, 182, 1, 31, 42, 27]
abbrev dktX6_part0_4 : List UInt8 := dkwX6_part0_4 ++ dktX6_part0_5
def dkwX6_part0_3 : List UInt8 := [180, 1, 49, 4, 96, 181, 1, 49, 42, 182, 1, 31, 4, 172, 42, 16, 33, 182, 1, 28, 153, 0, 55, 42]
abbrev dktX6_part0_3 : List UInt8 := dkwX6_part0_3 ++ dktX6_part0_4
def dkwX6_part0_2 : List UInt8 := [27, 42, 180, 1, 2, 184, 1, 52, 153, 0, 28, 42, 4, 42, 180, 1, 2, 182, 1, 34, 42, 89]
abbrev dktX6_part0_2 : List UInt8 := dkwX6_part0_2 ++ dktX6_part0_3
def dkwX6_part0_1 : List UInt8 := [181, 1, 49, 42, 182, 1, 31, 4, 172, 42, 180, 0, 249, 4, 160, 0, 46, 42, 180, 1, 2, 153, 0, 39]
abbrev dktX6_part0_1 : List UInt8 := dkwX6_part0_1 ++ dktX6_part0_2
def dkwX6_part0_0 : List UInt8 := [42, 180, 0, 249, 5, 160, 0, 28, 42, 3, 42, 180, 1, 8, 182, 1, 34, 42, 89, 180, 1, 49, 4, 96]
abbrev dktX6_part0_0 : List UInt8 := dkwX6_part0_0 ++ dktX6_part0_1
theorem dksX6_part0_0 : cX6_part0.data.toList.drop 0 = dktX6_part0_0 := by decide +kernel
theorem dksX6_part0_1 : cX6_part0.data.toList.drop 24 = dktX6_part0_1 := dk_seg dksX6_part0_0 24 rfl rfl
theorem dksX6_part0_2 : cX6_part0.data.toList.drop 48 = dktX6_part0_2 := dk_seg dksX6_part0_1 24 rfl rfl
theorem dksX6_part0_3 : cX6_part0.data.toList.drop 70 = dktX6_part0_3 := dk_seg dksX6_part0_2 22 rfl rfl
theorem dksX6_part0_4 : cX6_part0.data.toList.drop 94 = dktX6_part0_4 := dk_seg dksX6_part0_3 24 rfl rfl
theorem dksX6_part0_5 : cX6_part0.data.toList.drop 118 = dktX6_part0_5 := dk_seg dksX6_part0_4 24 rfl rfl
theorem dksX6_part0_6 : cX6_part0.data.toList.drop 140 = dktX6_part0_6 := dk_seg dksX6_part0_5 22 rfl rfl
theorem dksX6_part0_7 : cX6_part0.data.toList.drop 164 = dktX6_part0_7 := dk_seg dksX6_part0_6 24 rfl rfl
theorem dksX6_part0_8 : cX6_part0.data.toList.drop 188 = dktX6_part0_8 := dk_seg dksX6_part0_7 24 rfl rfl
theorem dksX6_part0_9 : cX6_part0.data.toList.drop 212 = dktX6_part0_9 := dk_seg dksX6_part0_8 24 rfl rfl
theorem dX6_part0_0 : decode cX6_part0 0 = .ok (.aload_n 0, 1) := dk_42 (dk_at dksX6_part0_0 0 rfl rfl)
theorem dX6_part0_1 : decode cX6_part0 1 = .ok (.getfield 249, 3) := dk_180 0 249 (dk_at dksX6_part0_0 1 rfl rfl)
theorem dX6_part0_4 : decode cX6_part0 4 = .ok (.iconst 2, 1) := dk_5 (dk_at dksX6_part0_0 4 rfl rfl)
theorem dX6_part0_5 : decode cX6_part0 5 = .ok (.if_icmp .ne 28, 3) := dk_160 0 28 (dk_at dksX6_part0_0 5 rfl rfl)
theorem dX6_part0_8 : decode cX6_part0 8 = .ok (.aload_n 0, 1) := dk_42 (dk_at dksX6_part0_0 8 rfl rfl)
theorem dX6_part0_9 : decode cX6_part0 9 = .ok (.iconst 0, 1) := dk_3 (dk_at dksX6_part0_0 9 rfl rfl)
theorem dX6_part0_10 : decode cX6_part0 10 = .ok (.aload_n 0, 1) := dk_42 (dk_at dksX6_part0_0 10 rfl rfl)
theorem dX6_part0_11 : decode cX6_part0 11 = .ok (.getfield 264, 3) := dk_180 1 8 (dk_at dksX6_part0_0 11 rfl rfl)
theorem dX6_part0_14 : decode cX6_part0 14 = .ok (.invokevirtual 290, 3) := dk_182 1 34 (dk_at dksX6_part0_0 14 rfl rfl)
theorem dX6_part0_17 : decode cX6_part0 17 = .ok (.aload_n 0, 1) := dk_42 (dk_at dksX6_part0_0 17 rfl rfl)
theorem dX6_part0_18 : decode cX6_part0 18 = .ok (.dup, 1) := dk_89 (dk_at dksX6_part0_0 18 rfl rfl)
theorem dX6_part0_19 : decode cX6_part0 19 = .ok (.getfield 305, 3) := dk_180 1 49 (dk_at dksX6_part0_0 19 rfl rfl)
theorem dX6_part0_22 : decode cX6_part0 22 = .ok (.iconst 1, 1) := dk_4 (dk_at dksX6_part0_0 22 rfl rfl)
theorem dX6_part0_23 : decode cX6_part0 23 = .ok (.iadd, 1) := dk_96 (dk_at dksX6_part0_0 23 rfl rfl)
theorem dX6_part0_24 : decode cX6_part0 24 = .ok (.putfield 305, 3) := dk_181 1 49 (dk_at dksX6_part0_1 0 rfl rfl)
theorem dX6_part0_27 : decode cX6_part0 27 = .ok (.aload_n 0, 1) := dk_42 (dk_at dksX6_part0_1 3 rfl rfl)
theorem dX6_part0_28 : decode cX6_part0 28 = .ok (.invokevirtual 287, 3) := dk_182 1 31 (dk_at dksX6_part0_1 4 rfl rfl)
theorem dX6_part0_31 : decode cX6_part0 31 = .ok (.iconst 1, 1) := dk_4 (dk_at dksX6_part0_1 7 rfl rfl)
theorem dX6_part0_32 : decode cX6_part0 32 = .ok (.ireturn, 1) := dk_172 (dk_at dksX6_part0_1 8 rfl rfl)
theorem dX6_part0_33 : decode cX6_part0 33 = .ok (.aload_n 0, 1) := dk_42 (dk_at dksX6_part0_1 9 rfl rfl)
theorem dX6_part0_34 : decode cX6_part0 34 = .ok (.getfield 249, 3) := dk_180 0 249 (dk_at dksX6_part0_1 10 rfl rfl)
theorem dX6_part0_37 : decode cX6_part0 37 = .ok (.iconst 1, 1) := dk_4 (dk_at dksX6_part0_1 13 rfl rfl)
theorem dX6_part0_38 : decode cX6_part0 38 = .ok (.if_icmp .ne 46, 3) := dk_160 0 46 (dk_at dksX6_part0_1 14 rfl rfl)
theorem dX6_part0_41 : decode cX6_part0 41 = .ok (.aload_n 0, 1) := dk_42 (dk_at dksX6_part0_1 17 rfl rfl)
theorem dX6_part0_42 : decode cX6_part0 42 = .ok (.getfield 258, 3) := dk_180 1 2 (dk_at dksX6_part0_1 18 rfl rfl)
theorem dX6_part0_45 : decode cX6_part0 45 = .ok (.ifCond .eq 39, 3) := dk_153 0 39 (dk_at dksX6_part0_1 21 rfl rfl)
theorem dX6_part0_48 : decode cX6_part0 48 = .ok (.iload_n 1, 1) := dk_27 (dk_at dksX6_part0_2 0 rfl rfl)
theorem dX6_part0_49 : decode cX6_part0 49 = .ok (.aload_n 0, 1) := dk_42 (dk_at dksX6_part0_2 1 rfl rfl)
theorem dX6_part0_50 : decode cX6_part0 50 = .ok (.getfield 258, 3) := dk_180 1 2 (dk_at dksX6_part0_2 2 rfl rfl)
theorem dX6_part0_53 : decode cX6_part0 53 = .ok (.invokestatic 308, 3) := dk_184 1 52 (dk_at dksX6_part0_2 5 rfl rfl)
theorem dX6_part0_56 : decode cX6_part0 56 = .ok (.ifCond .eq 28, 3) := dk_153 0 28 (dk_at dksX6_part0_2 8 rfl rfl)
theorem dX6_part0_59 : decode cX6_part0 59 = .ok (.aload_n 0, 1) := dk_42 (dk_at dksX6_part0_2 11 rfl rfl)
theorem dX6_part0_60 : decode cX6_part0 60 = .ok (.iconst 1, 1) := dk_4 (dk_at dksX6_part0_2 12 rfl rfl)
theorem dX6_part0_61 : decode cX6_part0 61 = .ok (.aload_n 0, 1) := dk_42 (dk_at dksX6_part0_2 13 rfl rfl)
theorem dX6_part0_62 : decode cX6_part0 62 = .ok (.getfield 258, 3) := dk_180 1 2 (dk_at dksX6_part0_2 14 rfl rfl)
theorem dX6_part0_65 : decode cX6_part0 65 = .ok (.invokevirtual 290, 3) := dk_182 1 34 (dk_at dksX6_part0_2 17 rfl rfl)
theorem dX6_part0_68 : decode cX6_part0 68 = .ok (.aload_n 0, 1) := dk_42 (dk_at dksX6_part0_2 20 rfl rfl)
theorem dX6_part0_69 : decode cX6_part0 69 = .ok (.dup, 1) := dk_89 (dk_at dksX6_part0_2 21 rfl rfl)
theorem dX6_part0_70 : decode cX6_part0 70 = .ok (.getfield 305, 3) := dk_180 1 49 (dk_at dksX6_part0_3 0 rfl rfl)
theorem dX6_part0_73 : decode cX6_part0 73 = .ok (.iconst 1, 1) := dk_4 (dk_at dksX6_part0_3 3 rfl rfl)
theorem dX6_part0_74 : decode cX6_part0 74 = .ok (.iadd, 1) := dk_96 (dk_at dksX6_part0_3 4 rfl rfl)
theorem dX6_part0_75 : decode cX6_part0 75 = .ok (.putfield 305, 3) := dk_181 1 49 (dk_at dksX6_part0_3 5 rfl rfl)
theorem dX6_part0_78 : decode cX6_part0 78 = .ok (.aload_n 0, 1) := dk_42 (dk_at dksX6_part0_3 8 rfl rfl)
theorem dX6_part0_79 : decode cX6_part0 79 = .ok (.invokevirtual 287, 3) := dk_182 1 31 (dk_at dksX6_part0_3 9 rfl rfl)
theorem dX6_part0_82 : decode cX6_part0 82 = .ok (.iconst 1, 1) := dk_4 (dk_at dksX6_part0_3 12 rfl rfl)
theorem dX6_part0_83 : decode cX6_part0 83 = .ok (.ireturn, 1) := dk_172 (dk_at dksX6_part0_3 13 rfl rfl)
theorem dX6_part0_84 : decode cX6_part0 84 = .ok (.aload_n 0, 1) := dk_42 (dk_at dksX6_part0_3 14 rfl rfl)
theorem dX6_part0_85 : decode cX6_part0 85 = .ok (.bipush 33, 2) := dk_16 33 (dk_at dksX6_part0_3 15 rfl rfl)
theorem dX6_part0_87 : decode cX6_part0 87 = .ok (.invokevirtual 284, 3) := dk_182 1 28 (dk_at dksX6_part0_3 17 rfl rfl)
theorem dX6_part0_90 : decode cX6_part0 90 = .ok (.ifCond .eq 55, 3) := dk_153 0 55 (dk_at dksX6_part0_3 20 rfl rfl)
theorem dX6_part0_93 : decode cX6_part0 93 = .ok (.aload_n 0, 1) := dk_42 (dk_at dksX6_part0_3 23 rfl rfl)
theorem dX6_part0_94 : decode cX6_part0 94 = .ok (.getfield 311, 3) := dk_180 1 55 (dk_at dksX6_part0_4 0 rfl rfl)
theorem dX6_part0_97 : decode cX6_part0 97 = .ok (.bipush 8, 2) := dk_16 8 (dk_at dksX6_part0_4 3 rfl rfl)
theorem dX6_part0_99 : decode cX6_part0 99 = .ok (.if_icmp .ge 46, 3) := dk_162 0 46 (dk_at dksX6_part0_4 5 rfl rfl)
theorem dX6_part0_102 : decode cX6_part0 102 = .ok (.aload_n 0, 1) := dk_42 (dk_at dksX6_part0_4 8 rfl rfl)
theorem dX6_part0_103 : decode cX6_part0 103 = .ok (.dup, 1) := dk_89 (dk_at dksX6_part0_4 9 rfl rfl)
theorem dX6_part0_104 : decode cX6_part0 104 = .ok (.getfield 311, 3) := dk_180 1 55 (dk_at dksX6_part0_4 10 rfl rfl)
theorem dX6_part0_107 : decode cX6_part0 107 = .ok (.iconst 1, 1) := dk_4 (dk_at dksX6_part0_4 13 rfl rfl)
theorem dX6_part0_108 : decode cX6_part0 108 = .ok (.iadd, 1) := dk_96 (dk_at dksX6_part0_4 14 rfl rfl)
theorem dX6_part0_109 : decode cX6_part0 109 = .ok (.putfield 311, 3) := dk_181 1 55 (dk_at dksX6_part0_4 15 rfl rfl)
theorem dX6_part0_112 : decode cX6_part0 112 = .ok (.aload_n 0, 1) := dk_42 (dk_at dksX6_part0_4 18 rfl rfl)
theorem dX6_part0_113 : decode cX6_part0 113 = .ok (.invokevirtual 287, 3) := dk_182 1 31 (dk_at dksX6_part0_4 19 rfl rfl)
theorem dX6_part0_116 : decode cX6_part0 116 = .ok (.aload_n 0, 1) := dk_42 (dk_at dksX6_part0_4 22 rfl rfl)
theorem dX6_part0_117 : decode cX6_part0 117 = .ok (.iload_n 1, 1) := dk_27 (dk_at dksX6_part0_4 23 rfl rfl)
theorem dX6_part0_118 : decode cX6_part0 118 = .ok (.invokevirtual 302, 3) := dk_182 1 46 (dk_at dksX6_part0_5 0 rfl rfl)
theorem dX6_part0_121 : decode cX6_part0 121 = .ok (.ifCond .ne 5, 3) := dk_154 0 5 (dk_at dksX6_part0_5 3 rfl rfl)
theorem dX6_part0_124 : decode cX6_part0 124 = .ok (.iconst 0, 1) := dk_3 (dk_at dksX6_part0_5 6 rfl rfl)
theorem dX6_part0_125 : decode cX6_part0 125 = .ok (.ireturn, 1) := dk_172 (dk_at dksX6_part0_5 7 rfl rfl)
theorem dX6_part0_126 : decode cX6_part0 126 = .ok (.aload_n 0, 1) := dk_42 (dk_at dksX6_part0_5 8 rfl rfl)
theorem dX6_part0_127 : decode cX6_part0 127 = .ok (.dup, 1) := dk_89 (dk_at dksX6_part0_5 9 rfl rfl)
theorem dX6_part0_128 : decode cX6_part0 128 = .ok (.getfield 311, 3) := dk_180 1 55 (dk_at dksX6_part0_5 10 rfl rfl)
theorem dX6_part0_131 : decode cX6_part0 131 = .ok (.iconst 1, 1) := dk_4 (dk_at dksX6_part0_5 13 rfl rfl)
theorem dX6_part0_132 : decode cX6_part0 132 = .ok (.isub, 1) := dk_100 (dk_at dksX6_part0_5 14 rfl rfl)
theorem dX6_part0_133 : decode cX6_part0 133 = .ok (.putfield 311, 3) := dk_181 1 55 (dk_at dksX6_part0_5 15 rfl rfl)
theorem dX6_part0_136 : decode cX6_part0 136 = .ok (.aload_n 0, 1) := dk_42 (dk_at dksX6_part0_5 18 rfl rfl)
theorem dX6_part0_137 : decode cX6_part0 137 = .ok (.iconst 2, 1) := dk_5 (dk_at dksX6_part0_5 19 rfl rfl)
theorem dX6_part0_138 : decode cX6_part0 138 = .ok (.bipush 33, 2) := dk_16 33 (dk_at dksX6_part0_5 20 rfl rfl)
theorem dX6_part0_140 : decode cX6_part0 140 = .ok (.invokevirtual 290, 3) := dk_182 1 34 (dk_at dksX6_part0_6 0 rfl rfl)
theorem dX6_part0_143 : decode cX6_part0 143 = .ok (.iconst 1, 1) := dk_4 (dk_at dksX6_part0_6 3 rfl rfl)
theorem dX6_part0_144 : decode cX6_part0 144 = .ok (.ireturn, 1) := dk_172 (dk_at dksX6_part0_6 4 rfl rfl)
theorem dX6_part0_145 : decode cX6_part0 145 = .ok (.aload_n 0, 1) := dk_42 (dk_at dksX6_part0_6 5 rfl rfl)
theorem dX6_part0_146 : decode cX6_part0 146 = .ok (.bipush 40, 2) := dk_16 40 (dk_at dksX6_part0_6 6 rfl rfl)
theorem dX6_part0_148 : decode cX6_part0 148 = .ok (.invokevirtual 284, 3) := dk_182 1 28 (dk_at dksX6_part0_6 8 rfl rfl)
theorem dX6_part0_151 : decode cX6_part0 151 = .ok (.ifCond .eq 12, 3) := dk_153 0 12 (dk_at dksX6_part0_6 11 rfl rfl)
theorem dX6_part0_154 : decode cX6_part0 154 = .ok (.aload_n 0, 1) := dk_42 (dk_at dksX6_part0_6 14 rfl rfl)
theorem dX6_part0_155 : decode cX6_part0 155 = .ok (.getfield 314, 3) := dk_180 1 58 (dk_at dksX6_part0_6 15 rfl rfl)
theorem dX6_part0_158 : decode cX6_part0 158 = .ok (.bipush 8, 2) := dk_16 8 (dk_at dksX6_part0_6 18 rfl rfl)
theorem dX6_part0_160 : decode cX6_part0 160 = .ok (.if_icmp .ne 5, 3) := dk_160 0 5 (dk_at dksX6_part0_6 20 rfl rfl)
theorem dX6_part0_163 : decode cX6_part0 163 = .ok (.iconst 0, 1) := dk_3 (dk_at dksX6_part0_6 23 rfl rfl)
theorem dX6_part0_164 : decode cX6_part0 164 = .ok (.ireturn, 1) := dk_172 (dk_at dksX6_part0_7 0 rfl rfl)
theorem dX6_part0_165 : decode cX6_part0 165 = .ok (.aload_n 0, 1) := dk_42 (dk_at dksX6_part0_7 1 rfl rfl)
theorem dX6_part0_166 : decode cX6_part0 166 = .ok (.dup, 1) := dk_89 (dk_at dksX6_part0_7 2 rfl rfl)
theorem dX6_part0_167 : decode cX6_part0 167 = .ok (.getfield 314, 3) := dk_180 1 58 (dk_at dksX6_part0_7 3 rfl rfl)
theorem dX6_part0_170 : decode cX6_part0 170 = .ok (.iconst 1, 1) := dk_4 (dk_at dksX6_part0_7 6 rfl rfl)
theorem dX6_part0_171 : decode cX6_part0 171 = .ok (.iadd, 1) := dk_96 (dk_at dksX6_part0_7 7 rfl rfl)
theorem dX6_part0_172 : decode cX6_part0 172 = .ok (.putfield 314, 3) := dk_181 1 58 (dk_at dksX6_part0_7 8 rfl rfl)
theorem dX6_part0_175 : decode cX6_part0 175 = .ok (.aload_n 0, 1) := dk_42 (dk_at dksX6_part0_7 11 rfl rfl)
theorem dX6_part0_176 : decode cX6_part0 176 = .ok (.invokevirtual 287, 3) := dk_182 1 31 (dk_at dksX6_part0_7 12 rfl rfl)
theorem dX6_part0_179 : decode cX6_part0 179 = .ok (.aload_n 0, 1) := dk_42 (dk_at dksX6_part0_7 15 rfl rfl)
theorem dX6_part0_180 : decode cX6_part0 180 = .ok (.iload_n 1, 1) := dk_27 (dk_at dksX6_part0_7 16 rfl rfl)
theorem dX6_part0_181 : decode cX6_part0 181 = .ok (.invokevirtual 317, 3) := dk_182 1 61 (dk_at dksX6_part0_7 17 rfl rfl)
theorem dX6_part0_184 : decode cX6_part0 184 = .ok (.ifCond .eq 12, 3) := dk_153 0 12 (dk_at dksX6_part0_7 20 rfl rfl)
theorem dX6_part0_187 : decode cX6_part0 187 = .ok (.aload_n 0, 1) := dk_42 (dk_at dksX6_part0_7 23 rfl rfl)
theorem dX6_part0_188 : decode cX6_part0 188 = .ok (.bipush 41, 2) := dk_16 41 (dk_at dksX6_part0_8 0 rfl rfl)
theorem dX6_part0_190 : decode cX6_part0 190 = .ok (.invokevirtual 284, 3) := dk_182 1 28 (dk_at dksX6_part0_8 2 rfl rfl)
theorem dX6_part0_193 : decode cX6_part0 193 = .ok (.ifCond .ne 5, 3) := dk_154 0 5 (dk_at dksX6_part0_8 5 rfl rfl)
theorem dX6_part0_196 : decode cX6_part0 196 = .ok (.iconst 0, 1) := dk_3 (dk_at dksX6_part0_8 8 rfl rfl)
theorem dX6_part0_197 : decode cX6_part0 197 = .ok (.ireturn, 1) := dk_172 (dk_at dksX6_part0_8 9 rfl rfl)
theorem dX6_part0_198 : decode cX6_part0 198 = .ok (.aload_n 0, 1) := dk_42 (dk_at dksX6_part0_8 10 rfl rfl)
theorem dX6_part0_199 : decode cX6_part0 199 = .ok (.dup, 1) := dk_89 (dk_at dksX6_part0_8 11 rfl rfl)
theorem dX6_part0_200 : decode cX6_part0 200 = .ok (.getfield 314, 3) := dk_180 1 58 (dk_at dksX6_part0_8 12 rfl rfl)
theorem dX6_part0_203 : decode cX6_part0 203 = .ok (.iconst 1, 1) := dk_4 (dk_at dksX6_part0_8 15 rfl rfl)
theorem dX6_part0_204 : decode cX6_part0 204 = .ok (.isub, 1) := dk_100 (dk_at dksX6_part0_8 16 rfl rfl)
theorem dX6_part0_205 : decode cX6_part0 205 = .ok (.putfield 314, 3) := dk_181 1 58 (dk_at dksX6_part0_8 17 rfl rfl)
theorem dX6_part0_208 : decode cX6_part0 208 = .ok (.aload_n 0, 1) := dk_42 (dk_at dksX6_part0_8 20 rfl rfl)
theorem dX6_part0_209 : decode cX6_part0 209 = .ok (.invokevirtual 287, 3) := dk_182 1 31 (dk_at dksX6_part0_8 21 rfl rfl)
theorem dX6_part0_212 : decode cX6_part0 212 = .ok (.iconst 1, 1) := dk_4 (dk_at dksX6_part0_9 0 rfl rfl)
theorem dX6_part0_213 : decode cX6_part0 213 = .ok (.ireturn, 1) := dk_172 (dk_at dksX6_part0_9 1 rfl rfl)
abbrev cX6_step : ByteArray := prog_19_method_75_code
def yX6_step : MethodName := ⟨RX6, "step", "(II)V"⟩
def dkwX6_step_2 : List UInt8 := [177]
abbrev dktX6_step_2 : List UInt8 := dkwX6_step_2 ++ []
def dkwX6_step_1 : List UInt8 := [180, 1, 19, 5, 42, 180, 1, 22, 104, 96, 4, 96, 28, 79, 42, 89, 180, 1, 22, 4, 96, 181, 1, 22]
abbrev dktX6_step_1 : List UInt8 := dkwX6_step_1 ++ dktX6_step_2
def dkwX6_step_0 : List UInt8 := [42, 180, 0, 7, 42, 180, 1, 19, 5, 42, 180, 1, 22, 104, 96, 27, 79, 42, 180, 0, 7, 42]
abbrev dktX6_step_0 : List UInt8 := dkwX6_step_0 ++ dktX6_step_1
theorem dksX6_step_0 : cX6_step.data.toList.drop 0 = dktX6_step_0 := by decide +kernel
theorem dksX6_step_1 : cX6_step.data.toList.drop 22 = dktX6_step_1 := dk_seg dksX6_step_0 22 rfl rfl
theorem dksX6_step_2 : cX6_step.data.toList.drop 46 = dktX6_step_2 := dk_seg dksX6_step_1 24 rfl rfl
theorem dX6_step_0 : decode cX6_step 0 = .ok (.aload_n 0, 1) := dk_42 (dk_at dksX6_step_0 0 rfl rfl)
theorem dX6_step_1 : decode cX6_step 1 = .ok (.getfield 7, 3) := dk_180 0 7 (dk_at dksX6_step_0 1 rfl rfl)
theorem dX6_step_4 : decode cX6_step 4 = .ok (.aload_n 0, 1) := dk_42 (dk_at dksX6_step_0 4 rfl rfl)
theorem dX6_step_5 : decode cX6_step 5 = .ok (.getfield 275, 3) := dk_180 1 19 (dk_at dksX6_step_0 5 rfl rfl)
theorem dX6_step_8 : decode cX6_step 8 = .ok (.iconst 2, 1) := dk_5 (dk_at dksX6_step_0 8 rfl rfl)
theorem dX6_step_9 : decode cX6_step 9 = .ok (.aload_n 0, 1) := dk_42 (dk_at dksX6_step_0 9 rfl rfl)
theorem dX6_step_10 : decode cX6_step 10 = .ok (.getfield 278, 3) := dk_180 1 22 (dk_at dksX6_step_0 10 rfl rfl)
theorem dX6_step_13 : decode cX6_step 13 = .ok (.imul, 1) := dk_104 (dk_at dksX6_step_0 13 rfl rfl)
theorem dX6_step_14 : decode cX6_step 14 = .ok (.iadd, 1) := dk_96 (dk_at dksX6_step_0 14 rfl rfl)
theorem dX6_step_15 : decode cX6_step 15 = .ok (.iload_n 1, 1) := dk_27 (dk_at dksX6_step_0 15 rfl rfl)
theorem dX6_step_16 : decode cX6_step 16 = .ok (.iastore, 1) := dk_79 (dk_at dksX6_step_0 16 rfl rfl)
theorem dX6_step_17 : decode cX6_step 17 = .ok (.aload_n 0, 1) := dk_42 (dk_at dksX6_step_0 17 rfl rfl)
theorem dX6_step_18 : decode cX6_step 18 = .ok (.getfield 7, 3) := dk_180 0 7 (dk_at dksX6_step_0 18 rfl rfl)
theorem dX6_step_21 : decode cX6_step 21 = .ok (.aload_n 0, 1) := dk_42 (dk_at dksX6_step_0 21 rfl rfl)
theorem dX6_step_22 : decode cX6_step 22 = .ok (.getfield 275, 3) := dk_180 1 19 (dk_at dksX6_step_1 0 rfl rfl)
theorem dX6_step_25 : decode cX6_step 25 = .ok (.iconst 2, 1) := dk_5 (dk_at dksX6_step_1 3 rfl rfl)
theorem dX6_step_26 : decode cX6_step 26 = .ok (.aload_n 0, 1) := dk_42 (dk_at dksX6_step_1 4 rfl rfl)
theorem dX6_step_27 : decode cX6_step 27 = .ok (.getfield 278, 3) := dk_180 1 22 (dk_at dksX6_step_1 5 rfl rfl)
theorem dX6_step_30 : decode cX6_step 30 = .ok (.imul, 1) := dk_104 (dk_at dksX6_step_1 8 rfl rfl)
theorem dX6_step_31 : decode cX6_step 31 = .ok (.iadd, 1) := dk_96 (dk_at dksX6_step_1 9 rfl rfl)
theorem dX6_step_32 : decode cX6_step 32 = .ok (.iconst 1, 1) := dk_4 (dk_at dksX6_step_1 10 rfl rfl)
theorem dX6_step_33 : decode cX6_step 33 = .ok (.iadd, 1) := dk_96 (dk_at dksX6_step_1 11 rfl rfl)
theorem dX6_step_34 : decode cX6_step 34 = .ok (.iload_n 2, 1) := dk_28 (dk_at dksX6_step_1 12 rfl rfl)
theorem dX6_step_35 : decode cX6_step 35 = .ok (.iastore, 1) := dk_79 (dk_at dksX6_step_1 13 rfl rfl)
theorem dX6_step_36 : decode cX6_step 36 = .ok (.aload_n 0, 1) := dk_42 (dk_at dksX6_step_1 14 rfl rfl)
theorem dX6_step_37 : decode cX6_step 37 = .ok (.dup, 1) := dk_89 (dk_at dksX6_step_1 15 rfl rfl)
theorem dX6_step_38 : decode cX6_step 38 = .ok (.getfield 278, 3) := dk_180 1 22 (dk_at dksX6_step_1 16 rfl rfl)
theorem dX6_step_41 : decode cX6_step 41 = .ok (.iconst 1, 1) := dk_4 (dk_at dksX6_step_1 19 rfl rfl)
theorem dX6_step_42 : decode cX6_step 42 = .ok (.iadd, 1) := dk_96 (dk_at dksX6_step_1 20 rfl rfl)
theorem dX6_step_43 : decode cX6_step 43 = .ok (.putfield 278, 3) := dk_181 1 22 (dk_at dksX6_step_1 21 rfl rfl)
theorem dX6_step_46 : decode cX6_step 46 = .ok (.return_, 1) := dk_177 (dk_at dksX6_step_2 0 rfl rfl)
abbrev cX6_isName : ByteArray := prog_19_method_74_code
def yX6_isName : MethodName := ⟨RX6, "isName", "(II)Z"⟩
def dkwX6_isName_4 : List UInt8 := [27, 16, 116, 159, 0, 15, 27, 16, 114, 159, 0, 9, 27, 16, 110, 160, 0, 7, 4, 167, 0, 4, 3, 172]
abbrev dktX6_isName_4 : List UInt8 := dkwX6_isName_4 ++ []
def dkwX6_isName_3 : List UInt8 := [27, 16, 110, 159, 0, 9, 27, 16, 115, 160, 0, 7, 4, 167, 0, 4, 3, 172, 27, 16, 97, 159, 0, 21]
abbrev dktX6_isName_3 : List UInt8 := dkwX6_isName_3 ++ dktX6_isName_4
def dkwX6_isName_2 : List UInt8 := [27, 16, 115, 159, 0, 9, 27, 16, 110, 160, 0, 7, 4, 167, 0, 4, 3, 172, 27, 16, 108, 159, 0, 15]
abbrev dktX6_isName_2 : List UInt8 := dkwX6_isName_2 ++ dktX6_isName_3
def dkwX6_isName_1 : List UInt8 := [171, 0, 0, 0, 0, 0, 69, 0, 0, 0, 2, 0, 0, 0, 0, 0, 0, 0, 27, 0, 0, 0, 1, 0, 0, 0, 45]
abbrev dktX6_isName_1 : List UInt8 := dkwX6_isName_1 ++ dktX6_isName_2
def dkwX6_isName_0 : List UInt8 := [26]
abbrev dktX6_isName_0 : List UInt8 := dkwX6_isName_0 ++ dktX6_isName_1
theorem dksX6_isName_0 : cX6_isName.data.toList.drop 0 = dktX6_isName_0 := by decide +kernel
theorem dksX6_isName_1 : cX6_isName.data.toList.drop 1 = dktX6_isName_1 := dk_seg dksX6_isName_0 1 rfl rfl
theorem dksX6_isName_2 : cX6_isName.data.toList.drop 28 = dktX6_isName_2 := dk_seg dksX6_isName_1 27 rfl rfl
theorem dksX6_isName_3 : cX6_isName.data.toList.drop 52 = dktX6_isName_3 := dk_seg dksX6_isName_2 24 rfl rfl
theorem dksX6_isName_4 : cX6_isName.data.toList.drop 76 = dktX6_isName_4 := dk_seg dksX6_isName_3 24 rfl rfl
theorem dX6_isName_0 : decode cX6_isName 0 = .ok (.iload_n 0, 1) := dk_26 (dk_at dksX6_isName_0 0 rfl rfl)
theorem dX6_isName_1 : decode cX6_isName 1 = .ok (.lookupswitch 69 #[(0, 27), (1, 45)], 27) := by decide +kernel
theorem dX6_isName_28 : decode cX6_isName 28 = .ok (.iload_n 1, 1) := dk_27 (dk_at dksX6_isName_2 0 rfl rfl)
theorem dX6_isName_29 : decode cX6_isName 29 = .ok (.bipush 115, 2) := dk_16 115 (dk_at dksX6_isName_2 1 rfl rfl)
theorem dX6_isName_31 : decode cX6_isName 31 = .ok (.if_icmp .eq 9, 3) := dk_159 0 9 (dk_at dksX6_isName_2 3 rfl rfl)
theorem dX6_isName_34 : decode cX6_isName 34 = .ok (.iload_n 1, 1) := dk_27 (dk_at dksX6_isName_2 6 rfl rfl)
theorem dX6_isName_35 : decode cX6_isName 35 = .ok (.bipush 110, 2) := dk_16 110 (dk_at dksX6_isName_2 7 rfl rfl)
theorem dX6_isName_37 : decode cX6_isName 37 = .ok (.if_icmp .ne 7, 3) := dk_160 0 7 (dk_at dksX6_isName_2 9 rfl rfl)
theorem dX6_isName_40 : decode cX6_isName 40 = .ok (.iconst 1, 1) := dk_4 (dk_at dksX6_isName_2 12 rfl rfl)
theorem dX6_isName_41 : decode cX6_isName 41 = .ok (.goto 4, 3) := dk_167 0 4 (dk_at dksX6_isName_2 13 rfl rfl)
theorem dX6_isName_44 : decode cX6_isName 44 = .ok (.iconst 0, 1) := dk_3 (dk_at dksX6_isName_2 16 rfl rfl)
theorem dX6_isName_45 : decode cX6_isName 45 = .ok (.ireturn, 1) := dk_172 (dk_at dksX6_isName_2 17 rfl rfl)
theorem dX6_isName_46 : decode cX6_isName 46 = .ok (.iload_n 1, 1) := dk_27 (dk_at dksX6_isName_2 18 rfl rfl)
theorem dX6_isName_47 : decode cX6_isName 47 = .ok (.bipush 108, 2) := dk_16 108 (dk_at dksX6_isName_2 19 rfl rfl)
theorem dX6_isName_49 : decode cX6_isName 49 = .ok (.if_icmp .eq 15, 3) := dk_159 0 15 (dk_at dksX6_isName_2 21 rfl rfl)
theorem dX6_isName_52 : decode cX6_isName 52 = .ok (.iload_n 1, 1) := dk_27 (dk_at dksX6_isName_3 0 rfl rfl)
theorem dX6_isName_53 : decode cX6_isName 53 = .ok (.bipush 110, 2) := dk_16 110 (dk_at dksX6_isName_3 1 rfl rfl)
theorem dX6_isName_55 : decode cX6_isName 55 = .ok (.if_icmp .eq 9, 3) := dk_159 0 9 (dk_at dksX6_isName_3 3 rfl rfl)
theorem dX6_isName_58 : decode cX6_isName 58 = .ok (.iload_n 1, 1) := dk_27 (dk_at dksX6_isName_3 6 rfl rfl)
theorem dX6_isName_59 : decode cX6_isName 59 = .ok (.bipush 115, 2) := dk_16 115 (dk_at dksX6_isName_3 7 rfl rfl)
theorem dX6_isName_61 : decode cX6_isName 61 = .ok (.if_icmp .ne 7, 3) := dk_160 0 7 (dk_at dksX6_isName_3 9 rfl rfl)
theorem dX6_isName_64 : decode cX6_isName 64 = .ok (.iconst 1, 1) := dk_4 (dk_at dksX6_isName_3 12 rfl rfl)
theorem dX6_isName_65 : decode cX6_isName 65 = .ok (.goto 4, 3) := dk_167 0 4 (dk_at dksX6_isName_3 13 rfl rfl)
theorem dX6_isName_68 : decode cX6_isName 68 = .ok (.iconst 0, 1) := dk_3 (dk_at dksX6_isName_3 16 rfl rfl)
theorem dX6_isName_69 : decode cX6_isName 69 = .ok (.ireturn, 1) := dk_172 (dk_at dksX6_isName_3 17 rfl rfl)
theorem dX6_isName_70 : decode cX6_isName 70 = .ok (.iload_n 1, 1) := dk_27 (dk_at dksX6_isName_3 18 rfl rfl)
theorem dX6_isName_71 : decode cX6_isName 71 = .ok (.bipush 97, 2) := dk_16 97 (dk_at dksX6_isName_3 19 rfl rfl)
theorem dX6_isName_73 : decode cX6_isName 73 = .ok (.if_icmp .eq 21, 3) := dk_159 0 21 (dk_at dksX6_isName_3 21 rfl rfl)
theorem dX6_isName_76 : decode cX6_isName 76 = .ok (.iload_n 1, 1) := dk_27 (dk_at dksX6_isName_4 0 rfl rfl)
theorem dX6_isName_77 : decode cX6_isName 77 = .ok (.bipush 116, 2) := dk_16 116 (dk_at dksX6_isName_4 1 rfl rfl)
theorem dX6_isName_79 : decode cX6_isName 79 = .ok (.if_icmp .eq 15, 3) := dk_159 0 15 (dk_at dksX6_isName_4 3 rfl rfl)
theorem dX6_isName_82 : decode cX6_isName 82 = .ok (.iload_n 1, 1) := dk_27 (dk_at dksX6_isName_4 6 rfl rfl)
theorem dX6_isName_83 : decode cX6_isName 83 = .ok (.bipush 114, 2) := dk_16 114 (dk_at dksX6_isName_4 7 rfl rfl)
theorem dX6_isName_85 : decode cX6_isName 85 = .ok (.if_icmp .eq 9, 3) := dk_159 0 9 (dk_at dksX6_isName_4 9 rfl rfl)
theorem dX6_isName_88 : decode cX6_isName 88 = .ok (.iload_n 1, 1) := dk_27 (dk_at dksX6_isName_4 12 rfl rfl)
theorem dX6_isName_89 : decode cX6_isName 89 = .ok (.bipush 110, 2) := dk_16 110 (dk_at dksX6_isName_4 13 rfl rfl)
theorem dX6_isName_91 : decode cX6_isName 91 = .ok (.if_icmp .ne 7, 3) := dk_160 0 7 (dk_at dksX6_isName_4 15 rfl rfl)
theorem dX6_isName_94 : decode cX6_isName 94 = .ok (.iconst 1, 1) := dk_4 (dk_at dksX6_isName_4 18 rfl rfl)
theorem dX6_isName_95 : decode cX6_isName 95 = .ok (.goto 4, 3) := dk_167 0 4 (dk_at dksX6_isName_4 19 rfl rfl)
theorem dX6_isName_98 : decode cX6_isName 98 = .ok (.iconst 0, 1) := dk_3 (dk_at dksX6_isName_4 22 rfl rfl)
theorem dX6_isName_99 : decode cX6_isName 99 = .ok (.ireturn, 1) := dk_172 (dk_at dksX6_isName_4 23 rfl rfl)
abbrev cX6_isSign : ByteArray := prog_19_method_70_code
def yX6_isSign : MethodName := ⟨RX6, "isSign", "(I)Z"⟩
def dkwX6_isSign_0 : List UInt8 := [42, 180, 0, 249, 6, 160, 0, 15, 42, 180, 1, 2, 27, 160, 0, 7, 4, 167, 0, 4, 3, 172]
abbrev dktX6_isSign_0 : List UInt8 := dkwX6_isSign_0 ++ []
theorem dksX6_isSign_0 : cX6_isSign.data.toList.drop 0 = dktX6_isSign_0 := by decide +kernel
theorem dX6_isSign_0 : decode cX6_isSign 0 = .ok (.aload_n 0, 1) := dk_42 (dk_at dksX6_isSign_0 0 rfl rfl)
theorem dX6_isSign_1 : decode cX6_isSign 1 = .ok (.getfield 249, 3) := dk_180 0 249 (dk_at dksX6_isSign_0 1 rfl rfl)
theorem dX6_isSign_4 : decode cX6_isSign 4 = .ok (.iconst 3, 1) := dk_6 (dk_at dksX6_isSign_0 4 rfl rfl)
theorem dX6_isSign_5 : decode cX6_isSign 5 = .ok (.if_icmp .ne 15, 3) := dk_160 0 15 (dk_at dksX6_isSign_0 5 rfl rfl)
theorem dX6_isSign_8 : decode cX6_isSign 8 = .ok (.aload_n 0, 1) := dk_42 (dk_at dksX6_isSign_0 8 rfl rfl)
theorem dX6_isSign_9 : decode cX6_isSign 9 = .ok (.getfield 258, 3) := dk_180 1 2 (dk_at dksX6_isSign_0 9 rfl rfl)
theorem dX6_isSign_12 : decode cX6_isSign 12 = .ok (.iload_n 1, 1) := dk_27 (dk_at dksX6_isSign_0 12 rfl rfl)
theorem dX6_isSign_13 : decode cX6_isSign 13 = .ok (.if_icmp .ne 7, 3) := dk_160 0 7 (dk_at dksX6_isSign_0 13 rfl rfl)
theorem dX6_isSign_16 : decode cX6_isSign 16 = .ok (.iconst 1, 1) := dk_4 (dk_at dksX6_isSign_0 16 rfl rfl)
theorem dX6_isSign_17 : decode cX6_isSign 17 = .ok (.goto 4, 3) := dk_167 0 4 (dk_at dksX6_isSign_0 17 rfl rfl)
theorem dX6_isSign_20 : decode cX6_isSign 20 = .ok (.iconst 0, 1) := dk_3 (dk_at dksX6_isSign_0 20 rfl rfl)
theorem dX6_isSign_21 : decode cX6_isSign 21 = .ok (.ireturn, 1) := dk_172 (dk_at dksX6_isSign_0 21 rfl rfl)
abbrev cX6_textTold : ByteArray := prog_19_method_84_code
def yX6_textTold : MethodName := ⟨RX6, "textTold", "(II)I"⟩
def dkwX6_textTold_1 : List UInt8 := [180, 0, 7, 42, 27, 182, 1, 64, 28, 96, 46, 172]
abbrev dktX6_textTold_1 : List UInt8 := dkwX6_textTold_1 ++ []
def dkwX6_textTold_0 : List UInt8 := [42, 27, 182, 1, 73, 153, 0, 13, 28, 133, 9, 10, 184, 0, 83, 154, 0, 6, 18, 120, 172, 42]
abbrev dktX6_textTold_0 : List UInt8 := dkwX6_textTold_0 ++ dktX6_textTold_1
theorem dksX6_textTold_0 : cX6_textTold.data.toList.drop 0 = dktX6_textTold_0 := by decide +kernel
theorem dksX6_textTold_1 : cX6_textTold.data.toList.drop 22 = dktX6_textTold_1 := dk_seg dksX6_textTold_0 22 rfl rfl
theorem dX6_textTold_0 : decode cX6_textTold 0 = .ok (.aload_n 0, 1) := dk_42 (dk_at dksX6_textTold_0 0 rfl rfl)
theorem dX6_textTold_1 : decode cX6_textTold 1 = .ok (.iload_n 1, 1) := dk_27 (dk_at dksX6_textTold_0 1 rfl rfl)
theorem dX6_textTold_2 : decode cX6_textTold 2 = .ok (.invokevirtual 329, 3) := dk_182 1 73 (dk_at dksX6_textTold_0 2 rfl rfl)
theorem dX6_textTold_5 : decode cX6_textTold 5 = .ok (.ifCond .eq 13, 3) := dk_153 0 13 (dk_at dksX6_textTold_0 5 rfl rfl)
theorem dX6_textTold_8 : decode cX6_textTold 8 = .ok (.iload_n 2, 1) := dk_28 (dk_at dksX6_textTold_0 8 rfl rfl)
theorem dX6_textTold_9 : decode cX6_textTold 9 = .ok (.i2l, 1) := dk_133 (dk_at dksX6_textTold_0 9 rfl rfl)
theorem dX6_textTold_10 : decode cX6_textTold 10 = .ok (.lconst 0, 1) := dk_9 (dk_at dksX6_textTold_0 10 rfl rfl)
theorem dX6_textTold_11 : decode cX6_textTold 11 = .ok (.lconst 1, 1) := dk_10 (dk_at dksX6_textTold_0 11 rfl rfl)
theorem dX6_textTold_12 : decode cX6_textTold 12 = .ok (.invokestatic 83, 3) := dk_184 0 83 (dk_at dksX6_textTold_0 12 rfl rfl)
theorem dX6_textTold_15 : decode cX6_textTold 15 = .ok (.ifCond .ne 6, 3) := dk_154 0 6 (dk_at dksX6_textTold_0 15 rfl rfl)
theorem dX6_textTold_18 : decode cX6_textTold 18 = .ok (.ldc 120, 2) := dk_18 120 (dk_at dksX6_textTold_0 18 rfl rfl)
theorem dX6_textTold_20 : decode cX6_textTold 20 = .ok (.ireturn, 1) := dk_172 (dk_at dksX6_textTold_0 20 rfl rfl)
theorem dX6_textTold_21 : decode cX6_textTold 21 = .ok (.aload_n 0, 1) := dk_42 (dk_at dksX6_textTold_0 21 rfl rfl)
theorem dX6_textTold_22 : decode cX6_textTold 22 = .ok (.getfield 7, 3) := dk_180 0 7 (dk_at dksX6_textTold_1 0 rfl rfl)
theorem dX6_textTold_25 : decode cX6_textTold 25 = .ok (.aload_n 0, 1) := dk_42 (dk_at dksX6_textTold_1 3 rfl rfl)
theorem dX6_textTold_26 : decode cX6_textTold 26 = .ok (.iload_n 1, 1) := dk_27 (dk_at dksX6_textTold_1 4 rfl rfl)
theorem dX6_textTold_27 : decode cX6_textTold 27 = .ok (.invokevirtual 320, 3) := dk_182 1 64 (dk_at dksX6_textTold_1 5 rfl rfl)
theorem dX6_textTold_30 : decode cX6_textTold 30 = .ok (.iload_n 2, 1) := dk_28 (dk_at dksX6_textTold_1 8 rfl rfl)
theorem dX6_textTold_31 : decode cX6_textTold 31 = .ok (.iadd, 1) := dk_96 (dk_at dksX6_textTold_1 9 rfl rfl)
theorem dX6_textTold_32 : decode cX6_textTold 32 = .ok (.iaload, 1) := dk_46 (dk_at dksX6_textTold_1 10 rfl rfl)
theorem dX6_textTold_33 : decode cX6_textTold 33 = .ok (.ireturn, 1) := dk_172 (dk_at dksX6_textTold_1 11 rfl rfl)
abbrev cX6_isText : ByteArray := prog_19_method_8_code
def yX6_isText : MethodName := ⟨RX6, "isText", "(I)Z"⟩
def dkwX6_isText_0 : List UInt8 := [27, 133, 9, 42, 180, 0, 7, 4, 46, 4, 100, 133, 184, 0, 83, 172]
abbrev dktX6_isText_0 : List UInt8 := dkwX6_isText_0 ++ []
theorem dksX6_isText_0 : cX6_isText.data.toList.drop 0 = dktX6_isText_0 := by decide +kernel
theorem dX6_isText_0 : decode cX6_isText 0 = .ok (.iload_n 1, 1) := dk_27 (dk_at dksX6_isText_0 0 rfl rfl)
theorem dX6_isText_1 : decode cX6_isText 1 = .ok (.i2l, 1) := dk_133 (dk_at dksX6_isText_0 1 rfl rfl)
theorem dX6_isText_2 : decode cX6_isText 2 = .ok (.lconst 0, 1) := dk_9 (dk_at dksX6_isText_0 2 rfl rfl)
theorem dX6_isText_3 : decode cX6_isText 3 = .ok (.aload_n 0, 1) := dk_42 (dk_at dksX6_isText_0 3 rfl rfl)
theorem dX6_isText_4 : decode cX6_isText 4 = .ok (.getfield 7, 3) := dk_180 0 7 (dk_at dksX6_isText_0 4 rfl rfl)
theorem dX6_isText_7 : decode cX6_isText 7 = .ok (.iconst 1, 1) := dk_4 (dk_at dksX6_isText_0 7 rfl rfl)
theorem dX6_isText_8 : decode cX6_isText 8 = .ok (.iaload, 1) := dk_46 (dk_at dksX6_isText_0 8 rfl rfl)
theorem dX6_isText_9 : decode cX6_isText 9 = .ok (.iconst 1, 1) := dk_4 (dk_at dksX6_isText_0 9 rfl rfl)
theorem dX6_isText_10 : decode cX6_isText 10 = .ok (.isub, 1) := dk_100 (dk_at dksX6_isText_0 10 rfl rfl)
theorem dX6_isText_11 : decode cX6_isText 11 = .ok (.i2l, 1) := dk_133 (dk_at dksX6_isText_0 11 rfl rfl)
theorem dX6_isText_12 : decode cX6_isText 12 = .ok (.invokestatic 83, 3) := dk_184 0 83 (dk_at dksX6_isText_0 12 rfl rfl)
theorem dX6_isText_15 : decode cX6_isText 15 = .ok (.ireturn, 1) := dk_172 (dk_at dksX6_isText_0 15 rfl rfl)
abbrev cX6_why : ByteArray := prog_19_method_86_code
def yX6_why : MethodName := ⟨RX6, "why", "(I)I"⟩
def dkwX6_why_1 : List UInt8 := [18, 120, 172]
abbrev dktX6_why_1 : List UInt8 := dkwX6_why_1 ++ []
def dkwX6_why_0 : List UInt8 := [27, 133, 9, 20, 0, 151, 184, 0, 83, 153, 0, 14, 42, 27, 182, 0, 88, 184, 0, 126, 167, 0, 5]
abbrev dktX6_why_0 : List UInt8 := dkwX6_why_0 ++ dktX6_why_1
theorem dksX6_why_0 : cX6_why.data.toList.drop 0 = dktX6_why_0 := by decide +kernel
theorem dksX6_why_1 : cX6_why.data.toList.drop 23 = dktX6_why_1 := dk_seg dksX6_why_0 23 rfl rfl
theorem dX6_why_0 : decode cX6_why 0 = .ok (.iload_n 1, 1) := dk_27 (dk_at dksX6_why_0 0 rfl rfl)
theorem dX6_why_1 : decode cX6_why 1 = .ok (.i2l, 1) := dk_133 (dk_at dksX6_why_0 1 rfl rfl)
theorem dX6_why_2 : decode cX6_why 2 = .ok (.lconst 0, 1) := dk_9 (dk_at dksX6_why_0 2 rfl rfl)
theorem dX6_why_3 : decode cX6_why 3 = .ok (.ldc2_w 151, 3) := dk_20 0 151 (dk_at dksX6_why_0 3 rfl rfl)
theorem dX6_why_6 : decode cX6_why 6 = .ok (.invokestatic 83, 3) := dk_184 0 83 (dk_at dksX6_why_0 6 rfl rfl)
theorem dX6_why_9 : decode cX6_why 9 = .ok (.ifCond .eq 14, 3) := dk_153 0 14 (dk_at dksX6_why_0 9 rfl rfl)
theorem dX6_why_12 : decode cX6_why 12 = .ok (.aload_n 0, 1) := dk_42 (dk_at dksX6_why_0 12 rfl rfl)
theorem dX6_why_13 : decode cX6_why 13 = .ok (.iload_n 1, 1) := dk_27 (dk_at dksX6_why_0 13 rfl rfl)
theorem dX6_why_14 : decode cX6_why 14 = .ok (.invokevirtual 88, 3) := dk_182 0 88 (dk_at dksX6_why_0 14 rfl rfl)
theorem dX6_why_17 : decode cX6_why 17 = .ok (.invokestatic 126, 3) := dk_184 0 126 (dk_at dksX6_why_0 17 rfl rfl)
theorem dX6_why_20 : decode cX6_why 20 = .ok (.goto 5, 3) := dk_167 0 5 (dk_at dksX6_why_0 20 rfl rfl)
theorem dX6_why_23 : decode cX6_why 23 = .ok (.ldc 120, 2) := dk_18 120 (dk_at dksX6_why_1 0 rfl rfl)
theorem dX6_why_25 : decode cX6_why 25 = .ok (.ireturn, 1) := dk_172 (dk_at dksX6_why_1 2 rfl rfl)
abbrev cX6_sheet : ByteArray := prog_19_method_90_code
def yX6_sheet : MethodName := ⟨RX6, "sheet", "(III)I"⟩
def dkwX6_sheet_4 : List UInt8 := [42, 180, 0, 22, 27, 46, 172]
abbrev dktX6_sheet_4 : List UInt8 := dkwX6_sheet_4 ++ []
def dkwX6_sheet_3 : List UInt8 := [16, 24, 162, 0, 22, 42, 180, 0, 25, 16, 24, 27, 104, 21, 4, 96, 3, 79, 132, 4, 1, 167, 255, 233]
abbrev dktX6_sheet_3 : List UInt8 := dkwX6_sheet_3 ++ dktX6_sheet_4
def dkwX6_sheet_2 : List UInt8 := [27, 28, 79, 42, 180, 0, 22, 27, 28, 156, 0, 7, 3, 167, 0, 4, 29, 79, 3, 54, 4, 21, 4]
abbrev dktX6_sheet_2 : List UInt8 := dkwX6_sheet_2 ++ dktX6_sheet_3
def dkwX6_sheet_1 : List UInt8 := [16, 24, 164, 0, 6, 18, 120, 172, 28, 155, 0, 11, 29, 156, 0, 7, 19, 1, 85, 172, 42, 180, 0, 19]
abbrev dktX6_sheet_1 : List UInt8 := dkwX6_sheet_1 ++ dktX6_sheet_2
def dkwX6_sheet_0 : List UInt8 := [27, 184, 1, 80, 153, 0, 25, 28, 133, 20, 1, 83, 10, 184, 0, 83, 153, 0, 13, 28, 155, 0, 12, 29]
abbrev dktX6_sheet_0 : List UInt8 := dkwX6_sheet_0 ++ dktX6_sheet_1
theorem dksX6_sheet_0 : cX6_sheet.data.toList.drop 0 = dktX6_sheet_0 := by decide +kernel
theorem dksX6_sheet_1 : cX6_sheet.data.toList.drop 24 = dktX6_sheet_1 := dk_seg dksX6_sheet_0 24 rfl rfl
theorem dksX6_sheet_2 : cX6_sheet.data.toList.drop 48 = dktX6_sheet_2 := dk_seg dksX6_sheet_1 24 rfl rfl
theorem dksX6_sheet_3 : cX6_sheet.data.toList.drop 71 = dktX6_sheet_3 := dk_seg dksX6_sheet_2 23 rfl rfl
theorem dksX6_sheet_4 : cX6_sheet.data.toList.drop 95 = dktX6_sheet_4 := dk_seg dksX6_sheet_3 24 rfl rfl
theorem dX6_sheet_0 : decode cX6_sheet 0 = .ok (.iload_n 1, 1) := dk_27 (dk_at dksX6_sheet_0 0 rfl rfl)
theorem dX6_sheet_1 : decode cX6_sheet 1 = .ok (.invokestatic 336, 3) := dk_184 1 80 (dk_at dksX6_sheet_0 1 rfl rfl)
theorem dX6_sheet_4 : decode cX6_sheet 4 = .ok (.ifCond .eq 25, 3) := dk_153 0 25 (dk_at dksX6_sheet_0 4 rfl rfl)
theorem dX6_sheet_7 : decode cX6_sheet 7 = .ok (.iload_n 2, 1) := dk_28 (dk_at dksX6_sheet_0 7 rfl rfl)
theorem dX6_sheet_8 : decode cX6_sheet 8 = .ok (.i2l, 1) := dk_133 (dk_at dksX6_sheet_0 8 rfl rfl)
theorem dX6_sheet_9 : decode cX6_sheet 9 = .ok (.ldc2_w 339, 3) := dk_20 1 83 (dk_at dksX6_sheet_0 9 rfl rfl)
theorem dX6_sheet_12 : decode cX6_sheet 12 = .ok (.lconst 1, 1) := dk_10 (dk_at dksX6_sheet_0 12 rfl rfl)
theorem dX6_sheet_13 : decode cX6_sheet 13 = .ok (.invokestatic 83, 3) := dk_184 0 83 (dk_at dksX6_sheet_0 13 rfl rfl)
theorem dX6_sheet_16 : decode cX6_sheet 16 = .ok (.ifCond .eq 13, 3) := dk_153 0 13 (dk_at dksX6_sheet_0 16 rfl rfl)
theorem dX6_sheet_19 : decode cX6_sheet 19 = .ok (.iload_n 2, 1) := dk_28 (dk_at dksX6_sheet_0 19 rfl rfl)
theorem dX6_sheet_20 : decode cX6_sheet 20 = .ok (.ifCond .lt 12, 3) := dk_155 0 12 (dk_at dksX6_sheet_0 20 rfl rfl)
theorem dX6_sheet_23 : decode cX6_sheet 23 = .ok (.iload_n 3, 1) := dk_29 (dk_at dksX6_sheet_0 23 rfl rfl)
theorem dX6_sheet_24 : decode cX6_sheet 24 = .ok (.bipush 24, 2) := dk_16 24 (dk_at dksX6_sheet_1 0 rfl rfl)
theorem dX6_sheet_26 : decode cX6_sheet 26 = .ok (.if_icmp .le 6, 3) := dk_164 0 6 (dk_at dksX6_sheet_1 2 rfl rfl)
theorem dX6_sheet_29 : decode cX6_sheet 29 = .ok (.ldc 120, 2) := dk_18 120 (dk_at dksX6_sheet_1 5 rfl rfl)
theorem dX6_sheet_31 : decode cX6_sheet 31 = .ok (.ireturn, 1) := dk_172 (dk_at dksX6_sheet_1 7 rfl rfl)
theorem dX6_sheet_32 : decode cX6_sheet 32 = .ok (.iload_n 2, 1) := dk_28 (dk_at dksX6_sheet_1 8 rfl rfl)
theorem dX6_sheet_33 : decode cX6_sheet 33 = .ok (.ifCond .lt 11, 3) := dk_155 0 11 (dk_at dksX6_sheet_1 9 rfl rfl)
theorem dX6_sheet_36 : decode cX6_sheet 36 = .ok (.iload_n 3, 1) := dk_29 (dk_at dksX6_sheet_1 12 rfl rfl)
theorem dX6_sheet_37 : decode cX6_sheet 37 = .ok (.ifCond .ge 7, 3) := dk_156 0 7 (dk_at dksX6_sheet_1 13 rfl rfl)
theorem dX6_sheet_40 : decode cX6_sheet 40 = .ok (.ldc_w 341, 3) := dk_19 1 85 (dk_at dksX6_sheet_1 16 rfl rfl)
theorem dX6_sheet_43 : decode cX6_sheet 43 = .ok (.ireturn, 1) := dk_172 (dk_at dksX6_sheet_1 19 rfl rfl)
theorem dX6_sheet_44 : decode cX6_sheet 44 = .ok (.aload_n 0, 1) := dk_42 (dk_at dksX6_sheet_1 20 rfl rfl)
theorem dX6_sheet_45 : decode cX6_sheet 45 = .ok (.getfield 19, 3) := dk_180 0 19 (dk_at dksX6_sheet_1 21 rfl rfl)
theorem dX6_sheet_48 : decode cX6_sheet 48 = .ok (.iload_n 1, 1) := dk_27 (dk_at dksX6_sheet_2 0 rfl rfl)
theorem dX6_sheet_49 : decode cX6_sheet 49 = .ok (.iload_n 2, 1) := dk_28 (dk_at dksX6_sheet_2 1 rfl rfl)
theorem dX6_sheet_50 : decode cX6_sheet 50 = .ok (.iastore, 1) := dk_79 (dk_at dksX6_sheet_2 2 rfl rfl)
theorem dX6_sheet_51 : decode cX6_sheet 51 = .ok (.aload_n 0, 1) := dk_42 (dk_at dksX6_sheet_2 3 rfl rfl)
theorem dX6_sheet_52 : decode cX6_sheet 52 = .ok (.getfield 22, 3) := dk_180 0 22 (dk_at dksX6_sheet_2 4 rfl rfl)
theorem dX6_sheet_55 : decode cX6_sheet 55 = .ok (.iload_n 1, 1) := dk_27 (dk_at dksX6_sheet_2 7 rfl rfl)
theorem dX6_sheet_56 : decode cX6_sheet 56 = .ok (.iload_n 2, 1) := dk_28 (dk_at dksX6_sheet_2 8 rfl rfl)
theorem dX6_sheet_57 : decode cX6_sheet 57 = .ok (.ifCond .ge 7, 3) := dk_156 0 7 (dk_at dksX6_sheet_2 9 rfl rfl)
theorem dX6_sheet_60 : decode cX6_sheet 60 = .ok (.iconst 0, 1) := dk_3 (dk_at dksX6_sheet_2 12 rfl rfl)
theorem dX6_sheet_61 : decode cX6_sheet 61 = .ok (.goto 4, 3) := dk_167 0 4 (dk_at dksX6_sheet_2 13 rfl rfl)
theorem dX6_sheet_64 : decode cX6_sheet 64 = .ok (.iload_n 3, 1) := dk_29 (dk_at dksX6_sheet_2 16 rfl rfl)
theorem dX6_sheet_65 : decode cX6_sheet 65 = .ok (.iastore, 1) := dk_79 (dk_at dksX6_sheet_2 17 rfl rfl)
theorem dX6_sheet_66 : decode cX6_sheet 66 = .ok (.iconst 0, 1) := dk_3 (dk_at dksX6_sheet_2 18 rfl rfl)
theorem dX6_sheet_67 : decode cX6_sheet 67 = .ok (.istore 4, 2) := dk_54 4 (dk_at dksX6_sheet_2 19 rfl rfl)
theorem dX6_sheet_69 : decode cX6_sheet 69 = .ok (.iload 4, 2) := dk_21 4 (dk_at dksX6_sheet_2 21 rfl rfl)
theorem dX6_sheet_71 : decode cX6_sheet 71 = .ok (.bipush 24, 2) := dk_16 24 (dk_at dksX6_sheet_3 0 rfl rfl)
theorem dX6_sheet_73 : decode cX6_sheet 73 = .ok (.if_icmp .ge 22, 3) := dk_162 0 22 (dk_at dksX6_sheet_3 2 rfl rfl)
theorem dX6_sheet_76 : decode cX6_sheet 76 = .ok (.aload_n 0, 1) := dk_42 (dk_at dksX6_sheet_3 5 rfl rfl)
theorem dX6_sheet_77 : decode cX6_sheet 77 = .ok (.getfield 25, 3) := dk_180 0 25 (dk_at dksX6_sheet_3 6 rfl rfl)
theorem dX6_sheet_80 : decode cX6_sheet 80 = .ok (.bipush 24, 2) := dk_16 24 (dk_at dksX6_sheet_3 9 rfl rfl)
theorem dX6_sheet_82 : decode cX6_sheet 82 = .ok (.iload_n 1, 1) := dk_27 (dk_at dksX6_sheet_3 11 rfl rfl)
theorem dX6_sheet_83 : decode cX6_sheet 83 = .ok (.imul, 1) := dk_104 (dk_at dksX6_sheet_3 12 rfl rfl)
theorem dX6_sheet_84 : decode cX6_sheet 84 = .ok (.iload 4, 2) := dk_21 4 (dk_at dksX6_sheet_3 13 rfl rfl)
theorem dX6_sheet_86 : decode cX6_sheet 86 = .ok (.iadd, 1) := dk_96 (dk_at dksX6_sheet_3 15 rfl rfl)
theorem dX6_sheet_87 : decode cX6_sheet 87 = .ok (.iconst 0, 1) := dk_3 (dk_at dksX6_sheet_3 16 rfl rfl)
theorem dX6_sheet_88 : decode cX6_sheet 88 = .ok (.iastore, 1) := dk_79 (dk_at dksX6_sheet_3 17 rfl rfl)
theorem dX6_sheet_89 : decode cX6_sheet 89 = .ok (.iinc 4 1, 3) := dk_132 4 1 (dk_at dksX6_sheet_3 18 rfl rfl)
theorem dX6_sheet_92 : decode cX6_sheet 92 = .ok (.goto (-23), 3) := dk_167 255 233 (dk_at dksX6_sheet_3 21 rfl rfl)
theorem dX6_sheet_95 : decode cX6_sheet 95 = .ok (.aload_n 0, 1) := dk_42 (dk_at dksX6_sheet_4 0 rfl rfl)
theorem dX6_sheet_96 : decode cX6_sheet 96 = .ok (.getfield 22, 3) := dk_180 0 22 (dk_at dksX6_sheet_4 1 rfl rfl)
theorem dX6_sheet_99 : decode cX6_sheet 99 = .ok (.iload_n 1, 1) := dk_27 (dk_at dksX6_sheet_4 4 rfl rfl)
theorem dX6_sheet_100 : decode cX6_sheet 100 = .ok (.iaload, 1) := dk_46 (dk_at dksX6_sheet_4 5 rfl rfl)
theorem dX6_sheet_101 : decode cX6_sheet 101 = .ok (.ireturn, 1) := dk_172 (dk_at dksX6_sheet_4 6 rfl rfl)
abbrev cX6_isSheet : ByteArray := prog_19_method_89_code
def yX6_isSheet : MethodName := ⟨RX6, "isSheet", "(I)Z"⟩
def dkwX6_isSheet_0 : List UInt8 := [26, 133, 9, 20, 0, 224, 184, 0, 83, 172]
abbrev dktX6_isSheet_0 : List UInt8 := dkwX6_isSheet_0 ++ []
theorem dksX6_isSheet_0 : cX6_isSheet.data.toList.drop 0 = dktX6_isSheet_0 := by decide +kernel
theorem dX6_isSheet_0 : decode cX6_isSheet 0 = .ok (.iload_n 0, 1) := dk_26 (dk_at dksX6_isSheet_0 0 rfl rfl)
theorem dX6_isSheet_1 : decode cX6_isSheet 1 = .ok (.i2l, 1) := dk_133 (dk_at dksX6_isSheet_0 1 rfl rfl)
theorem dX6_isSheet_2 : decode cX6_isSheet 2 = .ok (.lconst 0, 1) := dk_9 (dk_at dksX6_isSheet_0 2 rfl rfl)
theorem dX6_isSheet_3 : decode cX6_isSheet 3 = .ok (.ldc2_w 224, 3) := dk_20 0 224 (dk_at dksX6_isSheet_0 3 rfl rfl)
theorem dX6_isSheet_6 : decode cX6_isSheet 6 = .ok (.invokestatic 83, 3) := dk_184 0 83 (dk_at dksX6_isSheet_0 6 rfl rfl)
theorem dX6_isSheet_9 : decode cX6_isSheet 9 = .ok (.ireturn, 1) := dk_172 (dk_at dksX6_isSheet_0 9 rfl rfl)
abbrev cX6_mark : ByteArray := prog_19_method_91_code
def yX6_mark : MethodName := ⟨RX6, "mark", "(III)I"⟩
def dkwX6_mark_5 : List UInt8 := [16, 16, 120, 16, 16, 122, 167, 0, 4, 29, 79, 4, 172]
abbrev dktX6_mark_5 : List UInt8 := dkwX6_mark_5 ++ []
def dkwX6_mark_4 : List UInt8 := [18, 120, 172, 42, 180, 0, 25, 16, 24, 27, 104, 28, 96, 42, 180, 0, 19, 27, 46, 154, 0, 13, 29]
abbrev dktX6_mark_4 : List UInt8 := dkwX6_mark_4 ++ dktX6_mark_5
def dkwX6_mark_3 : List UInt8 := [160, 0, 26, 29, 18, 82, 159, 0, 20, 29, 133, 20, 1, 88, 20, 1, 90, 184, 0, 83, 154, 0, 6]
abbrev dktX6_mark_3 : List UInt8 := dkwX6_mark_3 ++ dktX6_mark_4
def dkwX6_mark_2 : List UInt8 := [180, 0, 19, 27, 46, 154, 0, 12, 29, 18, 82, 160, 0, 6, 18, 146, 172, 42, 180, 0, 19, 27, 46, 4]
abbrev dktX6_mark_2 : List UInt8 := dkwX6_mark_2 ++ dktX6_mark_3
def dkwX6_mark_1 : List UInt8 := [133, 9, 42, 180, 0, 22, 27, 46, 4, 100, 133, 184, 0, 83, 154, 0, 7, 19, 1, 87, 172, 42]
abbrev dktX6_mark_1 : List UInt8 := dkwX6_mark_1 ++ dktX6_mark_2
def dkwX6_mark_0 : List UInt8 := [27, 184, 1, 80, 154, 0, 6, 18, 120, 172, 42, 180, 0, 19, 27, 46, 156, 0, 7, 19, 1, 86, 172, 28]
abbrev dktX6_mark_0 : List UInt8 := dkwX6_mark_0 ++ dktX6_mark_1
theorem dksX6_mark_0 : cX6_mark.data.toList.drop 0 = dktX6_mark_0 := by decide +kernel
theorem dksX6_mark_1 : cX6_mark.data.toList.drop 24 = dktX6_mark_1 := dk_seg dksX6_mark_0 24 rfl rfl
theorem dksX6_mark_2 : cX6_mark.data.toList.drop 46 = dktX6_mark_2 := dk_seg dksX6_mark_1 22 rfl rfl
theorem dksX6_mark_3 : cX6_mark.data.toList.drop 70 = dktX6_mark_3 := dk_seg dksX6_mark_2 24 rfl rfl
theorem dksX6_mark_4 : cX6_mark.data.toList.drop 93 = dktX6_mark_4 := dk_seg dksX6_mark_3 23 rfl rfl
theorem dksX6_mark_5 : cX6_mark.data.toList.drop 116 = dktX6_mark_5 := dk_seg dksX6_mark_4 23 rfl rfl
theorem dX6_mark_0 : decode cX6_mark 0 = .ok (.iload_n 1, 1) := dk_27 (dk_at dksX6_mark_0 0 rfl rfl)
theorem dX6_mark_1 : decode cX6_mark 1 = .ok (.invokestatic 336, 3) := dk_184 1 80 (dk_at dksX6_mark_0 1 rfl rfl)
theorem dX6_mark_4 : decode cX6_mark 4 = .ok (.ifCond .ne 6, 3) := dk_154 0 6 (dk_at dksX6_mark_0 4 rfl rfl)
theorem dX6_mark_7 : decode cX6_mark 7 = .ok (.ldc 120, 2) := dk_18 120 (dk_at dksX6_mark_0 7 rfl rfl)
theorem dX6_mark_9 : decode cX6_mark 9 = .ok (.ireturn, 1) := dk_172 (dk_at dksX6_mark_0 9 rfl rfl)
theorem dX6_mark_10 : decode cX6_mark 10 = .ok (.aload_n 0, 1) := dk_42 (dk_at dksX6_mark_0 10 rfl rfl)
theorem dX6_mark_11 : decode cX6_mark 11 = .ok (.getfield 19, 3) := dk_180 0 19 (dk_at dksX6_mark_0 11 rfl rfl)
theorem dX6_mark_14 : decode cX6_mark 14 = .ok (.iload_n 1, 1) := dk_27 (dk_at dksX6_mark_0 14 rfl rfl)
theorem dX6_mark_15 : decode cX6_mark 15 = .ok (.iaload, 1) := dk_46 (dk_at dksX6_mark_0 15 rfl rfl)
theorem dX6_mark_16 : decode cX6_mark 16 = .ok (.ifCond .ge 7, 3) := dk_156 0 7 (dk_at dksX6_mark_0 16 rfl rfl)
theorem dX6_mark_19 : decode cX6_mark 19 = .ok (.ldc_w 342, 3) := dk_19 1 86 (dk_at dksX6_mark_0 19 rfl rfl)
theorem dX6_mark_22 : decode cX6_mark 22 = .ok (.ireturn, 1) := dk_172 (dk_at dksX6_mark_0 22 rfl rfl)
theorem dX6_mark_23 : decode cX6_mark 23 = .ok (.iload_n 2, 1) := dk_28 (dk_at dksX6_mark_0 23 rfl rfl)
theorem dX6_mark_24 : decode cX6_mark 24 = .ok (.i2l, 1) := dk_133 (dk_at dksX6_mark_1 0 rfl rfl)
theorem dX6_mark_25 : decode cX6_mark 25 = .ok (.lconst 0, 1) := dk_9 (dk_at dksX6_mark_1 1 rfl rfl)
theorem dX6_mark_26 : decode cX6_mark 26 = .ok (.aload_n 0, 1) := dk_42 (dk_at dksX6_mark_1 2 rfl rfl)
theorem dX6_mark_27 : decode cX6_mark 27 = .ok (.getfield 22, 3) := dk_180 0 22 (dk_at dksX6_mark_1 3 rfl rfl)
theorem dX6_mark_30 : decode cX6_mark 30 = .ok (.iload_n 1, 1) := dk_27 (dk_at dksX6_mark_1 6 rfl rfl)
theorem dX6_mark_31 : decode cX6_mark 31 = .ok (.iaload, 1) := dk_46 (dk_at dksX6_mark_1 7 rfl rfl)
theorem dX6_mark_32 : decode cX6_mark 32 = .ok (.iconst 1, 1) := dk_4 (dk_at dksX6_mark_1 8 rfl rfl)
theorem dX6_mark_33 : decode cX6_mark 33 = .ok (.isub, 1) := dk_100 (dk_at dksX6_mark_1 9 rfl rfl)
theorem dX6_mark_34 : decode cX6_mark 34 = .ok (.i2l, 1) := dk_133 (dk_at dksX6_mark_1 10 rfl rfl)
theorem dX6_mark_35 : decode cX6_mark 35 = .ok (.invokestatic 83, 3) := dk_184 0 83 (dk_at dksX6_mark_1 11 rfl rfl)
theorem dX6_mark_38 : decode cX6_mark 38 = .ok (.ifCond .ne 7, 3) := dk_154 0 7 (dk_at dksX6_mark_1 14 rfl rfl)
theorem dX6_mark_41 : decode cX6_mark 41 = .ok (.ldc_w 343, 3) := dk_19 1 87 (dk_at dksX6_mark_1 17 rfl rfl)
theorem dX6_mark_44 : decode cX6_mark 44 = .ok (.ireturn, 1) := dk_172 (dk_at dksX6_mark_1 20 rfl rfl)
theorem dX6_mark_45 : decode cX6_mark 45 = .ok (.aload_n 0, 1) := dk_42 (dk_at dksX6_mark_1 21 rfl rfl)
theorem dX6_mark_46 : decode cX6_mark 46 = .ok (.getfield 19, 3) := dk_180 0 19 (dk_at dksX6_mark_2 0 rfl rfl)
theorem dX6_mark_49 : decode cX6_mark 49 = .ok (.iload_n 1, 1) := dk_27 (dk_at dksX6_mark_2 3 rfl rfl)
theorem dX6_mark_50 : decode cX6_mark 50 = .ok (.iaload, 1) := dk_46 (dk_at dksX6_mark_2 4 rfl rfl)
theorem dX6_mark_51 : decode cX6_mark 51 = .ok (.ifCond .ne 12, 3) := dk_154 0 12 (dk_at dksX6_mark_2 5 rfl rfl)
theorem dX6_mark_54 : decode cX6_mark 54 = .ok (.iload_n 3, 1) := dk_29 (dk_at dksX6_mark_2 8 rfl rfl)
theorem dX6_mark_55 : decode cX6_mark 55 = .ok (.ldc 82, 2) := dk_18 82 (dk_at dksX6_mark_2 9 rfl rfl)
theorem dX6_mark_57 : decode cX6_mark 57 = .ok (.if_icmp .ne 6, 3) := dk_160 0 6 (dk_at dksX6_mark_2 11 rfl rfl)
theorem dX6_mark_60 : decode cX6_mark 60 = .ok (.ldc 146, 2) := dk_18 146 (dk_at dksX6_mark_2 14 rfl rfl)
theorem dX6_mark_62 : decode cX6_mark 62 = .ok (.ireturn, 1) := dk_172 (dk_at dksX6_mark_2 16 rfl rfl)
theorem dX6_mark_63 : decode cX6_mark 63 = .ok (.aload_n 0, 1) := dk_42 (dk_at dksX6_mark_2 17 rfl rfl)
theorem dX6_mark_64 : decode cX6_mark 64 = .ok (.getfield 19, 3) := dk_180 0 19 (dk_at dksX6_mark_2 18 rfl rfl)
theorem dX6_mark_67 : decode cX6_mark 67 = .ok (.iload_n 1, 1) := dk_27 (dk_at dksX6_mark_2 21 rfl rfl)
theorem dX6_mark_68 : decode cX6_mark 68 = .ok (.iaload, 1) := dk_46 (dk_at dksX6_mark_2 22 rfl rfl)
theorem dX6_mark_69 : decode cX6_mark 69 = .ok (.iconst 1, 1) := dk_4 (dk_at dksX6_mark_2 23 rfl rfl)
theorem dX6_mark_70 : decode cX6_mark 70 = .ok (.if_icmp .ne 26, 3) := dk_160 0 26 (dk_at dksX6_mark_3 0 rfl rfl)
theorem dX6_mark_73 : decode cX6_mark 73 = .ok (.iload_n 3, 1) := dk_29 (dk_at dksX6_mark_3 3 rfl rfl)
theorem dX6_mark_74 : decode cX6_mark 74 = .ok (.ldc 82, 2) := dk_18 82 (dk_at dksX6_mark_3 4 rfl rfl)
theorem dX6_mark_76 : decode cX6_mark 76 = .ok (.if_icmp .eq 20, 3) := dk_159 0 20 (dk_at dksX6_mark_3 6 rfl rfl)
theorem dX6_mark_79 : decode cX6_mark 79 = .ok (.iload_n 3, 1) := dk_29 (dk_at dksX6_mark_3 9 rfl rfl)
theorem dX6_mark_80 : decode cX6_mark 80 = .ok (.i2l, 1) := dk_133 (dk_at dksX6_mark_3 10 rfl rfl)
theorem dX6_mark_81 : decode cX6_mark 81 = .ok (.ldc2_w 344, 3) := dk_20 1 88 (dk_at dksX6_mark_3 11 rfl rfl)
theorem dX6_mark_84 : decode cX6_mark 84 = .ok (.ldc2_w 346, 3) := dk_20 1 90 (dk_at dksX6_mark_3 14 rfl rfl)
theorem dX6_mark_87 : decode cX6_mark 87 = .ok (.invokestatic 83, 3) := dk_184 0 83 (dk_at dksX6_mark_3 17 rfl rfl)
theorem dX6_mark_90 : decode cX6_mark 90 = .ok (.ifCond .ne 6, 3) := dk_154 0 6 (dk_at dksX6_mark_3 20 rfl rfl)
theorem dX6_mark_93 : decode cX6_mark 93 = .ok (.ldc 120, 2) := dk_18 120 (dk_at dksX6_mark_4 0 rfl rfl)
theorem dX6_mark_95 : decode cX6_mark 95 = .ok (.ireturn, 1) := dk_172 (dk_at dksX6_mark_4 2 rfl rfl)
theorem dX6_mark_96 : decode cX6_mark 96 = .ok (.aload_n 0, 1) := dk_42 (dk_at dksX6_mark_4 3 rfl rfl)
theorem dX6_mark_97 : decode cX6_mark 97 = .ok (.getfield 25, 3) := dk_180 0 25 (dk_at dksX6_mark_4 4 rfl rfl)
theorem dX6_mark_100 : decode cX6_mark 100 = .ok (.bipush 24, 2) := dk_16 24 (dk_at dksX6_mark_4 7 rfl rfl)
theorem dX6_mark_102 : decode cX6_mark 102 = .ok (.iload_n 1, 1) := dk_27 (dk_at dksX6_mark_4 9 rfl rfl)
theorem dX6_mark_103 : decode cX6_mark 103 = .ok (.imul, 1) := dk_104 (dk_at dksX6_mark_4 10 rfl rfl)
theorem dX6_mark_104 : decode cX6_mark 104 = .ok (.iload_n 2, 1) := dk_28 (dk_at dksX6_mark_4 11 rfl rfl)
theorem dX6_mark_105 : decode cX6_mark 105 = .ok (.iadd, 1) := dk_96 (dk_at dksX6_mark_4 12 rfl rfl)
theorem dX6_mark_106 : decode cX6_mark 106 = .ok (.aload_n 0, 1) := dk_42 (dk_at dksX6_mark_4 13 rfl rfl)
theorem dX6_mark_107 : decode cX6_mark 107 = .ok (.getfield 19, 3) := dk_180 0 19 (dk_at dksX6_mark_4 14 rfl rfl)
theorem dX6_mark_110 : decode cX6_mark 110 = .ok (.iload_n 1, 1) := dk_27 (dk_at dksX6_mark_4 17 rfl rfl)
theorem dX6_mark_111 : decode cX6_mark 111 = .ok (.iaload, 1) := dk_46 (dk_at dksX6_mark_4 18 rfl rfl)
theorem dX6_mark_112 : decode cX6_mark 112 = .ok (.ifCond .ne 13, 3) := dk_154 0 13 (dk_at dksX6_mark_4 19 rfl rfl)
theorem dX6_mark_115 : decode cX6_mark 115 = .ok (.iload_n 3, 1) := dk_29 (dk_at dksX6_mark_4 22 rfl rfl)
theorem dX6_mark_116 : decode cX6_mark 116 = .ok (.bipush 16, 2) := dk_16 16 (dk_at dksX6_mark_5 0 rfl rfl)
theorem dX6_mark_118 : decode cX6_mark 118 = .ok (.ishl, 1) := dk_120 (dk_at dksX6_mark_5 2 rfl rfl)
theorem dX6_mark_119 : decode cX6_mark 119 = .ok (.bipush 16, 2) := dk_16 16 (dk_at dksX6_mark_5 3 rfl rfl)
theorem dX6_mark_121 : decode cX6_mark 121 = .ok (.ishr, 1) := dk_122 (dk_at dksX6_mark_5 5 rfl rfl)
theorem dX6_mark_122 : decode cX6_mark 122 = .ok (.goto 4, 3) := dk_167 0 4 (dk_at dksX6_mark_5 6 rfl rfl)
theorem dX6_mark_125 : decode cX6_mark 125 = .ok (.iload_n 3, 1) := dk_29 (dk_at dksX6_mark_5 9 rfl rfl)
theorem dX6_mark_126 : decode cX6_mark 126 = .ok (.iastore, 1) := dk_79 (dk_at dksX6_mark_5 10 rfl rfl)
theorem dX6_mark_127 : decode cX6_mark 127 = .ok (.iconst 1, 1) := dk_4 (dk_at dksX6_mark_5 11 rfl rfl)
theorem dX6_mark_128 : decode cX6_mark 128 = .ok (.ireturn, 1) := dk_172 (dk_at dksX6_mark_5 12 rfl rfl)
abbrev cX6_pour : ByteArray := prog_19_method_92_code
def yX6_pour : MethodName := ⟨RX6, "pour", "(I)I"⟩
def dkwX6_pour_4 : List UInt8 := [16, 8, 92, 46, 4, 96, 79, 132, 2, 1, 167, 255, 176, 28, 172]
abbrev dktX6_pour_4 : List UInt8 := dkwX6_pour_4 ++ []
def dkwX6_pour_3 : List UInt8 := [42, 180, 0, 7, 16, 8, 46, 96, 42, 180, 0, 25, 16, 24, 27, 104, 28, 96, 46, 79, 42, 180, 0, 7]
abbrev dktX6_pour_3 : List UInt8 := dkwX6_pour_3 ++ dktX6_pour_4
def dkwX6_pour_2 : List UInt8 := [182, 0, 116, 153, 0, 58, 42, 180, 0, 7, 16, 8, 46, 16, 24, 162, 0, 46, 42, 180, 0, 7, 16, 74]
abbrev dktX6_pour_2 : List UInt8 := dkwX6_pour_2 ++ dktX6_pour_3
def dkwX6_pour_1 : List UInt8 := [61, 28, 42, 180, 0, 22, 27, 46, 162, 0, 76, 42, 42, 180, 0, 25, 16, 24, 27, 104, 28, 96, 46]
abbrev dktX6_pour_1 : List UInt8 := dkwX6_pour_1 ++ dktX6_pour_2
def dkwX6_pour_0 : List UInt8 := [27, 184, 1, 80, 154, 0, 6, 18, 120, 172, 42, 180, 0, 19, 27, 46, 156, 0, 7, 19, 1, 86, 172, 3]
abbrev dktX6_pour_0 : List UInt8 := dkwX6_pour_0 ++ dktX6_pour_1
theorem dksX6_pour_0 : cX6_pour.data.toList.drop 0 = dktX6_pour_0 := by decide +kernel
theorem dksX6_pour_1 : cX6_pour.data.toList.drop 24 = dktX6_pour_1 := dk_seg dksX6_pour_0 24 rfl rfl
theorem dksX6_pour_2 : cX6_pour.data.toList.drop 47 = dktX6_pour_2 := dk_seg dksX6_pour_1 23 rfl rfl
theorem dksX6_pour_3 : cX6_pour.data.toList.drop 71 = dktX6_pour_3 := dk_seg dksX6_pour_2 24 rfl rfl
theorem dksX6_pour_4 : cX6_pour.data.toList.drop 95 = dktX6_pour_4 := dk_seg dksX6_pour_3 24 rfl rfl
theorem dX6_pour_0 : decode cX6_pour 0 = .ok (.iload_n 1, 1) := dk_27 (dk_at dksX6_pour_0 0 rfl rfl)
theorem dX6_pour_1 : decode cX6_pour 1 = .ok (.invokestatic 336, 3) := dk_184 1 80 (dk_at dksX6_pour_0 1 rfl rfl)
theorem dX6_pour_4 : decode cX6_pour 4 = .ok (.ifCond .ne 6, 3) := dk_154 0 6 (dk_at dksX6_pour_0 4 rfl rfl)
theorem dX6_pour_7 : decode cX6_pour 7 = .ok (.ldc 120, 2) := dk_18 120 (dk_at dksX6_pour_0 7 rfl rfl)
theorem dX6_pour_9 : decode cX6_pour 9 = .ok (.ireturn, 1) := dk_172 (dk_at dksX6_pour_0 9 rfl rfl)
theorem dX6_pour_10 : decode cX6_pour 10 = .ok (.aload_n 0, 1) := dk_42 (dk_at dksX6_pour_0 10 rfl rfl)
theorem dX6_pour_11 : decode cX6_pour 11 = .ok (.getfield 19, 3) := dk_180 0 19 (dk_at dksX6_pour_0 11 rfl rfl)
theorem dX6_pour_14 : decode cX6_pour 14 = .ok (.iload_n 1, 1) := dk_27 (dk_at dksX6_pour_0 14 rfl rfl)
theorem dX6_pour_15 : decode cX6_pour 15 = .ok (.iaload, 1) := dk_46 (dk_at dksX6_pour_0 15 rfl rfl)
theorem dX6_pour_16 : decode cX6_pour 16 = .ok (.ifCond .ge 7, 3) := dk_156 0 7 (dk_at dksX6_pour_0 16 rfl rfl)
theorem dX6_pour_19 : decode cX6_pour 19 = .ok (.ldc_w 342, 3) := dk_19 1 86 (dk_at dksX6_pour_0 19 rfl rfl)
theorem dX6_pour_22 : decode cX6_pour 22 = .ok (.ireturn, 1) := dk_172 (dk_at dksX6_pour_0 22 rfl rfl)
theorem dX6_pour_23 : decode cX6_pour 23 = .ok (.iconst 0, 1) := dk_3 (dk_at dksX6_pour_0 23 rfl rfl)
theorem dX6_pour_24 : decode cX6_pour 24 = .ok (.istore_n 2, 1) := dk_61 (dk_at dksX6_pour_1 0 rfl rfl)
theorem dX6_pour_25 : decode cX6_pour 25 = .ok (.iload_n 2, 1) := dk_28 (dk_at dksX6_pour_1 1 rfl rfl)
theorem dX6_pour_26 : decode cX6_pour 26 = .ok (.aload_n 0, 1) := dk_42 (dk_at dksX6_pour_1 2 rfl rfl)
theorem dX6_pour_27 : decode cX6_pour 27 = .ok (.getfield 22, 3) := dk_180 0 22 (dk_at dksX6_pour_1 3 rfl rfl)
theorem dX6_pour_30 : decode cX6_pour 30 = .ok (.iload_n 1, 1) := dk_27 (dk_at dksX6_pour_1 6 rfl rfl)
theorem dX6_pour_31 : decode cX6_pour 31 = .ok (.iaload, 1) := dk_46 (dk_at dksX6_pour_1 7 rfl rfl)
theorem dX6_pour_32 : decode cX6_pour 32 = .ok (.if_icmp .ge 76, 3) := dk_162 0 76 (dk_at dksX6_pour_1 8 rfl rfl)
theorem dX6_pour_35 : decode cX6_pour 35 = .ok (.aload_n 0, 1) := dk_42 (dk_at dksX6_pour_1 11 rfl rfl)
theorem dX6_pour_36 : decode cX6_pour 36 = .ok (.aload_n 0, 1) := dk_42 (dk_at dksX6_pour_1 12 rfl rfl)
theorem dX6_pour_37 : decode cX6_pour 37 = .ok (.getfield 25, 3) := dk_180 0 25 (dk_at dksX6_pour_1 13 rfl rfl)
theorem dX6_pour_40 : decode cX6_pour 40 = .ok (.bipush 24, 2) := dk_16 24 (dk_at dksX6_pour_1 16 rfl rfl)
theorem dX6_pour_42 : decode cX6_pour 42 = .ok (.iload_n 1, 1) := dk_27 (dk_at dksX6_pour_1 18 rfl rfl)
theorem dX6_pour_43 : decode cX6_pour 43 = .ok (.imul, 1) := dk_104 (dk_at dksX6_pour_1 19 rfl rfl)
theorem dX6_pour_44 : decode cX6_pour 44 = .ok (.iload_n 2, 1) := dk_28 (dk_at dksX6_pour_1 20 rfl rfl)
theorem dX6_pour_45 : decode cX6_pour 45 = .ok (.iadd, 1) := dk_96 (dk_at dksX6_pour_1 21 rfl rfl)
theorem dX6_pour_46 : decode cX6_pour 46 = .ok (.iaload, 1) := dk_46 (dk_at dksX6_pour_1 22 rfl rfl)
theorem dX6_pour_47 : decode cX6_pour 47 = .ok (.invokevirtual 116, 3) := dk_182 0 116 (dk_at dksX6_pour_2 0 rfl rfl)
theorem dX6_pour_50 : decode cX6_pour 50 = .ok (.ifCond .eq 58, 3) := dk_153 0 58 (dk_at dksX6_pour_2 3 rfl rfl)
theorem dX6_pour_53 : decode cX6_pour 53 = .ok (.aload_n 0, 1) := dk_42 (dk_at dksX6_pour_2 6 rfl rfl)
theorem dX6_pour_54 : decode cX6_pour 54 = .ok (.getfield 7, 3) := dk_180 0 7 (dk_at dksX6_pour_2 7 rfl rfl)
theorem dX6_pour_57 : decode cX6_pour 57 = .ok (.bipush 8, 2) := dk_16 8 (dk_at dksX6_pour_2 10 rfl rfl)
theorem dX6_pour_59 : decode cX6_pour 59 = .ok (.iaload, 1) := dk_46 (dk_at dksX6_pour_2 12 rfl rfl)
theorem dX6_pour_60 : decode cX6_pour 60 = .ok (.bipush 24, 2) := dk_16 24 (dk_at dksX6_pour_2 13 rfl rfl)
theorem dX6_pour_62 : decode cX6_pour 62 = .ok (.if_icmp .ge 46, 3) := dk_162 0 46 (dk_at dksX6_pour_2 15 rfl rfl)
theorem dX6_pour_65 : decode cX6_pour 65 = .ok (.aload_n 0, 1) := dk_42 (dk_at dksX6_pour_2 18 rfl rfl)
theorem dX6_pour_66 : decode cX6_pour 66 = .ok (.getfield 7, 3) := dk_180 0 7 (dk_at dksX6_pour_2 19 rfl rfl)
theorem dX6_pour_69 : decode cX6_pour 69 = .ok (.bipush 74, 2) := dk_16 74 (dk_at dksX6_pour_2 22 rfl rfl)
theorem dX6_pour_71 : decode cX6_pour 71 = .ok (.aload_n 0, 1) := dk_42 (dk_at dksX6_pour_3 0 rfl rfl)
theorem dX6_pour_72 : decode cX6_pour 72 = .ok (.getfield 7, 3) := dk_180 0 7 (dk_at dksX6_pour_3 1 rfl rfl)
theorem dX6_pour_75 : decode cX6_pour 75 = .ok (.bipush 8, 2) := dk_16 8 (dk_at dksX6_pour_3 4 rfl rfl)
theorem dX6_pour_77 : decode cX6_pour 77 = .ok (.iaload, 1) := dk_46 (dk_at dksX6_pour_3 6 rfl rfl)
theorem dX6_pour_78 : decode cX6_pour 78 = .ok (.iadd, 1) := dk_96 (dk_at dksX6_pour_3 7 rfl rfl)
theorem dX6_pour_79 : decode cX6_pour 79 = .ok (.aload_n 0, 1) := dk_42 (dk_at dksX6_pour_3 8 rfl rfl)
theorem dX6_pour_80 : decode cX6_pour 80 = .ok (.getfield 25, 3) := dk_180 0 25 (dk_at dksX6_pour_3 9 rfl rfl)
theorem dX6_pour_83 : decode cX6_pour 83 = .ok (.bipush 24, 2) := dk_16 24 (dk_at dksX6_pour_3 12 rfl rfl)
theorem dX6_pour_85 : decode cX6_pour 85 = .ok (.iload_n 1, 1) := dk_27 (dk_at dksX6_pour_3 14 rfl rfl)
theorem dX6_pour_86 : decode cX6_pour 86 = .ok (.imul, 1) := dk_104 (dk_at dksX6_pour_3 15 rfl rfl)
theorem dX6_pour_87 : decode cX6_pour 87 = .ok (.iload_n 2, 1) := dk_28 (dk_at dksX6_pour_3 16 rfl rfl)
theorem dX6_pour_88 : decode cX6_pour 88 = .ok (.iadd, 1) := dk_96 (dk_at dksX6_pour_3 17 rfl rfl)
theorem dX6_pour_89 : decode cX6_pour 89 = .ok (.iaload, 1) := dk_46 (dk_at dksX6_pour_3 18 rfl rfl)
theorem dX6_pour_90 : decode cX6_pour 90 = .ok (.iastore, 1) := dk_79 (dk_at dksX6_pour_3 19 rfl rfl)
theorem dX6_pour_91 : decode cX6_pour 91 = .ok (.aload_n 0, 1) := dk_42 (dk_at dksX6_pour_3 20 rfl rfl)
theorem dX6_pour_92 : decode cX6_pour 92 = .ok (.getfield 7, 3) := dk_180 0 7 (dk_at dksX6_pour_3 21 rfl rfl)
theorem dX6_pour_95 : decode cX6_pour 95 = .ok (.bipush 8, 2) := dk_16 8 (dk_at dksX6_pour_4 0 rfl rfl)
theorem dX6_pour_97 : decode cX6_pour 97 = .ok (.dup2, 1) := dk_92 (dk_at dksX6_pour_4 2 rfl rfl)
theorem dX6_pour_98 : decode cX6_pour 98 = .ok (.iaload, 1) := dk_46 (dk_at dksX6_pour_4 3 rfl rfl)
theorem dX6_pour_99 : decode cX6_pour 99 = .ok (.iconst 1, 1) := dk_4 (dk_at dksX6_pour_4 4 rfl rfl)
theorem dX6_pour_100 : decode cX6_pour 100 = .ok (.iadd, 1) := dk_96 (dk_at dksX6_pour_4 5 rfl rfl)
theorem dX6_pour_101 : decode cX6_pour 101 = .ok (.iastore, 1) := dk_79 (dk_at dksX6_pour_4 6 rfl rfl)
theorem dX6_pour_102 : decode cX6_pour 102 = .ok (.iinc 2 1, 3) := dk_132 2 1 (dk_at dksX6_pour_4 7 rfl rfl)
theorem dX6_pour_105 : decode cX6_pour 105 = .ok (.goto (-80), 3) := dk_167 255 176 (dk_at dksX6_pour_4 10 rfl rfl)
theorem dX6_pour_108 : decode cX6_pour 108 = .ok (.iload_n 2, 1) := dk_28 (dk_at dksX6_pour_4 13 rfl rfl)
theorem dX6_pour_109 : decode cX6_pour 109 = .ok (.ireturn, 1) := dk_172 (dk_at dksX6_pour_4 14 rfl rfl)
abbrev cX6_reads : ByteArray := prog_19_method_93_code
def yX6_reads : MethodName := ⟨RX6, "reads", "(I)I"⟩
def dkwX6_reads_3 : List UInt8 := [96, 46, 159, 0, 5, 28, 172, 132, 2, 1, 167, 255, 199, 18, 82, 172]
abbrev dktX6_reads_3 : List UInt8 := dkwX6_reads_3 ++ []
def dkwX6_reads_2 : List UInt8 := [18, 82, 159, 0, 29, 42, 28, 182, 0, 116, 153, 0, 19, 29, 42, 180, 0, 7, 42, 28, 182, 0, 92, 8]
abbrev dktX6_reads_2 : List UInt8 := dkwX6_reads_2 ++ dktX6_reads_3
def dkwX6_reads_1 : List UInt8 := [61, 28, 42, 180, 0, 22, 27, 46, 162, 0, 53, 42, 180, 0, 25, 16, 24, 27, 104, 28, 96, 46, 62, 29]
abbrev dktX6_reads_1 : List UInt8 := dkwX6_reads_1 ++ dktX6_reads_2
def dkwX6_reads_0 : List UInt8 := [27, 184, 1, 80, 154, 0, 6, 18, 120, 172, 42, 180, 0, 19, 27, 46, 156, 0, 7, 19, 1, 86, 172, 3]
abbrev dktX6_reads_0 : List UInt8 := dkwX6_reads_0 ++ dktX6_reads_1
theorem dksX6_reads_0 : cX6_reads.data.toList.drop 0 = dktX6_reads_0 := by decide +kernel
theorem dksX6_reads_1 : cX6_reads.data.toList.drop 24 = dktX6_reads_1 := dk_seg dksX6_reads_0 24 rfl rfl
theorem dksX6_reads_2 : cX6_reads.data.toList.drop 48 = dktX6_reads_2 := dk_seg dksX6_reads_1 24 rfl rfl
theorem dksX6_reads_3 : cX6_reads.data.toList.drop 72 = dktX6_reads_3 := dk_seg dksX6_reads_2 24 rfl rfl
theorem dX6_reads_0 : decode cX6_reads 0 = .ok (.iload_n 1, 1) := dk_27 (dk_at dksX6_reads_0 0 rfl rfl)
theorem dX6_reads_1 : decode cX6_reads 1 = .ok (.invokestatic 336, 3) := dk_184 1 80 (dk_at dksX6_reads_0 1 rfl rfl)
theorem dX6_reads_4 : decode cX6_reads 4 = .ok (.ifCond .ne 6, 3) := dk_154 0 6 (dk_at dksX6_reads_0 4 rfl rfl)
theorem dX6_reads_7 : decode cX6_reads 7 = .ok (.ldc 120, 2) := dk_18 120 (dk_at dksX6_reads_0 7 rfl rfl)
theorem dX6_reads_9 : decode cX6_reads 9 = .ok (.ireturn, 1) := dk_172 (dk_at dksX6_reads_0 9 rfl rfl)
theorem dX6_reads_10 : decode cX6_reads 10 = .ok (.aload_n 0, 1) := dk_42 (dk_at dksX6_reads_0 10 rfl rfl)
theorem dX6_reads_11 : decode cX6_reads 11 = .ok (.getfield 19, 3) := dk_180 0 19 (dk_at dksX6_reads_0 11 rfl rfl)
theorem dX6_reads_14 : decode cX6_reads 14 = .ok (.iload_n 1, 1) := dk_27 (dk_at dksX6_reads_0 14 rfl rfl)
theorem dX6_reads_15 : decode cX6_reads 15 = .ok (.iaload, 1) := dk_46 (dk_at dksX6_reads_0 15 rfl rfl)
theorem dX6_reads_16 : decode cX6_reads 16 = .ok (.ifCond .ge 7, 3) := dk_156 0 7 (dk_at dksX6_reads_0 16 rfl rfl)
theorem dX6_reads_19 : decode cX6_reads 19 = .ok (.ldc_w 342, 3) := dk_19 1 86 (dk_at dksX6_reads_0 19 rfl rfl)
theorem dX6_reads_22 : decode cX6_reads 22 = .ok (.ireturn, 1) := dk_172 (dk_at dksX6_reads_0 22 rfl rfl)
theorem dX6_reads_23 : decode cX6_reads 23 = .ok (.iconst 0, 1) := dk_3 (dk_at dksX6_reads_0 23 rfl rfl)
theorem dX6_reads_24 : decode cX6_reads 24 = .ok (.istore_n 2, 1) := dk_61 (dk_at dksX6_reads_1 0 rfl rfl)
theorem dX6_reads_25 : decode cX6_reads 25 = .ok (.iload_n 2, 1) := dk_28 (dk_at dksX6_reads_1 1 rfl rfl)
theorem dX6_reads_26 : decode cX6_reads 26 = .ok (.aload_n 0, 1) := dk_42 (dk_at dksX6_reads_1 2 rfl rfl)
theorem dX6_reads_27 : decode cX6_reads 27 = .ok (.getfield 22, 3) := dk_180 0 22 (dk_at dksX6_reads_1 3 rfl rfl)
theorem dX6_reads_30 : decode cX6_reads 30 = .ok (.iload_n 1, 1) := dk_27 (dk_at dksX6_reads_1 6 rfl rfl)
theorem dX6_reads_31 : decode cX6_reads 31 = .ok (.iaload, 1) := dk_46 (dk_at dksX6_reads_1 7 rfl rfl)
theorem dX6_reads_32 : decode cX6_reads 32 = .ok (.if_icmp .ge 53, 3) := dk_162 0 53 (dk_at dksX6_reads_1 8 rfl rfl)
theorem dX6_reads_35 : decode cX6_reads 35 = .ok (.aload_n 0, 1) := dk_42 (dk_at dksX6_reads_1 11 rfl rfl)
theorem dX6_reads_36 : decode cX6_reads 36 = .ok (.getfield 25, 3) := dk_180 0 25 (dk_at dksX6_reads_1 12 rfl rfl)
theorem dX6_reads_39 : decode cX6_reads 39 = .ok (.bipush 24, 2) := dk_16 24 (dk_at dksX6_reads_1 15 rfl rfl)
theorem dX6_reads_41 : decode cX6_reads 41 = .ok (.iload_n 1, 1) := dk_27 (dk_at dksX6_reads_1 17 rfl rfl)
theorem dX6_reads_42 : decode cX6_reads 42 = .ok (.imul, 1) := dk_104 (dk_at dksX6_reads_1 18 rfl rfl)
theorem dX6_reads_43 : decode cX6_reads 43 = .ok (.iload_n 2, 1) := dk_28 (dk_at dksX6_reads_1 19 rfl rfl)
theorem dX6_reads_44 : decode cX6_reads 44 = .ok (.iadd, 1) := dk_96 (dk_at dksX6_reads_1 20 rfl rfl)
theorem dX6_reads_45 : decode cX6_reads 45 = .ok (.iaload, 1) := dk_46 (dk_at dksX6_reads_1 21 rfl rfl)
theorem dX6_reads_46 : decode cX6_reads 46 = .ok (.istore_n 3, 1) := dk_62 (dk_at dksX6_reads_1 22 rfl rfl)
theorem dX6_reads_47 : decode cX6_reads 47 = .ok (.iload_n 3, 1) := dk_29 (dk_at dksX6_reads_1 23 rfl rfl)
theorem dX6_reads_48 : decode cX6_reads 48 = .ok (.ldc 82, 2) := dk_18 82 (dk_at dksX6_reads_2 0 rfl rfl)
theorem dX6_reads_50 : decode cX6_reads 50 = .ok (.if_icmp .eq 29, 3) := dk_159 0 29 (dk_at dksX6_reads_2 2 rfl rfl)
theorem dX6_reads_53 : decode cX6_reads 53 = .ok (.aload_n 0, 1) := dk_42 (dk_at dksX6_reads_2 5 rfl rfl)
theorem dX6_reads_54 : decode cX6_reads 54 = .ok (.iload_n 2, 1) := dk_28 (dk_at dksX6_reads_2 6 rfl rfl)
theorem dX6_reads_55 : decode cX6_reads 55 = .ok (.invokevirtual 116, 3) := dk_182 0 116 (dk_at dksX6_reads_2 7 rfl rfl)
theorem dX6_reads_58 : decode cX6_reads 58 = .ok (.ifCond .eq 19, 3) := dk_153 0 19 (dk_at dksX6_reads_2 10 rfl rfl)
theorem dX6_reads_61 : decode cX6_reads 61 = .ok (.iload_n 3, 1) := dk_29 (dk_at dksX6_reads_2 13 rfl rfl)
theorem dX6_reads_62 : decode cX6_reads 62 = .ok (.aload_n 0, 1) := dk_42 (dk_at dksX6_reads_2 14 rfl rfl)
theorem dX6_reads_63 : decode cX6_reads 63 = .ok (.getfield 7, 3) := dk_180 0 7 (dk_at dksX6_reads_2 15 rfl rfl)
theorem dX6_reads_66 : decode cX6_reads 66 = .ok (.aload_n 0, 1) := dk_42 (dk_at dksX6_reads_2 18 rfl rfl)
theorem dX6_reads_67 : decode cX6_reads 67 = .ok (.iload_n 2, 1) := dk_28 (dk_at dksX6_reads_2 19 rfl rfl)
theorem dX6_reads_68 : decode cX6_reads 68 = .ok (.invokevirtual 92, 3) := dk_182 0 92 (dk_at dksX6_reads_2 20 rfl rfl)
theorem dX6_reads_71 : decode cX6_reads 71 = .ok (.iconst 5, 1) := dk_8 (dk_at dksX6_reads_2 23 rfl rfl)
theorem dX6_reads_72 : decode cX6_reads 72 = .ok (.iadd, 1) := dk_96 (dk_at dksX6_reads_3 0 rfl rfl)
theorem dX6_reads_73 : decode cX6_reads 73 = .ok (.iaload, 1) := dk_46 (dk_at dksX6_reads_3 1 rfl rfl)
theorem dX6_reads_74 : decode cX6_reads 74 = .ok (.if_icmp .eq 5, 3) := dk_159 0 5 (dk_at dksX6_reads_3 2 rfl rfl)
theorem dX6_reads_77 : decode cX6_reads 77 = .ok (.iload_n 2, 1) := dk_28 (dk_at dksX6_reads_3 5 rfl rfl)
theorem dX6_reads_78 : decode cX6_reads 78 = .ok (.ireturn, 1) := dk_172 (dk_at dksX6_reads_3 6 rfl rfl)
theorem dX6_reads_79 : decode cX6_reads 79 = .ok (.iinc 2 1, 3) := dk_132 2 1 (dk_at dksX6_reads_3 7 rfl rfl)
theorem dX6_reads_82 : decode cX6_reads 82 = .ok (.goto (-57), 3) := dk_167 255 199 (dk_at dksX6_reads_3 10 rfl rfl)
theorem dX6_reads_85 : decode cX6_reads 85 = .ok (.ldc 82, 2) := dk_18 82 (dk_at dksX6_reads_3 13 rfl rfl)
theorem dX6_reads_87 : decode cX6_reads 87 = .ok (.ireturn, 1) := dk_172 (dk_at dksX6_reads_3 15 rfl rfl)
abbrev cX6_copy : ByteArray := prog_19_method_94_code
def yX6_copy : MethodName := ⟨RX6, "copy", "(IIIII)I"⟩
def dkwX6_copy_8 : List UInt8 := [172]
abbrev dktX6_copy_8 : List UInt8 := dkwX6_copy_8 ++ []
def dkwX6_copy_7 : List UInt8 := [29, 104, 21, 4, 96, 21, 6, 96, 42, 180, 0, 73, 21, 6, 46, 79, 132, 6, 1, 167, 255, 224, 21, 5]
abbrev dktX6_copy_7 : List UInt8 := dkwX6_copy_7 ++ dktX6_copy_8
def dkwX6_copy_6 : List UInt8 := [46, 79, 132, 6, 1, 167, 255, 225, 3, 54, 6, 21, 6, 21, 5, 162, 0, 31, 42, 180, 0, 25, 16, 24]
abbrev dktX6_copy_6 : List UInt8 := dkwX6_copy_6 ++ dktX6_copy_7
def dkwX6_copy_5 : List UInt8 := [21, 5, 162, 0, 30, 42, 180, 0, 73, 21, 6, 42, 180, 0, 25, 16, 24, 27, 104, 28, 96, 21, 6, 96]
abbrev dktX6_copy_5 : List UInt8 := dkwX6_copy_5 ++ dktX6_copy_6
def dkwX6_copy_4 : List UInt8 := [21, 5, 133, 97, 42, 180, 0, 22, 29, 46, 133, 148, 158, 0, 7, 19, 1, 87, 172, 3, 54, 6, 21, 6]
abbrev dktX6_copy_4 : List UInt8 := dkwX6_copy_4 ++ dktX6_copy_5
def dkwX6_copy_3 : List UInt8 := [155, 0, 38, 28, 133, 21, 5, 133, 97, 42, 180, 0, 22, 27, 46, 133, 148, 157, 0, 21, 21, 4, 133]
abbrev dktX6_copy_3 : List UInt8 := dkwX6_copy_3 ++ dktX6_copy_4
def dkwX6_copy_2 : List UInt8 := [180, 0, 19, 29, 46, 159, 0, 6, 18, 146, 172, 28, 155, 0, 48, 21, 4, 155, 0, 43, 21, 5]
abbrev dktX6_copy_2 : List UInt8 := dkwX6_copy_2 ++ dktX6_copy_3
def dkwX6_copy_1 : List UInt8 := [155, 0, 12, 42, 180, 0, 19, 29, 46, 156, 0, 7, 19, 1, 86, 172, 42, 180, 0, 19, 27, 46, 42]
abbrev dktX6_copy_1 : List UInt8 := dkwX6_copy_1 ++ dktX6_copy_2
def dkwX6_copy_0 : List UInt8 := [27, 184, 1, 80, 153, 0, 10, 29, 184, 1, 80, 154, 0, 6, 18, 120, 172, 42, 180, 0, 19, 27, 46]
abbrev dktX6_copy_0 : List UInt8 := dkwX6_copy_0 ++ dktX6_copy_1
theorem dksX6_copy_0 : cX6_copy.data.toList.drop 0 = dktX6_copy_0 := by decide +kernel
theorem dksX6_copy_1 : cX6_copy.data.toList.drop 23 = dktX6_copy_1 := dk_seg dksX6_copy_0 23 rfl rfl
theorem dksX6_copy_2 : cX6_copy.data.toList.drop 46 = dktX6_copy_2 := dk_seg dksX6_copy_1 23 rfl rfl
theorem dksX6_copy_3 : cX6_copy.data.toList.drop 68 = dktX6_copy_3 := dk_seg dksX6_copy_2 22 rfl rfl
theorem dksX6_copy_4 : cX6_copy.data.toList.drop 91 = dktX6_copy_4 := dk_seg dksX6_copy_3 23 rfl rfl
theorem dksX6_copy_5 : cX6_copy.data.toList.drop 115 = dktX6_copy_5 := dk_seg dksX6_copy_4 24 rfl rfl
theorem dksX6_copy_6 : cX6_copy.data.toList.drop 139 = dktX6_copy_6 := dk_seg dksX6_copy_5 24 rfl rfl
theorem dksX6_copy_7 : cX6_copy.data.toList.drop 163 = dktX6_copy_7 := dk_seg dksX6_copy_6 24 rfl rfl
theorem dksX6_copy_8 : cX6_copy.data.toList.drop 187 = dktX6_copy_8 := dk_seg dksX6_copy_7 24 rfl rfl
theorem dX6_copy_0 : decode cX6_copy 0 = .ok (.iload_n 1, 1) := dk_27 (dk_at dksX6_copy_0 0 rfl rfl)
theorem dX6_copy_1 : decode cX6_copy 1 = .ok (.invokestatic 336, 3) := dk_184 1 80 (dk_at dksX6_copy_0 1 rfl rfl)
theorem dX6_copy_4 : decode cX6_copy 4 = .ok (.ifCond .eq 10, 3) := dk_153 0 10 (dk_at dksX6_copy_0 4 rfl rfl)
theorem dX6_copy_7 : decode cX6_copy 7 = .ok (.iload_n 3, 1) := dk_29 (dk_at dksX6_copy_0 7 rfl rfl)
theorem dX6_copy_8 : decode cX6_copy 8 = .ok (.invokestatic 336, 3) := dk_184 1 80 (dk_at dksX6_copy_0 8 rfl rfl)
theorem dX6_copy_11 : decode cX6_copy 11 = .ok (.ifCond .ne 6, 3) := dk_154 0 6 (dk_at dksX6_copy_0 11 rfl rfl)
theorem dX6_copy_14 : decode cX6_copy 14 = .ok (.ldc 120, 2) := dk_18 120 (dk_at dksX6_copy_0 14 rfl rfl)
theorem dX6_copy_16 : decode cX6_copy 16 = .ok (.ireturn, 1) := dk_172 (dk_at dksX6_copy_0 16 rfl rfl)
theorem dX6_copy_17 : decode cX6_copy 17 = .ok (.aload_n 0, 1) := dk_42 (dk_at dksX6_copy_0 17 rfl rfl)
theorem dX6_copy_18 : decode cX6_copy 18 = .ok (.getfield 19, 3) := dk_180 0 19 (dk_at dksX6_copy_0 18 rfl rfl)
theorem dX6_copy_21 : decode cX6_copy 21 = .ok (.iload_n 1, 1) := dk_27 (dk_at dksX6_copy_0 21 rfl rfl)
theorem dX6_copy_22 : decode cX6_copy 22 = .ok (.iaload, 1) := dk_46 (dk_at dksX6_copy_0 22 rfl rfl)
theorem dX6_copy_23 : decode cX6_copy 23 = .ok (.ifCond .lt 12, 3) := dk_155 0 12 (dk_at dksX6_copy_1 0 rfl rfl)
theorem dX6_copy_26 : decode cX6_copy 26 = .ok (.aload_n 0, 1) := dk_42 (dk_at dksX6_copy_1 3 rfl rfl)
theorem dX6_copy_27 : decode cX6_copy 27 = .ok (.getfield 19, 3) := dk_180 0 19 (dk_at dksX6_copy_1 4 rfl rfl)
theorem dX6_copy_30 : decode cX6_copy 30 = .ok (.iload_n 3, 1) := dk_29 (dk_at dksX6_copy_1 7 rfl rfl)
theorem dX6_copy_31 : decode cX6_copy 31 = .ok (.iaload, 1) := dk_46 (dk_at dksX6_copy_1 8 rfl rfl)
theorem dX6_copy_32 : decode cX6_copy 32 = .ok (.ifCond .ge 7, 3) := dk_156 0 7 (dk_at dksX6_copy_1 9 rfl rfl)
theorem dX6_copy_35 : decode cX6_copy 35 = .ok (.ldc_w 342, 3) := dk_19 1 86 (dk_at dksX6_copy_1 12 rfl rfl)
theorem dX6_copy_38 : decode cX6_copy 38 = .ok (.ireturn, 1) := dk_172 (dk_at dksX6_copy_1 15 rfl rfl)
theorem dX6_copy_39 : decode cX6_copy 39 = .ok (.aload_n 0, 1) := dk_42 (dk_at dksX6_copy_1 16 rfl rfl)
theorem dX6_copy_40 : decode cX6_copy 40 = .ok (.getfield 19, 3) := dk_180 0 19 (dk_at dksX6_copy_1 17 rfl rfl)
theorem dX6_copy_43 : decode cX6_copy 43 = .ok (.iload_n 1, 1) := dk_27 (dk_at dksX6_copy_1 20 rfl rfl)
theorem dX6_copy_44 : decode cX6_copy 44 = .ok (.iaload, 1) := dk_46 (dk_at dksX6_copy_1 21 rfl rfl)
theorem dX6_copy_45 : decode cX6_copy 45 = .ok (.aload_n 0, 1) := dk_42 (dk_at dksX6_copy_1 22 rfl rfl)
theorem dX6_copy_46 : decode cX6_copy 46 = .ok (.getfield 19, 3) := dk_180 0 19 (dk_at dksX6_copy_2 0 rfl rfl)
theorem dX6_copy_49 : decode cX6_copy 49 = .ok (.iload_n 3, 1) := dk_29 (dk_at dksX6_copy_2 3 rfl rfl)
theorem dX6_copy_50 : decode cX6_copy 50 = .ok (.iaload, 1) := dk_46 (dk_at dksX6_copy_2 4 rfl rfl)
theorem dX6_copy_51 : decode cX6_copy 51 = .ok (.if_icmp .eq 6, 3) := dk_159 0 6 (dk_at dksX6_copy_2 5 rfl rfl)
theorem dX6_copy_54 : decode cX6_copy 54 = .ok (.ldc 146, 2) := dk_18 146 (dk_at dksX6_copy_2 8 rfl rfl)
theorem dX6_copy_56 : decode cX6_copy 56 = .ok (.ireturn, 1) := dk_172 (dk_at dksX6_copy_2 10 rfl rfl)
theorem dX6_copy_57 : decode cX6_copy 57 = .ok (.iload_n 2, 1) := dk_28 (dk_at dksX6_copy_2 11 rfl rfl)
theorem dX6_copy_58 : decode cX6_copy 58 = .ok (.ifCond .lt 48, 3) := dk_155 0 48 (dk_at dksX6_copy_2 12 rfl rfl)
theorem dX6_copy_61 : decode cX6_copy 61 = .ok (.iload 4, 2) := dk_21 4 (dk_at dksX6_copy_2 15 rfl rfl)
theorem dX6_copy_63 : decode cX6_copy 63 = .ok (.ifCond .lt 43, 3) := dk_155 0 43 (dk_at dksX6_copy_2 17 rfl rfl)
theorem dX6_copy_66 : decode cX6_copy 66 = .ok (.iload 5, 2) := dk_21 5 (dk_at dksX6_copy_2 20 rfl rfl)
theorem dX6_copy_68 : decode cX6_copy 68 = .ok (.ifCond .lt 38, 3) := dk_155 0 38 (dk_at dksX6_copy_3 0 rfl rfl)
theorem dX6_copy_71 : decode cX6_copy 71 = .ok (.iload_n 2, 1) := dk_28 (dk_at dksX6_copy_3 3 rfl rfl)
theorem dX6_copy_72 : decode cX6_copy 72 = .ok (.i2l, 1) := dk_133 (dk_at dksX6_copy_3 4 rfl rfl)
theorem dX6_copy_73 : decode cX6_copy 73 = .ok (.iload 5, 2) := dk_21 5 (dk_at dksX6_copy_3 5 rfl rfl)
theorem dX6_copy_75 : decode cX6_copy 75 = .ok (.i2l, 1) := dk_133 (dk_at dksX6_copy_3 7 rfl rfl)
theorem dX6_copy_76 : decode cX6_copy 76 = .ok (.ladd, 1) := dk_97 (dk_at dksX6_copy_3 8 rfl rfl)
theorem dX6_copy_77 : decode cX6_copy 77 = .ok (.aload_n 0, 1) := dk_42 (dk_at dksX6_copy_3 9 rfl rfl)
theorem dX6_copy_78 : decode cX6_copy 78 = .ok (.getfield 22, 3) := dk_180 0 22 (dk_at dksX6_copy_3 10 rfl rfl)
theorem dX6_copy_81 : decode cX6_copy 81 = .ok (.iload_n 1, 1) := dk_27 (dk_at dksX6_copy_3 13 rfl rfl)
theorem dX6_copy_82 : decode cX6_copy 82 = .ok (.iaload, 1) := dk_46 (dk_at dksX6_copy_3 14 rfl rfl)
theorem dX6_copy_83 : decode cX6_copy 83 = .ok (.i2l, 1) := dk_133 (dk_at dksX6_copy_3 15 rfl rfl)
theorem dX6_copy_84 : decode cX6_copy 84 = .ok (.lcmp, 1) := dk_148 (dk_at dksX6_copy_3 16 rfl rfl)
theorem dX6_copy_85 : decode cX6_copy 85 = .ok (.ifCond .gt 21, 3) := dk_157 0 21 (dk_at dksX6_copy_3 17 rfl rfl)
theorem dX6_copy_88 : decode cX6_copy 88 = .ok (.iload 4, 2) := dk_21 4 (dk_at dksX6_copy_3 20 rfl rfl)
theorem dX6_copy_90 : decode cX6_copy 90 = .ok (.i2l, 1) := dk_133 (dk_at dksX6_copy_3 22 rfl rfl)
theorem dX6_copy_91 : decode cX6_copy 91 = .ok (.iload 5, 2) := dk_21 5 (dk_at dksX6_copy_4 0 rfl rfl)
theorem dX6_copy_93 : decode cX6_copy 93 = .ok (.i2l, 1) := dk_133 (dk_at dksX6_copy_4 2 rfl rfl)
theorem dX6_copy_94 : decode cX6_copy 94 = .ok (.ladd, 1) := dk_97 (dk_at dksX6_copy_4 3 rfl rfl)
theorem dX6_copy_95 : decode cX6_copy 95 = .ok (.aload_n 0, 1) := dk_42 (dk_at dksX6_copy_4 4 rfl rfl)
theorem dX6_copy_96 : decode cX6_copy 96 = .ok (.getfield 22, 3) := dk_180 0 22 (dk_at dksX6_copy_4 5 rfl rfl)
theorem dX6_copy_99 : decode cX6_copy 99 = .ok (.iload_n 3, 1) := dk_29 (dk_at dksX6_copy_4 8 rfl rfl)
theorem dX6_copy_100 : decode cX6_copy 100 = .ok (.iaload, 1) := dk_46 (dk_at dksX6_copy_4 9 rfl rfl)
theorem dX6_copy_101 : decode cX6_copy 101 = .ok (.i2l, 1) := dk_133 (dk_at dksX6_copy_4 10 rfl rfl)
theorem dX6_copy_102 : decode cX6_copy 102 = .ok (.lcmp, 1) := dk_148 (dk_at dksX6_copy_4 11 rfl rfl)
theorem dX6_copy_103 : decode cX6_copy 103 = .ok (.ifCond .le 7, 3) := dk_158 0 7 (dk_at dksX6_copy_4 12 rfl rfl)
theorem dX6_copy_106 : decode cX6_copy 106 = .ok (.ldc_w 343, 3) := dk_19 1 87 (dk_at dksX6_copy_4 15 rfl rfl)
theorem dX6_copy_109 : decode cX6_copy 109 = .ok (.ireturn, 1) := dk_172 (dk_at dksX6_copy_4 18 rfl rfl)
theorem dX6_copy_110 : decode cX6_copy 110 = .ok (.iconst 0, 1) := dk_3 (dk_at dksX6_copy_4 19 rfl rfl)
theorem dX6_copy_111 : decode cX6_copy 111 = .ok (.istore 6, 2) := dk_54 6 (dk_at dksX6_copy_4 20 rfl rfl)
theorem dX6_copy_113 : decode cX6_copy 113 = .ok (.iload 6, 2) := dk_21 6 (dk_at dksX6_copy_4 22 rfl rfl)
theorem dX6_copy_115 : decode cX6_copy 115 = .ok (.iload 5, 2) := dk_21 5 (dk_at dksX6_copy_5 0 rfl rfl)
theorem dX6_copy_117 : decode cX6_copy 117 = .ok (.if_icmp .ge 30, 3) := dk_162 0 30 (dk_at dksX6_copy_5 2 rfl rfl)
theorem dX6_copy_120 : decode cX6_copy 120 = .ok (.aload_n 0, 1) := dk_42 (dk_at dksX6_copy_5 5 rfl rfl)
theorem dX6_copy_121 : decode cX6_copy 121 = .ok (.getfield 73, 3) := dk_180 0 73 (dk_at dksX6_copy_5 6 rfl rfl)
theorem dX6_copy_124 : decode cX6_copy 124 = .ok (.iload 6, 2) := dk_21 6 (dk_at dksX6_copy_5 9 rfl rfl)
theorem dX6_copy_126 : decode cX6_copy 126 = .ok (.aload_n 0, 1) := dk_42 (dk_at dksX6_copy_5 11 rfl rfl)
theorem dX6_copy_127 : decode cX6_copy 127 = .ok (.getfield 25, 3) := dk_180 0 25 (dk_at dksX6_copy_5 12 rfl rfl)
theorem dX6_copy_130 : decode cX6_copy 130 = .ok (.bipush 24, 2) := dk_16 24 (dk_at dksX6_copy_5 15 rfl rfl)
theorem dX6_copy_132 : decode cX6_copy 132 = .ok (.iload_n 1, 1) := dk_27 (dk_at dksX6_copy_5 17 rfl rfl)
theorem dX6_copy_133 : decode cX6_copy 133 = .ok (.imul, 1) := dk_104 (dk_at dksX6_copy_5 18 rfl rfl)
theorem dX6_copy_134 : decode cX6_copy 134 = .ok (.iload_n 2, 1) := dk_28 (dk_at dksX6_copy_5 19 rfl rfl)
theorem dX6_copy_135 : decode cX6_copy 135 = .ok (.iadd, 1) := dk_96 (dk_at dksX6_copy_5 20 rfl rfl)
theorem dX6_copy_136 : decode cX6_copy 136 = .ok (.iload 6, 2) := dk_21 6 (dk_at dksX6_copy_5 21 rfl rfl)
theorem dX6_copy_138 : decode cX6_copy 138 = .ok (.iadd, 1) := dk_96 (dk_at dksX6_copy_5 23 rfl rfl)
theorem dX6_copy_139 : decode cX6_copy 139 = .ok (.iaload, 1) := dk_46 (dk_at dksX6_copy_6 0 rfl rfl)
theorem dX6_copy_140 : decode cX6_copy 140 = .ok (.iastore, 1) := dk_79 (dk_at dksX6_copy_6 1 rfl rfl)
theorem dX6_copy_141 : decode cX6_copy 141 = .ok (.iinc 6 1, 3) := dk_132 6 1 (dk_at dksX6_copy_6 2 rfl rfl)
theorem dX6_copy_144 : decode cX6_copy 144 = .ok (.goto (-31), 3) := dk_167 255 225 (dk_at dksX6_copy_6 5 rfl rfl)
theorem dX6_copy_147 : decode cX6_copy 147 = .ok (.iconst 0, 1) := dk_3 (dk_at dksX6_copy_6 8 rfl rfl)
theorem dX6_copy_148 : decode cX6_copy 148 = .ok (.istore 6, 2) := dk_54 6 (dk_at dksX6_copy_6 9 rfl rfl)
theorem dX6_copy_150 : decode cX6_copy 150 = .ok (.iload 6, 2) := dk_21 6 (dk_at dksX6_copy_6 11 rfl rfl)
theorem dX6_copy_152 : decode cX6_copy 152 = .ok (.iload 5, 2) := dk_21 5 (dk_at dksX6_copy_6 13 rfl rfl)
theorem dX6_copy_154 : decode cX6_copy 154 = .ok (.if_icmp .ge 31, 3) := dk_162 0 31 (dk_at dksX6_copy_6 15 rfl rfl)
theorem dX6_copy_157 : decode cX6_copy 157 = .ok (.aload_n 0, 1) := dk_42 (dk_at dksX6_copy_6 18 rfl rfl)
theorem dX6_copy_158 : decode cX6_copy 158 = .ok (.getfield 25, 3) := dk_180 0 25 (dk_at dksX6_copy_6 19 rfl rfl)
theorem dX6_copy_161 : decode cX6_copy 161 = .ok (.bipush 24, 2) := dk_16 24 (dk_at dksX6_copy_6 22 rfl rfl)
theorem dX6_copy_163 : decode cX6_copy 163 = .ok (.iload_n 3, 1) := dk_29 (dk_at dksX6_copy_7 0 rfl rfl)
theorem dX6_copy_164 : decode cX6_copy 164 = .ok (.imul, 1) := dk_104 (dk_at dksX6_copy_7 1 rfl rfl)
theorem dX6_copy_165 : decode cX6_copy 165 = .ok (.iload 4, 2) := dk_21 4 (dk_at dksX6_copy_7 2 rfl rfl)
theorem dX6_copy_167 : decode cX6_copy 167 = .ok (.iadd, 1) := dk_96 (dk_at dksX6_copy_7 4 rfl rfl)
theorem dX6_copy_168 : decode cX6_copy 168 = .ok (.iload 6, 2) := dk_21 6 (dk_at dksX6_copy_7 5 rfl rfl)
theorem dX6_copy_170 : decode cX6_copy 170 = .ok (.iadd, 1) := dk_96 (dk_at dksX6_copy_7 7 rfl rfl)
theorem dX6_copy_171 : decode cX6_copy 171 = .ok (.aload_n 0, 1) := dk_42 (dk_at dksX6_copy_7 8 rfl rfl)
theorem dX6_copy_172 : decode cX6_copy 172 = .ok (.getfield 73, 3) := dk_180 0 73 (dk_at dksX6_copy_7 9 rfl rfl)
theorem dX6_copy_175 : decode cX6_copy 175 = .ok (.iload 6, 2) := dk_21 6 (dk_at dksX6_copy_7 12 rfl rfl)
theorem dX6_copy_177 : decode cX6_copy 177 = .ok (.iaload, 1) := dk_46 (dk_at dksX6_copy_7 14 rfl rfl)
theorem dX6_copy_178 : decode cX6_copy 178 = .ok (.iastore, 1) := dk_79 (dk_at dksX6_copy_7 15 rfl rfl)
theorem dX6_copy_179 : decode cX6_copy 179 = .ok (.iinc 6 1, 3) := dk_132 6 1 (dk_at dksX6_copy_7 16 rfl rfl)
theorem dX6_copy_182 : decode cX6_copy 182 = .ok (.goto (-32), 3) := dk_167 255 224 (dk_at dksX6_copy_7 19 rfl rfl)
theorem dX6_copy_185 : decode cX6_copy 185 = .ok (.iload 5, 2) := dk_21 5 (dk_at dksX6_copy_7 22 rfl rfl)
theorem dX6_copy_187 : decode cX6_copy 187 = .ok (.ireturn, 1) := dk_172 (dk_at dksX6_copy_8 0 rfl rfl)
abbrev cX6_lay : ByteArray := prog_19_method_96_code
def yX6_lay : MethodName := ⟨RX6, "lay", "(III)I"⟩
def dkwX6_lay_8 : List UInt8 := [132, 6, 1, 167, 255, 222, 21, 5, 172]
abbrev dktX6_lay_8 : List UInt8 := dkwX6_lay_8 ++ []
def dkwX6_lay_7 : List UInt8 := [180, 0, 40, 16, 24, 27, 104, 21, 6, 96, 42, 180, 0, 25, 16, 24, 29, 104, 21, 6, 96, 46, 79]
abbrev dktX6_lay_7 : List UInt8 := dkwX6_lay_7 ++ dktX6_lay_8
def dkwX6_lay_6 : List UInt8 := [180, 0, 37, 27, 42, 180, 0, 22, 29, 46, 79, 3, 54, 6, 21, 6, 16, 24, 162, 0, 33, 42]
abbrev dktX6_lay_6 : List UInt8 := dkwX6_lay_6 ++ dktX6_lay_7
def dkwX6_lay_5 : List UInt8 := [27, 28, 4, 160, 0, 11, 42, 29, 182, 0, 140, 167, 0, 4, 3, 79, 28, 5, 160, 0, 55, 42]
abbrev dktX6_lay_5 : List UInt8 := dkwX6_lay_5 ++ dktX6_lay_6
def dkwX6_lay_4 : List UInt8 := [28, 4, 160, 0, 16, 42, 180, 0, 7, 42, 29, 182, 0, 92, 46, 167, 0, 4, 29, 79, 42, 180, 0, 34]
abbrev dktX6_lay_4 : List UInt8 := dkwX6_lay_4 ++ dktX6_lay_5
def dkwX6_lay_3 : List UInt8 := [19, 1, 86, 172, 42, 180, 0, 28, 27, 46, 54, 5, 42, 180, 0, 28, 27, 28, 79, 42, 180, 0, 31, 27]
abbrev dktX6_lay_3 : List UInt8 := dkwX6_lay_3 ++ dktX6_lay_4
def dkwX6_lay_2 : List UInt8 := [21, 4, 154, 0, 6, 18, 120, 172, 28, 5, 160, 0, 16, 42, 180, 0, 19, 29, 46, 156, 0, 7]
abbrev dktX6_lay_2 : List UInt8 := dkwX6_lay_2 ++ dktX6_lay_3
def dkwX6_lay_1 : List UInt8 := [160, 0, 14, 29, 184, 1, 80, 153, 0, 7, 4, 167, 0, 4, 3, 54, 4, 27, 184, 1, 92, 153, 0, 8]
abbrev dktX6_lay_1 : List UInt8 := dkwX6_lay_1 ++ dktX6_lay_2
def dkwX6_lay_0 : List UInt8 := [28, 153, 0, 33, 28, 6, 159, 0, 28, 28, 4, 160, 0, 11, 42, 29, 182, 0, 116, 154, 0, 15, 28, 5]
abbrev dktX6_lay_0 : List UInt8 := dkwX6_lay_0 ++ dktX6_lay_1
theorem dksX6_lay_0 : cX6_lay.data.toList.drop 0 = dktX6_lay_0 := by decide +kernel
theorem dksX6_lay_1 : cX6_lay.data.toList.drop 24 = dktX6_lay_1 := dk_seg dksX6_lay_0 24 rfl rfl
theorem dksX6_lay_2 : cX6_lay.data.toList.drop 48 = dktX6_lay_2 := dk_seg dksX6_lay_1 24 rfl rfl
theorem dksX6_lay_3 : cX6_lay.data.toList.drop 70 = dktX6_lay_3 := dk_seg dksX6_lay_2 22 rfl rfl
theorem dksX6_lay_4 : cX6_lay.data.toList.drop 94 = dktX6_lay_4 := dk_seg dksX6_lay_3 24 rfl rfl
theorem dksX6_lay_5 : cX6_lay.data.toList.drop 118 = dktX6_lay_5 := dk_seg dksX6_lay_4 24 rfl rfl
theorem dksX6_lay_6 : cX6_lay.data.toList.drop 140 = dktX6_lay_6 := dk_seg dksX6_lay_5 22 rfl rfl
theorem dksX6_lay_7 : cX6_lay.data.toList.drop 162 = dktX6_lay_7 := dk_seg dksX6_lay_6 22 rfl rfl
theorem dksX6_lay_8 : cX6_lay.data.toList.drop 185 = dktX6_lay_8 := dk_seg dksX6_lay_7 23 rfl rfl
theorem dX6_lay_0 : decode cX6_lay 0 = .ok (.iload_n 2, 1) := dk_28 (dk_at dksX6_lay_0 0 rfl rfl)
theorem dX6_lay_1 : decode cX6_lay 1 = .ok (.ifCond .eq 33, 3) := dk_153 0 33 (dk_at dksX6_lay_0 1 rfl rfl)
theorem dX6_lay_4 : decode cX6_lay 4 = .ok (.iload_n 2, 1) := dk_28 (dk_at dksX6_lay_0 4 rfl rfl)
theorem dX6_lay_5 : decode cX6_lay 5 = .ok (.iconst 3, 1) := dk_6 (dk_at dksX6_lay_0 5 rfl rfl)
theorem dX6_lay_6 : decode cX6_lay 6 = .ok (.if_icmp .eq 28, 3) := dk_159 0 28 (dk_at dksX6_lay_0 6 rfl rfl)
theorem dX6_lay_9 : decode cX6_lay 9 = .ok (.iload_n 2, 1) := dk_28 (dk_at dksX6_lay_0 9 rfl rfl)
theorem dX6_lay_10 : decode cX6_lay 10 = .ok (.iconst 1, 1) := dk_4 (dk_at dksX6_lay_0 10 rfl rfl)
theorem dX6_lay_11 : decode cX6_lay 11 = .ok (.if_icmp .ne 11, 3) := dk_160 0 11 (dk_at dksX6_lay_0 11 rfl rfl)
theorem dX6_lay_14 : decode cX6_lay 14 = .ok (.aload_n 0, 1) := dk_42 (dk_at dksX6_lay_0 14 rfl rfl)
theorem dX6_lay_15 : decode cX6_lay 15 = .ok (.iload_n 3, 1) := dk_29 (dk_at dksX6_lay_0 15 rfl rfl)
theorem dX6_lay_16 : decode cX6_lay 16 = .ok (.invokevirtual 116, 3) := dk_182 0 116 (dk_at dksX6_lay_0 16 rfl rfl)
theorem dX6_lay_19 : decode cX6_lay 19 = .ok (.ifCond .ne 15, 3) := dk_154 0 15 (dk_at dksX6_lay_0 19 rfl rfl)
theorem dX6_lay_22 : decode cX6_lay 22 = .ok (.iload_n 2, 1) := dk_28 (dk_at dksX6_lay_0 22 rfl rfl)
theorem dX6_lay_23 : decode cX6_lay 23 = .ok (.iconst 2, 1) := dk_5 (dk_at dksX6_lay_0 23 rfl rfl)
theorem dX6_lay_24 : decode cX6_lay 24 = .ok (.if_icmp .ne 14, 3) := dk_160 0 14 (dk_at dksX6_lay_1 0 rfl rfl)
theorem dX6_lay_27 : decode cX6_lay 27 = .ok (.iload_n 3, 1) := dk_29 (dk_at dksX6_lay_1 3 rfl rfl)
theorem dX6_lay_28 : decode cX6_lay 28 = .ok (.invokestatic 336, 3) := dk_184 1 80 (dk_at dksX6_lay_1 4 rfl rfl)
theorem dX6_lay_31 : decode cX6_lay 31 = .ok (.ifCond .eq 7, 3) := dk_153 0 7 (dk_at dksX6_lay_1 7 rfl rfl)
theorem dX6_lay_34 : decode cX6_lay 34 = .ok (.iconst 1, 1) := dk_4 (dk_at dksX6_lay_1 10 rfl rfl)
theorem dX6_lay_35 : decode cX6_lay 35 = .ok (.goto 4, 3) := dk_167 0 4 (dk_at dksX6_lay_1 11 rfl rfl)
theorem dX6_lay_38 : decode cX6_lay 38 = .ok (.iconst 0, 1) := dk_3 (dk_at dksX6_lay_1 14 rfl rfl)
theorem dX6_lay_39 : decode cX6_lay 39 = .ok (.istore 4, 2) := dk_54 4 (dk_at dksX6_lay_1 15 rfl rfl)
theorem dX6_lay_41 : decode cX6_lay 41 = .ok (.iload_n 1, 1) := dk_27 (dk_at dksX6_lay_1 17 rfl rfl)
theorem dX6_lay_42 : decode cX6_lay 42 = .ok (.invokestatic 348, 3) := dk_184 1 92 (dk_at dksX6_lay_1 18 rfl rfl)
theorem dX6_lay_45 : decode cX6_lay 45 = .ok (.ifCond .eq 8, 3) := dk_153 0 8 (dk_at dksX6_lay_1 21 rfl rfl)
theorem dX6_lay_48 : decode cX6_lay 48 = .ok (.iload 4, 2) := dk_21 4 (dk_at dksX6_lay_2 0 rfl rfl)
theorem dX6_lay_50 : decode cX6_lay 50 = .ok (.ifCond .ne 6, 3) := dk_154 0 6 (dk_at dksX6_lay_2 2 rfl rfl)
theorem dX6_lay_53 : decode cX6_lay 53 = .ok (.ldc 120, 2) := dk_18 120 (dk_at dksX6_lay_2 5 rfl rfl)
theorem dX6_lay_55 : decode cX6_lay 55 = .ok (.ireturn, 1) := dk_172 (dk_at dksX6_lay_2 7 rfl rfl)
theorem dX6_lay_56 : decode cX6_lay 56 = .ok (.iload_n 2, 1) := dk_28 (dk_at dksX6_lay_2 8 rfl rfl)
theorem dX6_lay_57 : decode cX6_lay 57 = .ok (.iconst 2, 1) := dk_5 (dk_at dksX6_lay_2 9 rfl rfl)
theorem dX6_lay_58 : decode cX6_lay 58 = .ok (.if_icmp .ne 16, 3) := dk_160 0 16 (dk_at dksX6_lay_2 10 rfl rfl)
theorem dX6_lay_61 : decode cX6_lay 61 = .ok (.aload_n 0, 1) := dk_42 (dk_at dksX6_lay_2 13 rfl rfl)
theorem dX6_lay_62 : decode cX6_lay 62 = .ok (.getfield 19, 3) := dk_180 0 19 (dk_at dksX6_lay_2 14 rfl rfl)
theorem dX6_lay_65 : decode cX6_lay 65 = .ok (.iload_n 3, 1) := dk_29 (dk_at dksX6_lay_2 17 rfl rfl)
theorem dX6_lay_66 : decode cX6_lay 66 = .ok (.iaload, 1) := dk_46 (dk_at dksX6_lay_2 18 rfl rfl)
theorem dX6_lay_67 : decode cX6_lay 67 = .ok (.ifCond .ge 7, 3) := dk_156 0 7 (dk_at dksX6_lay_2 19 rfl rfl)
theorem dX6_lay_70 : decode cX6_lay 70 = .ok (.ldc_w 342, 3) := dk_19 1 86 (dk_at dksX6_lay_3 0 rfl rfl)
theorem dX6_lay_73 : decode cX6_lay 73 = .ok (.ireturn, 1) := dk_172 (dk_at dksX6_lay_3 3 rfl rfl)
theorem dX6_lay_74 : decode cX6_lay 74 = .ok (.aload_n 0, 1) := dk_42 (dk_at dksX6_lay_3 4 rfl rfl)
theorem dX6_lay_75 : decode cX6_lay 75 = .ok (.getfield 28, 3) := dk_180 0 28 (dk_at dksX6_lay_3 5 rfl rfl)
theorem dX6_lay_78 : decode cX6_lay 78 = .ok (.iload_n 1, 1) := dk_27 (dk_at dksX6_lay_3 8 rfl rfl)
theorem dX6_lay_79 : decode cX6_lay 79 = .ok (.iaload, 1) := dk_46 (dk_at dksX6_lay_3 9 rfl rfl)
theorem dX6_lay_80 : decode cX6_lay 80 = .ok (.istore 5, 2) := dk_54 5 (dk_at dksX6_lay_3 10 rfl rfl)
theorem dX6_lay_82 : decode cX6_lay 82 = .ok (.aload_n 0, 1) := dk_42 (dk_at dksX6_lay_3 12 rfl rfl)
theorem dX6_lay_83 : decode cX6_lay 83 = .ok (.getfield 28, 3) := dk_180 0 28 (dk_at dksX6_lay_3 13 rfl rfl)
theorem dX6_lay_86 : decode cX6_lay 86 = .ok (.iload_n 1, 1) := dk_27 (dk_at dksX6_lay_3 16 rfl rfl)
theorem dX6_lay_87 : decode cX6_lay 87 = .ok (.iload_n 2, 1) := dk_28 (dk_at dksX6_lay_3 17 rfl rfl)
theorem dX6_lay_88 : decode cX6_lay 88 = .ok (.iastore, 1) := dk_79 (dk_at dksX6_lay_3 18 rfl rfl)
theorem dX6_lay_89 : decode cX6_lay 89 = .ok (.aload_n 0, 1) := dk_42 (dk_at dksX6_lay_3 19 rfl rfl)
theorem dX6_lay_90 : decode cX6_lay 90 = .ok (.getfield 31, 3) := dk_180 0 31 (dk_at dksX6_lay_3 20 rfl rfl)
theorem dX6_lay_93 : decode cX6_lay 93 = .ok (.iload_n 1, 1) := dk_27 (dk_at dksX6_lay_3 23 rfl rfl)
theorem dX6_lay_94 : decode cX6_lay 94 = .ok (.iload_n 2, 1) := dk_28 (dk_at dksX6_lay_4 0 rfl rfl)
theorem dX6_lay_95 : decode cX6_lay 95 = .ok (.iconst 1, 1) := dk_4 (dk_at dksX6_lay_4 1 rfl rfl)
theorem dX6_lay_96 : decode cX6_lay 96 = .ok (.if_icmp .ne 16, 3) := dk_160 0 16 (dk_at dksX6_lay_4 2 rfl rfl)
theorem dX6_lay_99 : decode cX6_lay 99 = .ok (.aload_n 0, 1) := dk_42 (dk_at dksX6_lay_4 5 rfl rfl)
theorem dX6_lay_100 : decode cX6_lay 100 = .ok (.getfield 7, 3) := dk_180 0 7 (dk_at dksX6_lay_4 6 rfl rfl)
theorem dX6_lay_103 : decode cX6_lay 103 = .ok (.aload_n 0, 1) := dk_42 (dk_at dksX6_lay_4 9 rfl rfl)
theorem dX6_lay_104 : decode cX6_lay 104 = .ok (.iload_n 3, 1) := dk_29 (dk_at dksX6_lay_4 10 rfl rfl)
theorem dX6_lay_105 : decode cX6_lay 105 = .ok (.invokevirtual 92, 3) := dk_182 0 92 (dk_at dksX6_lay_4 11 rfl rfl)
theorem dX6_lay_108 : decode cX6_lay 108 = .ok (.iaload, 1) := dk_46 (dk_at dksX6_lay_4 14 rfl rfl)
theorem dX6_lay_109 : decode cX6_lay 109 = .ok (.goto 4, 3) := dk_167 0 4 (dk_at dksX6_lay_4 15 rfl rfl)
theorem dX6_lay_112 : decode cX6_lay 112 = .ok (.iload_n 3, 1) := dk_29 (dk_at dksX6_lay_4 18 rfl rfl)
theorem dX6_lay_113 : decode cX6_lay 113 = .ok (.iastore, 1) := dk_79 (dk_at dksX6_lay_4 19 rfl rfl)
theorem dX6_lay_114 : decode cX6_lay 114 = .ok (.aload_n 0, 1) := dk_42 (dk_at dksX6_lay_4 20 rfl rfl)
theorem dX6_lay_115 : decode cX6_lay 115 = .ok (.getfield 34, 3) := dk_180 0 34 (dk_at dksX6_lay_4 21 rfl rfl)
theorem dX6_lay_118 : decode cX6_lay 118 = .ok (.iload_n 1, 1) := dk_27 (dk_at dksX6_lay_5 0 rfl rfl)
theorem dX6_lay_119 : decode cX6_lay 119 = .ok (.iload_n 2, 1) := dk_28 (dk_at dksX6_lay_5 1 rfl rfl)
theorem dX6_lay_120 : decode cX6_lay 120 = .ok (.iconst 1, 1) := dk_4 (dk_at dksX6_lay_5 2 rfl rfl)
theorem dX6_lay_121 : decode cX6_lay 121 = .ok (.if_icmp .ne 11, 3) := dk_160 0 11 (dk_at dksX6_lay_5 3 rfl rfl)
theorem dX6_lay_124 : decode cX6_lay 124 = .ok (.aload_n 0, 1) := dk_42 (dk_at dksX6_lay_5 6 rfl rfl)
theorem dX6_lay_125 : decode cX6_lay 125 = .ok (.iload_n 3, 1) := dk_29 (dk_at dksX6_lay_5 7 rfl rfl)
theorem dX6_lay_126 : decode cX6_lay 126 = .ok (.invokevirtual 140, 3) := dk_182 0 140 (dk_at dksX6_lay_5 8 rfl rfl)
theorem dX6_lay_129 : decode cX6_lay 129 = .ok (.goto 4, 3) := dk_167 0 4 (dk_at dksX6_lay_5 11 rfl rfl)
theorem dX6_lay_132 : decode cX6_lay 132 = .ok (.iconst 0, 1) := dk_3 (dk_at dksX6_lay_5 14 rfl rfl)
theorem dX6_lay_133 : decode cX6_lay 133 = .ok (.iastore, 1) := dk_79 (dk_at dksX6_lay_5 15 rfl rfl)
theorem dX6_lay_134 : decode cX6_lay 134 = .ok (.iload_n 2, 1) := dk_28 (dk_at dksX6_lay_5 16 rfl rfl)
theorem dX6_lay_135 : decode cX6_lay 135 = .ok (.iconst 2, 1) := dk_5 (dk_at dksX6_lay_5 17 rfl rfl)
theorem dX6_lay_136 : decode cX6_lay 136 = .ok (.if_icmp .ne 55, 3) := dk_160 0 55 (dk_at dksX6_lay_5 18 rfl rfl)
theorem dX6_lay_139 : decode cX6_lay 139 = .ok (.aload_n 0, 1) := dk_42 (dk_at dksX6_lay_5 21 rfl rfl)
theorem dX6_lay_140 : decode cX6_lay 140 = .ok (.getfield 37, 3) := dk_180 0 37 (dk_at dksX6_lay_6 0 rfl rfl)
theorem dX6_lay_143 : decode cX6_lay 143 = .ok (.iload_n 1, 1) := dk_27 (dk_at dksX6_lay_6 3 rfl rfl)
theorem dX6_lay_144 : decode cX6_lay 144 = .ok (.aload_n 0, 1) := dk_42 (dk_at dksX6_lay_6 4 rfl rfl)
theorem dX6_lay_145 : decode cX6_lay 145 = .ok (.getfield 22, 3) := dk_180 0 22 (dk_at dksX6_lay_6 5 rfl rfl)
theorem dX6_lay_148 : decode cX6_lay 148 = .ok (.iload_n 3, 1) := dk_29 (dk_at dksX6_lay_6 8 rfl rfl)
theorem dX6_lay_149 : decode cX6_lay 149 = .ok (.iaload, 1) := dk_46 (dk_at dksX6_lay_6 9 rfl rfl)
theorem dX6_lay_150 : decode cX6_lay 150 = .ok (.iastore, 1) := dk_79 (dk_at dksX6_lay_6 10 rfl rfl)
theorem dX6_lay_151 : decode cX6_lay 151 = .ok (.iconst 0, 1) := dk_3 (dk_at dksX6_lay_6 11 rfl rfl)
theorem dX6_lay_152 : decode cX6_lay 152 = .ok (.istore 6, 2) := dk_54 6 (dk_at dksX6_lay_6 12 rfl rfl)
theorem dX6_lay_154 : decode cX6_lay 154 = .ok (.iload 6, 2) := dk_21 6 (dk_at dksX6_lay_6 14 rfl rfl)
theorem dX6_lay_156 : decode cX6_lay 156 = .ok (.bipush 24, 2) := dk_16 24 (dk_at dksX6_lay_6 16 rfl rfl)
theorem dX6_lay_158 : decode cX6_lay 158 = .ok (.if_icmp .ge 33, 3) := dk_162 0 33 (dk_at dksX6_lay_6 18 rfl rfl)
theorem dX6_lay_161 : decode cX6_lay 161 = .ok (.aload_n 0, 1) := dk_42 (dk_at dksX6_lay_6 21 rfl rfl)
theorem dX6_lay_162 : decode cX6_lay 162 = .ok (.getfield 40, 3) := dk_180 0 40 (dk_at dksX6_lay_7 0 rfl rfl)
theorem dX6_lay_165 : decode cX6_lay 165 = .ok (.bipush 24, 2) := dk_16 24 (dk_at dksX6_lay_7 3 rfl rfl)
theorem dX6_lay_167 : decode cX6_lay 167 = .ok (.iload_n 1, 1) := dk_27 (dk_at dksX6_lay_7 5 rfl rfl)
theorem dX6_lay_168 : decode cX6_lay 168 = .ok (.imul, 1) := dk_104 (dk_at dksX6_lay_7 6 rfl rfl)
theorem dX6_lay_169 : decode cX6_lay 169 = .ok (.iload 6, 2) := dk_21 6 (dk_at dksX6_lay_7 7 rfl rfl)
theorem dX6_lay_171 : decode cX6_lay 171 = .ok (.iadd, 1) := dk_96 (dk_at dksX6_lay_7 9 rfl rfl)
theorem dX6_lay_172 : decode cX6_lay 172 = .ok (.aload_n 0, 1) := dk_42 (dk_at dksX6_lay_7 10 rfl rfl)
theorem dX6_lay_173 : decode cX6_lay 173 = .ok (.getfield 25, 3) := dk_180 0 25 (dk_at dksX6_lay_7 11 rfl rfl)
theorem dX6_lay_176 : decode cX6_lay 176 = .ok (.bipush 24, 2) := dk_16 24 (dk_at dksX6_lay_7 14 rfl rfl)
theorem dX6_lay_178 : decode cX6_lay 178 = .ok (.iload_n 3, 1) := dk_29 (dk_at dksX6_lay_7 16 rfl rfl)
theorem dX6_lay_179 : decode cX6_lay 179 = .ok (.imul, 1) := dk_104 (dk_at dksX6_lay_7 17 rfl rfl)
theorem dX6_lay_180 : decode cX6_lay 180 = .ok (.iload 6, 2) := dk_21 6 (dk_at dksX6_lay_7 18 rfl rfl)
theorem dX6_lay_182 : decode cX6_lay 182 = .ok (.iadd, 1) := dk_96 (dk_at dksX6_lay_7 20 rfl rfl)
theorem dX6_lay_183 : decode cX6_lay 183 = .ok (.iaload, 1) := dk_46 (dk_at dksX6_lay_7 21 rfl rfl)
theorem dX6_lay_184 : decode cX6_lay 184 = .ok (.iastore, 1) := dk_79 (dk_at dksX6_lay_7 22 rfl rfl)
theorem dX6_lay_185 : decode cX6_lay 185 = .ok (.iinc 6 1, 3) := dk_132 6 1 (dk_at dksX6_lay_8 0 rfl rfl)
theorem dX6_lay_188 : decode cX6_lay 188 = .ok (.goto (-34), 3) := dk_167 255 222 (dk_at dksX6_lay_8 3 rfl rfl)
theorem dX6_lay_191 : decode cX6_lay 191 = .ok (.iload 5, 2) := dk_21 5 (dk_at dksX6_lay_8 6 rfl rfl)
theorem dX6_lay_193 : decode cX6_lay 193 = .ok (.ireturn, 1) := dk_172 (dk_at dksX6_lay_8 8 rfl rfl)
abbrev cX6_isSlot : ByteArray := prog_19_method_95_code
def yX6_isSlot : MethodName := ⟨RX6, "isSlot", "(I)Z"⟩
def dkwX6_isSlot_0 : List UInt8 := [26, 133, 9, 20, 0, 185, 184, 0, 83, 172]
abbrev dktX6_isSlot_0 : List UInt8 := dkwX6_isSlot_0 ++ []
theorem dksX6_isSlot_0 : cX6_isSlot.data.toList.drop 0 = dktX6_isSlot_0 := by decide +kernel
theorem dX6_isSlot_0 : decode cX6_isSlot 0 = .ok (.iload_n 0, 1) := dk_26 (dk_at dksX6_isSlot_0 0 rfl rfl)
theorem dX6_isSlot_1 : decode cX6_isSlot 1 = .ok (.i2l, 1) := dk_133 (dk_at dksX6_isSlot_0 1 rfl rfl)
theorem dX6_isSlot_2 : decode cX6_isSlot 2 = .ok (.lconst 0, 1) := dk_9 (dk_at dksX6_isSlot_0 2 rfl rfl)
theorem dX6_isSlot_3 : decode cX6_isSlot 3 = .ok (.ldc2_w 185, 3) := dk_20 0 185 (dk_at dksX6_isSlot_0 3 rfl rfl)
theorem dX6_isSlot_6 : decode cX6_isSlot 6 = .ok (.invokestatic 83, 3) := dk_184 0 83 (dk_at dksX6_isSlot_0 6 rfl rfl)
theorem dX6_isSlot_9 : decode cX6_isSlot 9 = .ok (.ireturn, 1) := dk_172 (dk_at dksX6_isSlot_0 9 rfl rfl)
abbrev cX6_ask : ByteArray := prog_19_method_97_code
def yX6_ask : MethodName := ⟨RX6, "ask", "(II)I"⟩
def dkwX6_ask_2 : List UInt8 := [180, 0, 31, 27, 46, 28, 184, 0, 143, 153, 0, 12, 42, 180, 0, 34, 27, 46, 167, 0, 5, 18, 146, 172]
abbrev dktX6_ask_2 : List UInt8 := dkwX6_ask_2 ++ []
def dkwX6_ask_1 : List UInt8 := [180, 0, 28, 27, 46, 154, 0, 7, 19, 1, 86, 172, 42, 180, 0, 28, 27, 46, 4, 160, 0, 25, 42]
abbrev dktX6_ask_1 : List UInt8 := dkwX6_ask_1 ++ dktX6_ask_2
def dkwX6_ask_0 : List UInt8 := [27, 184, 1, 92, 153, 0, 15, 28, 133, 9, 20, 0, 110, 184, 0, 83, 154, 0, 6, 18, 120, 172, 42]
abbrev dktX6_ask_0 : List UInt8 := dkwX6_ask_0 ++ dktX6_ask_1
theorem dksX6_ask_0 : cX6_ask.data.toList.drop 0 = dktX6_ask_0 := by decide +kernel
theorem dksX6_ask_1 : cX6_ask.data.toList.drop 23 = dktX6_ask_1 := dk_seg dksX6_ask_0 23 rfl rfl
theorem dksX6_ask_2 : cX6_ask.data.toList.drop 46 = dktX6_ask_2 := dk_seg dksX6_ask_1 23 rfl rfl
theorem dX6_ask_0 : decode cX6_ask 0 = .ok (.iload_n 1, 1) := dk_27 (dk_at dksX6_ask_0 0 rfl rfl)
theorem dX6_ask_1 : decode cX6_ask 1 = .ok (.invokestatic 348, 3) := dk_184 1 92 (dk_at dksX6_ask_0 1 rfl rfl)
theorem dX6_ask_4 : decode cX6_ask 4 = .ok (.ifCond .eq 15, 3) := dk_153 0 15 (dk_at dksX6_ask_0 4 rfl rfl)
theorem dX6_ask_7 : decode cX6_ask 7 = .ok (.iload_n 2, 1) := dk_28 (dk_at dksX6_ask_0 7 rfl rfl)
theorem dX6_ask_8 : decode cX6_ask 8 = .ok (.i2l, 1) := dk_133 (dk_at dksX6_ask_0 8 rfl rfl)
theorem dX6_ask_9 : decode cX6_ask 9 = .ok (.lconst 0, 1) := dk_9 (dk_at dksX6_ask_0 9 rfl rfl)
theorem dX6_ask_10 : decode cX6_ask 10 = .ok (.ldc2_w 110, 3) := dk_20 0 110 (dk_at dksX6_ask_0 10 rfl rfl)
theorem dX6_ask_13 : decode cX6_ask 13 = .ok (.invokestatic 83, 3) := dk_184 0 83 (dk_at dksX6_ask_0 13 rfl rfl)
theorem dX6_ask_16 : decode cX6_ask 16 = .ok (.ifCond .ne 6, 3) := dk_154 0 6 (dk_at dksX6_ask_0 16 rfl rfl)
theorem dX6_ask_19 : decode cX6_ask 19 = .ok (.ldc 120, 2) := dk_18 120 (dk_at dksX6_ask_0 19 rfl rfl)
theorem dX6_ask_21 : decode cX6_ask 21 = .ok (.ireturn, 1) := dk_172 (dk_at dksX6_ask_0 21 rfl rfl)
theorem dX6_ask_22 : decode cX6_ask 22 = .ok (.aload_n 0, 1) := dk_42 (dk_at dksX6_ask_0 22 rfl rfl)
theorem dX6_ask_23 : decode cX6_ask 23 = .ok (.getfield 28, 3) := dk_180 0 28 (dk_at dksX6_ask_1 0 rfl rfl)
theorem dX6_ask_26 : decode cX6_ask 26 = .ok (.iload_n 1, 1) := dk_27 (dk_at dksX6_ask_1 3 rfl rfl)
theorem dX6_ask_27 : decode cX6_ask 27 = .ok (.iaload, 1) := dk_46 (dk_at dksX6_ask_1 4 rfl rfl)
theorem dX6_ask_28 : decode cX6_ask 28 = .ok (.ifCond .ne 7, 3) := dk_154 0 7 (dk_at dksX6_ask_1 5 rfl rfl)
theorem dX6_ask_31 : decode cX6_ask 31 = .ok (.ldc_w 342, 3) := dk_19 1 86 (dk_at dksX6_ask_1 8 rfl rfl)
theorem dX6_ask_34 : decode cX6_ask 34 = .ok (.ireturn, 1) := dk_172 (dk_at dksX6_ask_1 11 rfl rfl)
theorem dX6_ask_35 : decode cX6_ask 35 = .ok (.aload_n 0, 1) := dk_42 (dk_at dksX6_ask_1 12 rfl rfl)
theorem dX6_ask_36 : decode cX6_ask 36 = .ok (.getfield 28, 3) := dk_180 0 28 (dk_at dksX6_ask_1 13 rfl rfl)
theorem dX6_ask_39 : decode cX6_ask 39 = .ok (.iload_n 1, 1) := dk_27 (dk_at dksX6_ask_1 16 rfl rfl)
theorem dX6_ask_40 : decode cX6_ask 40 = .ok (.iaload, 1) := dk_46 (dk_at dksX6_ask_1 17 rfl rfl)
theorem dX6_ask_41 : decode cX6_ask 41 = .ok (.iconst 1, 1) := dk_4 (dk_at dksX6_ask_1 18 rfl rfl)
theorem dX6_ask_42 : decode cX6_ask 42 = .ok (.if_icmp .ne 25, 3) := dk_160 0 25 (dk_at dksX6_ask_1 19 rfl rfl)
theorem dX6_ask_45 : decode cX6_ask 45 = .ok (.aload_n 0, 1) := dk_42 (dk_at dksX6_ask_1 22 rfl rfl)
theorem dX6_ask_46 : decode cX6_ask 46 = .ok (.getfield 31, 3) := dk_180 0 31 (dk_at dksX6_ask_2 0 rfl rfl)
theorem dX6_ask_49 : decode cX6_ask 49 = .ok (.iload_n 1, 1) := dk_27 (dk_at dksX6_ask_2 3 rfl rfl)
theorem dX6_ask_50 : decode cX6_ask 50 = .ok (.iaload, 1) := dk_46 (dk_at dksX6_ask_2 4 rfl rfl)
theorem dX6_ask_51 : decode cX6_ask 51 = .ok (.iload_n 2, 1) := dk_28 (dk_at dksX6_ask_2 5 rfl rfl)
theorem dX6_ask_52 : decode cX6_ask 52 = .ok (.invokestatic 143, 3) := dk_184 0 143 (dk_at dksX6_ask_2 6 rfl rfl)
theorem dX6_ask_55 : decode cX6_ask 55 = .ok (.ifCond .eq 12, 3) := dk_153 0 12 (dk_at dksX6_ask_2 9 rfl rfl)
theorem dX6_ask_58 : decode cX6_ask 58 = .ok (.aload_n 0, 1) := dk_42 (dk_at dksX6_ask_2 12 rfl rfl)
theorem dX6_ask_59 : decode cX6_ask 59 = .ok (.getfield 34, 3) := dk_180 0 34 (dk_at dksX6_ask_2 13 rfl rfl)
theorem dX6_ask_62 : decode cX6_ask 62 = .ok (.iload_n 1, 1) := dk_27 (dk_at dksX6_ask_2 16 rfl rfl)
theorem dX6_ask_63 : decode cX6_ask 63 = .ok (.iaload, 1) := dk_46 (dk_at dksX6_ask_2 17 rfl rfl)
theorem dX6_ask_64 : decode cX6_ask 64 = .ok (.goto 5, 3) := dk_167 0 5 (dk_at dksX6_ask_2 18 rfl rfl)
theorem dX6_ask_67 : decode cX6_ask 67 = .ok (.ldc 146, 2) := dk_18 146 (dk_at dksX6_ask_2 21 rfl rfl)
theorem dX6_ask_69 : decode cX6_ask 69 = .ok (.ireturn, 1) := dk_172 (dk_at dksX6_ask_2 23 rfl rfl)
abbrev cX6_item : ByteArray := prog_19_method_98_code
def yX6_item : MethodName := ⟨RX6, "item", "(II)I"⟩
def dkwX6_item_3 : List UInt8 := [29, 18, 82, 160, 0, 8, 18, 146, 167, 0, 4, 29, 172]
abbrev dktX6_item_3 : List UInt8 := dkwX6_item_3 ++ []
def dkwX6_item_2 : List UInt8 := [100, 133, 184, 0, 83, 154, 0, 7, 19, 1, 87, 172, 42, 180, 0, 40, 16, 24, 27, 104, 28, 96, 46, 62]
abbrev dktX6_item_2 : List UInt8 := dkwX6_item_2 ++ dktX6_item_3
def dkwX6_item_1 : List UInt8 := [27, 46, 154, 0, 9, 19, 1, 86, 167, 0, 5, 18, 146, 172, 28, 133, 9, 42, 180, 0, 37, 27, 46, 4]
abbrev dktX6_item_1 : List UInt8 := dkwX6_item_1 ++ dktX6_item_2
def dkwX6_item_0 : List UInt8 := [27, 184, 1, 92, 154, 0, 6, 18, 120, 172, 42, 180, 0, 28, 27, 46, 5, 159, 0, 21, 42, 180, 0, 28]
abbrev dktX6_item_0 : List UInt8 := dkwX6_item_0 ++ dktX6_item_1
theorem dksX6_item_0 : cX6_item.data.toList.drop 0 = dktX6_item_0 := by decide +kernel
theorem dksX6_item_1 : cX6_item.data.toList.drop 24 = dktX6_item_1 := dk_seg dksX6_item_0 24 rfl rfl
theorem dksX6_item_2 : cX6_item.data.toList.drop 48 = dktX6_item_2 := dk_seg dksX6_item_1 24 rfl rfl
theorem dksX6_item_3 : cX6_item.data.toList.drop 72 = dktX6_item_3 := dk_seg dksX6_item_2 24 rfl rfl
theorem dX6_item_0 : decode cX6_item 0 = .ok (.iload_n 1, 1) := dk_27 (dk_at dksX6_item_0 0 rfl rfl)
theorem dX6_item_1 : decode cX6_item 1 = .ok (.invokestatic 348, 3) := dk_184 1 92 (dk_at dksX6_item_0 1 rfl rfl)
theorem dX6_item_4 : decode cX6_item 4 = .ok (.ifCond .ne 6, 3) := dk_154 0 6 (dk_at dksX6_item_0 4 rfl rfl)
theorem dX6_item_7 : decode cX6_item 7 = .ok (.ldc 120, 2) := dk_18 120 (dk_at dksX6_item_0 7 rfl rfl)
theorem dX6_item_9 : decode cX6_item 9 = .ok (.ireturn, 1) := dk_172 (dk_at dksX6_item_0 9 rfl rfl)
theorem dX6_item_10 : decode cX6_item 10 = .ok (.aload_n 0, 1) := dk_42 (dk_at dksX6_item_0 10 rfl rfl)
theorem dX6_item_11 : decode cX6_item 11 = .ok (.getfield 28, 3) := dk_180 0 28 (dk_at dksX6_item_0 11 rfl rfl)
theorem dX6_item_14 : decode cX6_item 14 = .ok (.iload_n 1, 1) := dk_27 (dk_at dksX6_item_0 14 rfl rfl)
theorem dX6_item_15 : decode cX6_item 15 = .ok (.iaload, 1) := dk_46 (dk_at dksX6_item_0 15 rfl rfl)
theorem dX6_item_16 : decode cX6_item 16 = .ok (.iconst 2, 1) := dk_5 (dk_at dksX6_item_0 16 rfl rfl)
theorem dX6_item_17 : decode cX6_item 17 = .ok (.if_icmp .eq 21, 3) := dk_159 0 21 (dk_at dksX6_item_0 17 rfl rfl)
theorem dX6_item_20 : decode cX6_item 20 = .ok (.aload_n 0, 1) := dk_42 (dk_at dksX6_item_0 20 rfl rfl)
theorem dX6_item_21 : decode cX6_item 21 = .ok (.getfield 28, 3) := dk_180 0 28 (dk_at dksX6_item_0 21 rfl rfl)
theorem dX6_item_24 : decode cX6_item 24 = .ok (.iload_n 1, 1) := dk_27 (dk_at dksX6_item_1 0 rfl rfl)
theorem dX6_item_25 : decode cX6_item 25 = .ok (.iaload, 1) := dk_46 (dk_at dksX6_item_1 1 rfl rfl)
theorem dX6_item_26 : decode cX6_item 26 = .ok (.ifCond .ne 9, 3) := dk_154 0 9 (dk_at dksX6_item_1 2 rfl rfl)
theorem dX6_item_29 : decode cX6_item 29 = .ok (.ldc_w 342, 3) := dk_19 1 86 (dk_at dksX6_item_1 5 rfl rfl)
theorem dX6_item_32 : decode cX6_item 32 = .ok (.goto 5, 3) := dk_167 0 5 (dk_at dksX6_item_1 8 rfl rfl)
theorem dX6_item_35 : decode cX6_item 35 = .ok (.ldc 146, 2) := dk_18 146 (dk_at dksX6_item_1 11 rfl rfl)
theorem dX6_item_37 : decode cX6_item 37 = .ok (.ireturn, 1) := dk_172 (dk_at dksX6_item_1 13 rfl rfl)
theorem dX6_item_38 : decode cX6_item 38 = .ok (.iload_n 2, 1) := dk_28 (dk_at dksX6_item_1 14 rfl rfl)
theorem dX6_item_39 : decode cX6_item 39 = .ok (.i2l, 1) := dk_133 (dk_at dksX6_item_1 15 rfl rfl)
theorem dX6_item_40 : decode cX6_item 40 = .ok (.lconst 0, 1) := dk_9 (dk_at dksX6_item_1 16 rfl rfl)
theorem dX6_item_41 : decode cX6_item 41 = .ok (.aload_n 0, 1) := dk_42 (dk_at dksX6_item_1 17 rfl rfl)
theorem dX6_item_42 : decode cX6_item 42 = .ok (.getfield 37, 3) := dk_180 0 37 (dk_at dksX6_item_1 18 rfl rfl)
theorem dX6_item_45 : decode cX6_item 45 = .ok (.iload_n 1, 1) := dk_27 (dk_at dksX6_item_1 21 rfl rfl)
theorem dX6_item_46 : decode cX6_item 46 = .ok (.iaload, 1) := dk_46 (dk_at dksX6_item_1 22 rfl rfl)
theorem dX6_item_47 : decode cX6_item 47 = .ok (.iconst 1, 1) := dk_4 (dk_at dksX6_item_1 23 rfl rfl)
theorem dX6_item_48 : decode cX6_item 48 = .ok (.isub, 1) := dk_100 (dk_at dksX6_item_2 0 rfl rfl)
theorem dX6_item_49 : decode cX6_item 49 = .ok (.i2l, 1) := dk_133 (dk_at dksX6_item_2 1 rfl rfl)
theorem dX6_item_50 : decode cX6_item 50 = .ok (.invokestatic 83, 3) := dk_184 0 83 (dk_at dksX6_item_2 2 rfl rfl)
theorem dX6_item_53 : decode cX6_item 53 = .ok (.ifCond .ne 7, 3) := dk_154 0 7 (dk_at dksX6_item_2 5 rfl rfl)
theorem dX6_item_56 : decode cX6_item 56 = .ok (.ldc_w 343, 3) := dk_19 1 87 (dk_at dksX6_item_2 8 rfl rfl)
theorem dX6_item_59 : decode cX6_item 59 = .ok (.ireturn, 1) := dk_172 (dk_at dksX6_item_2 11 rfl rfl)
theorem dX6_item_60 : decode cX6_item 60 = .ok (.aload_n 0, 1) := dk_42 (dk_at dksX6_item_2 12 rfl rfl)
theorem dX6_item_61 : decode cX6_item 61 = .ok (.getfield 40, 3) := dk_180 0 40 (dk_at dksX6_item_2 13 rfl rfl)
theorem dX6_item_64 : decode cX6_item 64 = .ok (.bipush 24, 2) := dk_16 24 (dk_at dksX6_item_2 16 rfl rfl)
theorem dX6_item_66 : decode cX6_item 66 = .ok (.iload_n 1, 1) := dk_27 (dk_at dksX6_item_2 18 rfl rfl)
theorem dX6_item_67 : decode cX6_item 67 = .ok (.imul, 1) := dk_104 (dk_at dksX6_item_2 19 rfl rfl)
theorem dX6_item_68 : decode cX6_item 68 = .ok (.iload_n 2, 1) := dk_28 (dk_at dksX6_item_2 20 rfl rfl)
theorem dX6_item_69 : decode cX6_item 69 = .ok (.iadd, 1) := dk_96 (dk_at dksX6_item_2 21 rfl rfl)
theorem dX6_item_70 : decode cX6_item 70 = .ok (.iaload, 1) := dk_46 (dk_at dksX6_item_2 22 rfl rfl)
theorem dX6_item_71 : decode cX6_item 71 = .ok (.istore_n 3, 1) := dk_62 (dk_at dksX6_item_2 23 rfl rfl)
theorem dX6_item_72 : decode cX6_item 72 = .ok (.iload_n 3, 1) := dk_29 (dk_at dksX6_item_3 0 rfl rfl)
theorem dX6_item_73 : decode cX6_item 73 = .ok (.ldc 82, 2) := dk_18 82 (dk_at dksX6_item_3 1 rfl rfl)
theorem dX6_item_75 : decode cX6_item 75 = .ok (.if_icmp .ne 8, 3) := dk_160 0 8 (dk_at dksX6_item_3 3 rfl rfl)
theorem dX6_item_78 : decode cX6_item 78 = .ok (.ldc 146, 2) := dk_18 146 (dk_at dksX6_item_3 6 rfl rfl)
theorem dX6_item_80 : decode cX6_item 80 = .ok (.goto 4, 3) := dk_167 0 4 (dk_at dksX6_item_3 8 rfl rfl)
theorem dX6_item_83 : decode cX6_item 83 = .ok (.iload_n 3, 1) := dk_29 (dk_at dksX6_item_3 11 rfl rfl)
theorem dX6_item_84 : decode cX6_item 84 = .ok (.ireturn, 1) := dk_172 (dk_at dksX6_item_3 12 rfl rfl)
abbrev cX6_rest : ByteArray := prog_19_method_99_code
def yX6_rest : MethodName := ⟨RX6, "rest", "(II)I"⟩
def dkwX6_rest_2 : List UInt8 := [180, 0, 31, 27, 46, 28, 112, 172]
abbrev dktX6_rest_2 : List UInt8 := dkwX6_rest_2 ++ []
def dkwX6_rest_1 : List UInt8 := [27, 46, 154, 0, 9, 19, 1, 86, 167, 0, 5, 18, 146, 172, 28, 154, 0, 8, 18, 194, 167, 0, 11, 42]
abbrev dktX6_rest_1 : List UInt8 := dkwX6_rest_1 ++ dktX6_rest_2
def dkwX6_rest_0 : List UInt8 := [27, 184, 1, 92, 154, 0, 6, 18, 120, 172, 42, 180, 0, 28, 27, 46, 6, 159, 0, 21, 42, 180, 0, 28]
abbrev dktX6_rest_0 : List UInt8 := dkwX6_rest_0 ++ dktX6_rest_1
theorem dksX6_rest_0 : cX6_rest.data.toList.drop 0 = dktX6_rest_0 := by decide +kernel
theorem dksX6_rest_1 : cX6_rest.data.toList.drop 24 = dktX6_rest_1 := dk_seg dksX6_rest_0 24 rfl rfl
theorem dksX6_rest_2 : cX6_rest.data.toList.drop 48 = dktX6_rest_2 := dk_seg dksX6_rest_1 24 rfl rfl
theorem dX6_rest_0 : decode cX6_rest 0 = .ok (.iload_n 1, 1) := dk_27 (dk_at dksX6_rest_0 0 rfl rfl)
theorem dX6_rest_1 : decode cX6_rest 1 = .ok (.invokestatic 348, 3) := dk_184 1 92 (dk_at dksX6_rest_0 1 rfl rfl)
theorem dX6_rest_4 : decode cX6_rest 4 = .ok (.ifCond .ne 6, 3) := dk_154 0 6 (dk_at dksX6_rest_0 4 rfl rfl)
theorem dX6_rest_7 : decode cX6_rest 7 = .ok (.ldc 120, 2) := dk_18 120 (dk_at dksX6_rest_0 7 rfl rfl)
theorem dX6_rest_9 : decode cX6_rest 9 = .ok (.ireturn, 1) := dk_172 (dk_at dksX6_rest_0 9 rfl rfl)
theorem dX6_rest_10 : decode cX6_rest 10 = .ok (.aload_n 0, 1) := dk_42 (dk_at dksX6_rest_0 10 rfl rfl)
theorem dX6_rest_11 : decode cX6_rest 11 = .ok (.getfield 28, 3) := dk_180 0 28 (dk_at dksX6_rest_0 11 rfl rfl)
theorem dX6_rest_14 : decode cX6_rest 14 = .ok (.iload_n 1, 1) := dk_27 (dk_at dksX6_rest_0 14 rfl rfl)
theorem dX6_rest_15 : decode cX6_rest 15 = .ok (.iaload, 1) := dk_46 (dk_at dksX6_rest_0 15 rfl rfl)
theorem dX6_rest_16 : decode cX6_rest 16 = .ok (.iconst 3, 1) := dk_6 (dk_at dksX6_rest_0 16 rfl rfl)
theorem dX6_rest_17 : decode cX6_rest 17 = .ok (.if_icmp .eq 21, 3) := dk_159 0 21 (dk_at dksX6_rest_0 17 rfl rfl)
theorem dX6_rest_20 : decode cX6_rest 20 = .ok (.aload_n 0, 1) := dk_42 (dk_at dksX6_rest_0 20 rfl rfl)
theorem dX6_rest_21 : decode cX6_rest 21 = .ok (.getfield 28, 3) := dk_180 0 28 (dk_at dksX6_rest_0 21 rfl rfl)
theorem dX6_rest_24 : decode cX6_rest 24 = .ok (.iload_n 1, 1) := dk_27 (dk_at dksX6_rest_1 0 rfl rfl)
theorem dX6_rest_25 : decode cX6_rest 25 = .ok (.iaload, 1) := dk_46 (dk_at dksX6_rest_1 1 rfl rfl)
theorem dX6_rest_26 : decode cX6_rest 26 = .ok (.ifCond .ne 9, 3) := dk_154 0 9 (dk_at dksX6_rest_1 2 rfl rfl)
theorem dX6_rest_29 : decode cX6_rest 29 = .ok (.ldc_w 342, 3) := dk_19 1 86 (dk_at dksX6_rest_1 5 rfl rfl)
theorem dX6_rest_32 : decode cX6_rest 32 = .ok (.goto 5, 3) := dk_167 0 5 (dk_at dksX6_rest_1 8 rfl rfl)
theorem dX6_rest_35 : decode cX6_rest 35 = .ok (.ldc 146, 2) := dk_18 146 (dk_at dksX6_rest_1 11 rfl rfl)
theorem dX6_rest_37 : decode cX6_rest 37 = .ok (.ireturn, 1) := dk_172 (dk_at dksX6_rest_1 13 rfl rfl)
theorem dX6_rest_38 : decode cX6_rest 38 = .ok (.iload_n 2, 1) := dk_28 (dk_at dksX6_rest_1 14 rfl rfl)
theorem dX6_rest_39 : decode cX6_rest 39 = .ok (.ifCond .ne 8, 3) := dk_154 0 8 (dk_at dksX6_rest_1 15 rfl rfl)
theorem dX6_rest_42 : decode cX6_rest 42 = .ok (.ldc 194, 2) := dk_18 194 (dk_at dksX6_rest_1 18 rfl rfl)
theorem dX6_rest_44 : decode cX6_rest 44 = .ok (.goto 11, 3) := dk_167 0 11 (dk_at dksX6_rest_1 20 rfl rfl)
theorem dX6_rest_47 : decode cX6_rest 47 = .ok (.aload_n 0, 1) := dk_42 (dk_at dksX6_rest_1 23 rfl rfl)
theorem dX6_rest_48 : decode cX6_rest 48 = .ok (.getfield 31, 3) := dk_180 0 31 (dk_at dksX6_rest_2 0 rfl rfl)
theorem dX6_rest_51 : decode cX6_rest 51 = .ok (.iload_n 1, 1) := dk_27 (dk_at dksX6_rest_2 3 rfl rfl)
theorem dX6_rest_52 : decode cX6_rest 52 = .ok (.iaload, 1) := dk_46 (dk_at dksX6_rest_2 4 rfl rfl)
theorem dX6_rest_53 : decode cX6_rest 53 = .ok (.iload_n 2, 1) := dk_28 (dk_at dksX6_rest_2 5 rfl rfl)
theorem dX6_rest_54 : decode cX6_rest 54 = .ok (.irem, 1) := dk_112 (dk_at dksX6_rest_2 6 rfl rfl)
theorem dX6_rest_55 : decode cX6_rest 55 = .ok (.ireturn, 1) := dk_172 (dk_at dksX6_rest_2 7 rfl rfl)
abbrev cX6_tell : ByteArray := prog_19_method_100_code
def yX6_tell : MethodName := ⟨RX6, "tell", "(I)I"⟩
def dkwX6_tell_1 : List UInt8 := [180, 1, 95, 4, 96, 181, 1, 95, 42, 180, 1, 95, 172]
abbrev dktX6_tell_1 : List UInt8 := dkwX6_tell_1 ++ []
def dkwX6_tell_0 : List UInt8 := [42, 180, 1, 95, 16, 60, 160, 0, 6, 18, 121, 172, 42, 180, 0, 76, 42, 180, 1, 95, 27, 79, 42, 89]
abbrev dktX6_tell_0 : List UInt8 := dkwX6_tell_0 ++ dktX6_tell_1
theorem dksX6_tell_0 : cX6_tell.data.toList.drop 0 = dktX6_tell_0 := by decide +kernel
theorem dksX6_tell_1 : cX6_tell.data.toList.drop 24 = dktX6_tell_1 := dk_seg dksX6_tell_0 24 rfl rfl
theorem dX6_tell_0 : decode cX6_tell 0 = .ok (.aload_n 0, 1) := dk_42 (dk_at dksX6_tell_0 0 rfl rfl)
theorem dX6_tell_1 : decode cX6_tell 1 = .ok (.getfield 351, 3) := dk_180 1 95 (dk_at dksX6_tell_0 1 rfl rfl)
theorem dX6_tell_4 : decode cX6_tell 4 = .ok (.bipush 60, 2) := dk_16 60 (dk_at dksX6_tell_0 4 rfl rfl)
theorem dX6_tell_6 : decode cX6_tell 6 = .ok (.if_icmp .ne 6, 3) := dk_160 0 6 (dk_at dksX6_tell_0 6 rfl rfl)
theorem dX6_tell_9 : decode cX6_tell 9 = .ok (.ldc 121, 2) := dk_18 121 (dk_at dksX6_tell_0 9 rfl rfl)
theorem dX6_tell_11 : decode cX6_tell 11 = .ok (.ireturn, 1) := dk_172 (dk_at dksX6_tell_0 11 rfl rfl)
theorem dX6_tell_12 : decode cX6_tell 12 = .ok (.aload_n 0, 1) := dk_42 (dk_at dksX6_tell_0 12 rfl rfl)
theorem dX6_tell_13 : decode cX6_tell 13 = .ok (.getfield 76, 3) := dk_180 0 76 (dk_at dksX6_tell_0 13 rfl rfl)
theorem dX6_tell_16 : decode cX6_tell 16 = .ok (.aload_n 0, 1) := dk_42 (dk_at dksX6_tell_0 16 rfl rfl)
theorem dX6_tell_17 : decode cX6_tell 17 = .ok (.getfield 351, 3) := dk_180 1 95 (dk_at dksX6_tell_0 17 rfl rfl)
theorem dX6_tell_20 : decode cX6_tell 20 = .ok (.iload_n 1, 1) := dk_27 (dk_at dksX6_tell_0 20 rfl rfl)
theorem dX6_tell_21 : decode cX6_tell 21 = .ok (.iastore, 1) := dk_79 (dk_at dksX6_tell_0 21 rfl rfl)
theorem dX6_tell_22 : decode cX6_tell 22 = .ok (.aload_n 0, 1) := dk_42 (dk_at dksX6_tell_0 22 rfl rfl)
theorem dX6_tell_23 : decode cX6_tell 23 = .ok (.dup, 1) := dk_89 (dk_at dksX6_tell_0 23 rfl rfl)
theorem dX6_tell_24 : decode cX6_tell 24 = .ok (.getfield 351, 3) := dk_180 1 95 (dk_at dksX6_tell_1 0 rfl rfl)
theorem dX6_tell_27 : decode cX6_tell 27 = .ok (.iconst 1, 1) := dk_4 (dk_at dksX6_tell_1 3 rfl rfl)
theorem dX6_tell_28 : decode cX6_tell 28 = .ok (.iadd, 1) := dk_96 (dk_at dksX6_tell_1 4 rfl rfl)
theorem dX6_tell_29 : decode cX6_tell 29 = .ok (.putfield 351, 3) := dk_181 1 95 (dk_at dksX6_tell_1 5 rfl rfl)
theorem dX6_tell_32 : decode cX6_tell 32 = .ok (.aload_n 0, 1) := dk_42 (dk_at dksX6_tell_1 8 rfl rfl)
theorem dX6_tell_33 : decode cX6_tell 33 = .ok (.getfield 351, 3) := dk_180 1 95 (dk_at dksX6_tell_1 9 rfl rfl)
theorem dX6_tell_36 : decode cX6_tell 36 = .ok (.ireturn, 1) := dk_172 (dk_at dksX6_tell_1 12 rfl rfl)
abbrev cX6_check : ByteArray := prog_19_method_102_code
def yX6_check : MethodName := ⟨RX6, "check", "(I)I"⟩
def dkwX6_check_8 : List UInt8 := [29, 28, 160, 0, 14, 29, 5, 27, 104, 160, 0, 7, 3, 167, 0, 6, 4, 29, 96, 172]
abbrev dktX6_check_8 : List UInt8 := dkwX6_check_8 ++ []
def dkwX6_check_7 : List UInt8 := [162, 0, 24, 42, 180, 0, 76, 29, 46, 42, 180, 0, 79, 29, 46, 160, 0, 9, 132, 3, 1, 167, 255, 226]
abbrev dktX6_check_7 : List UInt8 := dkwX6_check_7 ++ dktX6_check_8
def dkwX6_check_6 : List UInt8 := [42, 180, 0, 16, 42, 180, 0, 7, 182, 1, 104, 3, 62, 29, 28, 162, 0, 31, 29, 5, 27, 104]
abbrev dktX6_check_6 : List UInt8 := dkwX6_check_6 ++ dktX6_check_7
def dkwX6_check_5 : List UInt8 := [3, 96, 79, 42, 180, 0, 79, 5, 29, 104, 4, 96, 42, 182, 0, 132, 79, 132, 3, 1, 167, 255, 193, 42]
abbrev dktX6_check_5 : List UInt8 := dkwX6_check_5 ++ dktX6_check_6
def dkwX6_check_4 : List UInt8 := [180, 0, 79, 5, 29, 104, 16, 10, 21, 4, 104, 42, 21, 4, 182, 0, 187, 153, 0, 7, 4, 167, 0, 4]
abbrev dktX6_check_4 : List UInt8 := dkwX6_check_4 ++ dktX6_check_5
def dkwX6_check_3 : List UInt8 := [182, 0, 182, 3, 62, 29, 27, 162, 0, 64, 42, 182, 0, 155, 42, 180, 0, 7, 3, 46, 112, 54, 4, 42]
abbrev dktX6_check_3 : List UInt8 := dkwX6_check_3 ++ dktX6_check_4
def dkwX6_check_2 : List UInt8 := [180, 0, 7, 42, 180, 0, 16, 182, 1, 104, 42, 42, 180, 0, 13, 42, 180, 0, 7, 182, 1, 104, 42]
abbrev dktX6_check_2 : List UInt8 := dkwX6_check_2 ++ dktX6_check_3
def dkwX6_check_1 : List UInt8 := [172, 42, 180, 1, 100, 153, 0, 12, 42, 180, 0, 13, 3, 46, 154, 0, 6, 18, 194, 172, 42, 42]
abbrev dktX6_check_1 : List UInt8 := dkwX6_check_1 ++ dktX6_check_2
def dkwX6_check_0 : List UInt8 := [42, 180, 1, 95, 61, 42, 3, 181, 1, 95, 27, 133, 10, 20, 1, 98, 184, 0, 83, 154, 0, 6, 18, 120]
abbrev dktX6_check_0 : List UInt8 := dkwX6_check_0 ++ dktX6_check_1
theorem dksX6_check_0 : cX6_check.data.toList.drop 0 = dktX6_check_0 := by decide +kernel
theorem dksX6_check_1 : cX6_check.data.toList.drop 24 = dktX6_check_1 := dk_seg dksX6_check_0 24 rfl rfl
theorem dksX6_check_2 : cX6_check.data.toList.drop 46 = dktX6_check_2 := dk_seg dksX6_check_1 22 rfl rfl
theorem dksX6_check_3 : cX6_check.data.toList.drop 69 = dktX6_check_3 := dk_seg dksX6_check_2 23 rfl rfl
theorem dksX6_check_4 : cX6_check.data.toList.drop 93 = dktX6_check_4 := dk_seg dksX6_check_3 24 rfl rfl
theorem dksX6_check_5 : cX6_check.data.toList.drop 117 = dktX6_check_5 := dk_seg dksX6_check_4 24 rfl rfl
theorem dksX6_check_6 : cX6_check.data.toList.drop 141 = dktX6_check_6 := dk_seg dksX6_check_5 24 rfl rfl
theorem dksX6_check_7 : cX6_check.data.toList.drop 163 = dktX6_check_7 := dk_seg dksX6_check_6 22 rfl rfl
theorem dksX6_check_8 : cX6_check.data.toList.drop 187 = dktX6_check_8 := dk_seg dksX6_check_7 24 rfl rfl
theorem dX6_check_0 : decode cX6_check 0 = .ok (.aload_n 0, 1) := dk_42 (dk_at dksX6_check_0 0 rfl rfl)
theorem dX6_check_1 : decode cX6_check 1 = .ok (.getfield 351, 3) := dk_180 1 95 (dk_at dksX6_check_0 1 rfl rfl)
theorem dX6_check_4 : decode cX6_check 4 = .ok (.istore_n 2, 1) := dk_61 (dk_at dksX6_check_0 4 rfl rfl)
theorem dX6_check_5 : decode cX6_check 5 = .ok (.aload_n 0, 1) := dk_42 (dk_at dksX6_check_0 5 rfl rfl)
theorem dX6_check_6 : decode cX6_check 6 = .ok (.iconst 0, 1) := dk_3 (dk_at dksX6_check_0 6 rfl rfl)
theorem dX6_check_7 : decode cX6_check 7 = .ok (.putfield 351, 3) := dk_181 1 95 (dk_at dksX6_check_0 7 rfl rfl)
theorem dX6_check_10 : decode cX6_check 10 = .ok (.iload_n 1, 1) := dk_27 (dk_at dksX6_check_0 10 rfl rfl)
theorem dX6_check_11 : decode cX6_check 11 = .ok (.i2l, 1) := dk_133 (dk_at dksX6_check_0 11 rfl rfl)
theorem dX6_check_12 : decode cX6_check 12 = .ok (.lconst 1, 1) := dk_10 (dk_at dksX6_check_0 12 rfl rfl)
theorem dX6_check_13 : decode cX6_check 13 = .ok (.ldc2_w 354, 3) := dk_20 1 98 (dk_at dksX6_check_0 13 rfl rfl)
theorem dX6_check_16 : decode cX6_check 16 = .ok (.invokestatic 83, 3) := dk_184 0 83 (dk_at dksX6_check_0 16 rfl rfl)
theorem dX6_check_19 : decode cX6_check 19 = .ok (.ifCond .ne 6, 3) := dk_154 0 6 (dk_at dksX6_check_0 19 rfl rfl)
theorem dX6_check_22 : decode cX6_check 22 = .ok (.ldc 120, 2) := dk_18 120 (dk_at dksX6_check_0 22 rfl rfl)
theorem dX6_check_24 : decode cX6_check 24 = .ok (.ireturn, 1) := dk_172 (dk_at dksX6_check_1 0 rfl rfl)
theorem dX6_check_25 : decode cX6_check 25 = .ok (.aload_n 0, 1) := dk_42 (dk_at dksX6_check_1 1 rfl rfl)
theorem dX6_check_26 : decode cX6_check 26 = .ok (.getfield 356, 3) := dk_180 1 100 (dk_at dksX6_check_1 2 rfl rfl)
theorem dX6_check_29 : decode cX6_check 29 = .ok (.ifCond .eq 12, 3) := dk_153 0 12 (dk_at dksX6_check_1 5 rfl rfl)
theorem dX6_check_32 : decode cX6_check 32 = .ok (.aload_n 0, 1) := dk_42 (dk_at dksX6_check_1 8 rfl rfl)
theorem dX6_check_33 : decode cX6_check 33 = .ok (.getfield 13, 3) := dk_180 0 13 (dk_at dksX6_check_1 9 rfl rfl)
theorem dX6_check_36 : decode cX6_check 36 = .ok (.iconst 0, 1) := dk_3 (dk_at dksX6_check_1 12 rfl rfl)
theorem dX6_check_37 : decode cX6_check 37 = .ok (.iaload, 1) := dk_46 (dk_at dksX6_check_1 13 rfl rfl)
theorem dX6_check_38 : decode cX6_check 38 = .ok (.ifCond .ne 6, 3) := dk_154 0 6 (dk_at dksX6_check_1 14 rfl rfl)
theorem dX6_check_41 : decode cX6_check 41 = .ok (.ldc 194, 2) := dk_18 194 (dk_at dksX6_check_1 17 rfl rfl)
theorem dX6_check_43 : decode cX6_check 43 = .ok (.ireturn, 1) := dk_172 (dk_at dksX6_check_1 19 rfl rfl)
theorem dX6_check_44 : decode cX6_check 44 = .ok (.aload_n 0, 1) := dk_42 (dk_at dksX6_check_1 20 rfl rfl)
theorem dX6_check_45 : decode cX6_check 45 = .ok (.aload_n 0, 1) := dk_42 (dk_at dksX6_check_1 21 rfl rfl)
theorem dX6_check_46 : decode cX6_check 46 = .ok (.getfield 7, 3) := dk_180 0 7 (dk_at dksX6_check_2 0 rfl rfl)
theorem dX6_check_49 : decode cX6_check 49 = .ok (.aload_n 0, 1) := dk_42 (dk_at dksX6_check_2 3 rfl rfl)
theorem dX6_check_50 : decode cX6_check 50 = .ok (.getfield 16, 3) := dk_180 0 16 (dk_at dksX6_check_2 4 rfl rfl)
theorem dX6_check_53 : decode cX6_check 53 = .ok (.invokevirtual 360, 3) := dk_182 1 104 (dk_at dksX6_check_2 7 rfl rfl)
theorem dX6_check_56 : decode cX6_check 56 = .ok (.aload_n 0, 1) := dk_42 (dk_at dksX6_check_2 10 rfl rfl)
theorem dX6_check_57 : decode cX6_check 57 = .ok (.aload_n 0, 1) := dk_42 (dk_at dksX6_check_2 11 rfl rfl)
theorem dX6_check_58 : decode cX6_check 58 = .ok (.getfield 13, 3) := dk_180 0 13 (dk_at dksX6_check_2 12 rfl rfl)
theorem dX6_check_61 : decode cX6_check 61 = .ok (.aload_n 0, 1) := dk_42 (dk_at dksX6_check_2 15 rfl rfl)
theorem dX6_check_62 : decode cX6_check 62 = .ok (.getfield 7, 3) := dk_180 0 7 (dk_at dksX6_check_2 16 rfl rfl)
theorem dX6_check_65 : decode cX6_check 65 = .ok (.invokevirtual 360, 3) := dk_182 1 104 (dk_at dksX6_check_2 19 rfl rfl)
theorem dX6_check_68 : decode cX6_check 68 = .ok (.aload_n 0, 1) := dk_42 (dk_at dksX6_check_2 22 rfl rfl)
theorem dX6_check_69 : decode cX6_check 69 = .ok (.invokevirtual 182, 3) := dk_182 0 182 (dk_at dksX6_check_3 0 rfl rfl)
theorem dX6_check_72 : decode cX6_check 72 = .ok (.iconst 0, 1) := dk_3 (dk_at dksX6_check_3 3 rfl rfl)
theorem dX6_check_73 : decode cX6_check 73 = .ok (.istore_n 3, 1) := dk_62 (dk_at dksX6_check_3 4 rfl rfl)
theorem dX6_check_74 : decode cX6_check 74 = .ok (.iload_n 3, 1) := dk_29 (dk_at dksX6_check_3 5 rfl rfl)
theorem dX6_check_75 : decode cX6_check 75 = .ok (.iload_n 1, 1) := dk_27 (dk_at dksX6_check_3 6 rfl rfl)
theorem dX6_check_76 : decode cX6_check 76 = .ok (.if_icmp .ge 64, 3) := dk_162 0 64 (dk_at dksX6_check_3 7 rfl rfl)
theorem dX6_check_79 : decode cX6_check 79 = .ok (.aload_n 0, 1) := dk_42 (dk_at dksX6_check_3 10 rfl rfl)
theorem dX6_check_80 : decode cX6_check 80 = .ok (.invokevirtual 155, 3) := dk_182 0 155 (dk_at dksX6_check_3 11 rfl rfl)
theorem dX6_check_83 : decode cX6_check 83 = .ok (.aload_n 0, 1) := dk_42 (dk_at dksX6_check_3 14 rfl rfl)
theorem dX6_check_84 : decode cX6_check 84 = .ok (.getfield 7, 3) := dk_180 0 7 (dk_at dksX6_check_3 15 rfl rfl)
theorem dX6_check_87 : decode cX6_check 87 = .ok (.iconst 0, 1) := dk_3 (dk_at dksX6_check_3 18 rfl rfl)
theorem dX6_check_88 : decode cX6_check 88 = .ok (.iaload, 1) := dk_46 (dk_at dksX6_check_3 19 rfl rfl)
theorem dX6_check_89 : decode cX6_check 89 = .ok (.irem, 1) := dk_112 (dk_at dksX6_check_3 20 rfl rfl)
theorem dX6_check_90 : decode cX6_check 90 = .ok (.istore 4, 2) := dk_54 4 (dk_at dksX6_check_3 21 rfl rfl)
theorem dX6_check_92 : decode cX6_check 92 = .ok (.aload_n 0, 1) := dk_42 (dk_at dksX6_check_3 23 rfl rfl)
theorem dX6_check_93 : decode cX6_check 93 = .ok (.getfield 79, 3) := dk_180 0 79 (dk_at dksX6_check_4 0 rfl rfl)
theorem dX6_check_96 : decode cX6_check 96 = .ok (.iconst 2, 1) := dk_5 (dk_at dksX6_check_4 3 rfl rfl)
theorem dX6_check_97 : decode cX6_check 97 = .ok (.iload_n 3, 1) := dk_29 (dk_at dksX6_check_4 4 rfl rfl)
theorem dX6_check_98 : decode cX6_check 98 = .ok (.imul, 1) := dk_104 (dk_at dksX6_check_4 5 rfl rfl)
theorem dX6_check_99 : decode cX6_check 99 = .ok (.bipush 10, 2) := dk_16 10 (dk_at dksX6_check_4 6 rfl rfl)
theorem dX6_check_101 : decode cX6_check 101 = .ok (.iload 4, 2) := dk_21 4 (dk_at dksX6_check_4 8 rfl rfl)
theorem dX6_check_103 : decode cX6_check 103 = .ok (.imul, 1) := dk_104 (dk_at dksX6_check_4 10 rfl rfl)
theorem dX6_check_104 : decode cX6_check 104 = .ok (.aload_n 0, 1) := dk_42 (dk_at dksX6_check_4 11 rfl rfl)
theorem dX6_check_105 : decode cX6_check 105 = .ok (.iload 4, 2) := dk_21 4 (dk_at dksX6_check_4 12 rfl rfl)
theorem dX6_check_107 : decode cX6_check 107 = .ok (.invokevirtual 187, 3) := dk_182 0 187 (dk_at dksX6_check_4 14 rfl rfl)
theorem dX6_check_110 : decode cX6_check 110 = .ok (.ifCond .eq 7, 3) := dk_153 0 7 (dk_at dksX6_check_4 17 rfl rfl)
theorem dX6_check_113 : decode cX6_check 113 = .ok (.iconst 1, 1) := dk_4 (dk_at dksX6_check_4 20 rfl rfl)
theorem dX6_check_114 : decode cX6_check 114 = .ok (.goto 4, 3) := dk_167 0 4 (dk_at dksX6_check_4 21 rfl rfl)
theorem dX6_check_117 : decode cX6_check 117 = .ok (.iconst 0, 1) := dk_3 (dk_at dksX6_check_5 0 rfl rfl)
theorem dX6_check_118 : decode cX6_check 118 = .ok (.iadd, 1) := dk_96 (dk_at dksX6_check_5 1 rfl rfl)
theorem dX6_check_119 : decode cX6_check 119 = .ok (.iastore, 1) := dk_79 (dk_at dksX6_check_5 2 rfl rfl)
theorem dX6_check_120 : decode cX6_check 120 = .ok (.aload_n 0, 1) := dk_42 (dk_at dksX6_check_5 3 rfl rfl)
theorem dX6_check_121 : decode cX6_check 121 = .ok (.getfield 79, 3) := dk_180 0 79 (dk_at dksX6_check_5 4 rfl rfl)
theorem dX6_check_124 : decode cX6_check 124 = .ok (.iconst 2, 1) := dk_5 (dk_at dksX6_check_5 7 rfl rfl)
theorem dX6_check_125 : decode cX6_check 125 = .ok (.iload_n 3, 1) := dk_29 (dk_at dksX6_check_5 8 rfl rfl)
theorem dX6_check_126 : decode cX6_check 126 = .ok (.imul, 1) := dk_104 (dk_at dksX6_check_5 9 rfl rfl)
theorem dX6_check_127 : decode cX6_check 127 = .ok (.iconst 1, 1) := dk_4 (dk_at dksX6_check_5 10 rfl rfl)
theorem dX6_check_128 : decode cX6_check 128 = .ok (.iadd, 1) := dk_96 (dk_at dksX6_check_5 11 rfl rfl)
theorem dX6_check_129 : decode cX6_check 129 = .ok (.aload_n 0, 1) := dk_42 (dk_at dksX6_check_5 12 rfl rfl)
theorem dX6_check_130 : decode cX6_check 130 = .ok (.invokevirtual 132, 3) := dk_182 0 132 (dk_at dksX6_check_5 13 rfl rfl)
theorem dX6_check_133 : decode cX6_check 133 = .ok (.iastore, 1) := dk_79 (dk_at dksX6_check_5 16 rfl rfl)
theorem dX6_check_134 : decode cX6_check 134 = .ok (.iinc 3 1, 3) := dk_132 3 1 (dk_at dksX6_check_5 17 rfl rfl)
theorem dX6_check_137 : decode cX6_check 137 = .ok (.goto (-63), 3) := dk_167 255 193 (dk_at dksX6_check_5 20 rfl rfl)
theorem dX6_check_140 : decode cX6_check 140 = .ok (.aload_n 0, 1) := dk_42 (dk_at dksX6_check_5 23 rfl rfl)
theorem dX6_check_141 : decode cX6_check 141 = .ok (.aload_n 0, 1) := dk_42 (dk_at dksX6_check_6 0 rfl rfl)
theorem dX6_check_142 : decode cX6_check 142 = .ok (.getfield 16, 3) := dk_180 0 16 (dk_at dksX6_check_6 1 rfl rfl)
theorem dX6_check_145 : decode cX6_check 145 = .ok (.aload_n 0, 1) := dk_42 (dk_at dksX6_check_6 4 rfl rfl)
theorem dX6_check_146 : decode cX6_check 146 = .ok (.getfield 7, 3) := dk_180 0 7 (dk_at dksX6_check_6 5 rfl rfl)
theorem dX6_check_149 : decode cX6_check 149 = .ok (.invokevirtual 360, 3) := dk_182 1 104 (dk_at dksX6_check_6 8 rfl rfl)
theorem dX6_check_152 : decode cX6_check 152 = .ok (.iconst 0, 1) := dk_3 (dk_at dksX6_check_6 11 rfl rfl)
theorem dX6_check_153 : decode cX6_check 153 = .ok (.istore_n 3, 1) := dk_62 (dk_at dksX6_check_6 12 rfl rfl)
theorem dX6_check_154 : decode cX6_check 154 = .ok (.iload_n 3, 1) := dk_29 (dk_at dksX6_check_6 13 rfl rfl)
theorem dX6_check_155 : decode cX6_check 155 = .ok (.iload_n 2, 1) := dk_28 (dk_at dksX6_check_6 14 rfl rfl)
theorem dX6_check_156 : decode cX6_check 156 = .ok (.if_icmp .ge 31, 3) := dk_162 0 31 (dk_at dksX6_check_6 15 rfl rfl)
theorem dX6_check_159 : decode cX6_check 159 = .ok (.iload_n 3, 1) := dk_29 (dk_at dksX6_check_6 18 rfl rfl)
theorem dX6_check_160 : decode cX6_check 160 = .ok (.iconst 2, 1) := dk_5 (dk_at dksX6_check_6 19 rfl rfl)
theorem dX6_check_161 : decode cX6_check 161 = .ok (.iload_n 1, 1) := dk_27 (dk_at dksX6_check_6 20 rfl rfl)
theorem dX6_check_162 : decode cX6_check 162 = .ok (.imul, 1) := dk_104 (dk_at dksX6_check_6 21 rfl rfl)
theorem dX6_check_163 : decode cX6_check 163 = .ok (.if_icmp .ge 24, 3) := dk_162 0 24 (dk_at dksX6_check_7 0 rfl rfl)
theorem dX6_check_166 : decode cX6_check 166 = .ok (.aload_n 0, 1) := dk_42 (dk_at dksX6_check_7 3 rfl rfl)
theorem dX6_check_167 : decode cX6_check 167 = .ok (.getfield 76, 3) := dk_180 0 76 (dk_at dksX6_check_7 4 rfl rfl)
theorem dX6_check_170 : decode cX6_check 170 = .ok (.iload_n 3, 1) := dk_29 (dk_at dksX6_check_7 7 rfl rfl)
theorem dX6_check_171 : decode cX6_check 171 = .ok (.iaload, 1) := dk_46 (dk_at dksX6_check_7 8 rfl rfl)
theorem dX6_check_172 : decode cX6_check 172 = .ok (.aload_n 0, 1) := dk_42 (dk_at dksX6_check_7 9 rfl rfl)
theorem dX6_check_173 : decode cX6_check 173 = .ok (.getfield 79, 3) := dk_180 0 79 (dk_at dksX6_check_7 10 rfl rfl)
theorem dX6_check_176 : decode cX6_check 176 = .ok (.iload_n 3, 1) := dk_29 (dk_at dksX6_check_7 13 rfl rfl)
theorem dX6_check_177 : decode cX6_check 177 = .ok (.iaload, 1) := dk_46 (dk_at dksX6_check_7 14 rfl rfl)
theorem dX6_check_178 : decode cX6_check 178 = .ok (.if_icmp .ne 9, 3) := dk_160 0 9 (dk_at dksX6_check_7 15 rfl rfl)
theorem dX6_check_181 : decode cX6_check 181 = .ok (.iinc 3 1, 3) := dk_132 3 1 (dk_at dksX6_check_7 18 rfl rfl)
theorem dX6_check_184 : decode cX6_check 184 = .ok (.goto (-30), 3) := dk_167 255 226 (dk_at dksX6_check_7 21 rfl rfl)
theorem dX6_check_187 : decode cX6_check 187 = .ok (.iload_n 3, 1) := dk_29 (dk_at dksX6_check_8 0 rfl rfl)
theorem dX6_check_188 : decode cX6_check 188 = .ok (.iload_n 2, 1) := dk_28 (dk_at dksX6_check_8 1 rfl rfl)
theorem dX6_check_189 : decode cX6_check 189 = .ok (.if_icmp .ne 14, 3) := dk_160 0 14 (dk_at dksX6_check_8 2 rfl rfl)
theorem dX6_check_192 : decode cX6_check 192 = .ok (.iload_n 3, 1) := dk_29 (dk_at dksX6_check_8 5 rfl rfl)
theorem dX6_check_193 : decode cX6_check 193 = .ok (.iconst 2, 1) := dk_5 (dk_at dksX6_check_8 6 rfl rfl)
theorem dX6_check_194 : decode cX6_check 194 = .ok (.iload_n 1, 1) := dk_27 (dk_at dksX6_check_8 7 rfl rfl)
theorem dX6_check_195 : decode cX6_check 195 = .ok (.imul, 1) := dk_104 (dk_at dksX6_check_8 8 rfl rfl)
theorem dX6_check_196 : decode cX6_check 196 = .ok (.if_icmp .ne 7, 3) := dk_160 0 7 (dk_at dksX6_check_8 9 rfl rfl)
theorem dX6_check_199 : decode cX6_check 199 = .ok (.iconst 0, 1) := dk_3 (dk_at dksX6_check_8 12 rfl rfl)
theorem dX6_check_200 : decode cX6_check 200 = .ok (.goto 6, 3) := dk_167 0 6 (dk_at dksX6_check_8 13 rfl rfl)
theorem dX6_check_203 : decode cX6_check 203 = .ok (.iconst 1, 1) := dk_4 (dk_at dksX6_check_8 16 rfl rfl)
theorem dX6_check_204 : decode cX6_check 204 = .ok (.iload_n 3, 1) := dk_29 (dk_at dksX6_check_8 17 rfl rfl)
theorem dX6_check_205 : decode cX6_check 205 = .ok (.iadd, 1) := dk_96 (dk_at dksX6_check_8 18 rfl rfl)
theorem dX6_check_206 : decode cX6_check 206 = .ok (.ireturn, 1) := dk_172 (dk_at dksX6_check_8 19 rfl rfl)
abbrev cX6_setAside : ByteArray := prog_19_method_101_code
def yX6_setAside : MethodName := ⟨RX6, "setAside", "([I[I)V"⟩
def dkwX6_setAside_0 : List UInt8 := [3, 62, 29, 17, 11, 82, 162, 0, 15, 44, 29, 43, 29, 46, 79, 132, 3, 1, 167, 255, 240, 177]
abbrev dktX6_setAside_0 : List UInt8 := dkwX6_setAside_0 ++ []
theorem dksX6_setAside_0 : cX6_setAside.data.toList.drop 0 = dktX6_setAside_0 := by decide +kernel
theorem dX6_setAside_0 : decode cX6_setAside 0 = .ok (.iconst 0, 1) := dk_3 (dk_at dksX6_setAside_0 0 rfl rfl)
theorem dX6_setAside_1 : decode cX6_setAside 1 = .ok (.istore_n 3, 1) := dk_62 (dk_at dksX6_setAside_0 1 rfl rfl)
theorem dX6_setAside_2 : decode cX6_setAside 2 = .ok (.iload_n 3, 1) := dk_29 (dk_at dksX6_setAside_0 2 rfl rfl)
theorem dX6_setAside_3 : decode cX6_setAside 3 = .ok (.sipush 2898, 3) := dk_17 11 82 (dk_at dksX6_setAside_0 3 rfl rfl)
theorem dX6_setAside_6 : decode cX6_setAside 6 = .ok (.if_icmp .ge 15, 3) := dk_162 0 15 (dk_at dksX6_setAside_0 6 rfl rfl)
theorem dX6_setAside_9 : decode cX6_setAside 9 = .ok (.aload_n 2, 1) := dk_44 (dk_at dksX6_setAside_0 9 rfl rfl)
theorem dX6_setAside_10 : decode cX6_setAside 10 = .ok (.iload_n 3, 1) := dk_29 (dk_at dksX6_setAside_0 10 rfl rfl)
theorem dX6_setAside_11 : decode cX6_setAside 11 = .ok (.aload_n 1, 1) := dk_43 (dk_at dksX6_setAside_0 11 rfl rfl)
theorem dX6_setAside_12 : decode cX6_setAside 12 = .ok (.iload_n 3, 1) := dk_29 (dk_at dksX6_setAside_0 12 rfl rfl)
theorem dX6_setAside_13 : decode cX6_setAside 13 = .ok (.iaload, 1) := dk_46 (dk_at dksX6_setAside_0 13 rfl rfl)
theorem dX6_setAside_14 : decode cX6_setAside 14 = .ok (.iastore, 1) := dk_79 (dk_at dksX6_setAside_0 14 rfl rfl)
theorem dX6_setAside_15 : decode cX6_setAside 15 = .ok (.iinc 3 1, 3) := dk_132 3 1 (dk_at dksX6_setAside_0 15 rfl rfl)
theorem dX6_setAside_18 : decode cX6_setAside 18 = .ok (.goto (-16), 3) := dk_167 255 240 (dk_at dksX6_setAside_0 18 rfl rfl)
theorem dX6_setAside_21 : decode cX6_setAside 21 = .ok (.return_, 1) := dk_177 (dk_at dksX6_setAside_0 21 rfl rfl)
abbrev cX6_keep : ByteArray := prog_19_method_103_code
def yX6_keep : MethodName := ⟨RX6, "keep", "()I"⟩
def dkwX6_keep_0 : List UInt8 := [42, 4, 181, 1, 100, 42, 42, 180, 0, 7, 42, 180, 0, 13, 182, 1, 104, 42, 180, 0, 7, 3, 46, 172]
abbrev dktX6_keep_0 : List UInt8 := dkwX6_keep_0 ++ []
theorem dksX6_keep_0 : cX6_keep.data.toList.drop 0 = dktX6_keep_0 := by decide +kernel
theorem dX6_keep_0 : decode cX6_keep 0 = .ok (.aload_n 0, 1) := dk_42 (dk_at dksX6_keep_0 0 rfl rfl)
theorem dX6_keep_1 : decode cX6_keep 1 = .ok (.iconst 1, 1) := dk_4 (dk_at dksX6_keep_0 1 rfl rfl)
theorem dX6_keep_2 : decode cX6_keep 2 = .ok (.putfield 356, 3) := dk_181 1 100 (dk_at dksX6_keep_0 2 rfl rfl)
theorem dX6_keep_5 : decode cX6_keep 5 = .ok (.aload_n 0, 1) := dk_42 (dk_at dksX6_keep_0 5 rfl rfl)
theorem dX6_keep_6 : decode cX6_keep 6 = .ok (.aload_n 0, 1) := dk_42 (dk_at dksX6_keep_0 6 rfl rfl)
theorem dX6_keep_7 : decode cX6_keep 7 = .ok (.getfield 7, 3) := dk_180 0 7 (dk_at dksX6_keep_0 7 rfl rfl)
theorem dX6_keep_10 : decode cX6_keep 10 = .ok (.aload_n 0, 1) := dk_42 (dk_at dksX6_keep_0 10 rfl rfl)
theorem dX6_keep_11 : decode cX6_keep 11 = .ok (.getfield 13, 3) := dk_180 0 13 (dk_at dksX6_keep_0 11 rfl rfl)
theorem dX6_keep_14 : decode cX6_keep 14 = .ok (.invokevirtual 360, 3) := dk_182 1 104 (dk_at dksX6_keep_0 14 rfl rfl)
theorem dX6_keep_17 : decode cX6_keep 17 = .ok (.aload_n 0, 1) := dk_42 (dk_at dksX6_keep_0 17 rfl rfl)
theorem dX6_keep_18 : decode cX6_keep 18 = .ok (.getfield 7, 3) := dk_180 0 7 (dk_at dksX6_keep_0 18 rfl rfl)
theorem dX6_keep_21 : decode cX6_keep 21 = .ok (.iconst 0, 1) := dk_3 (dk_at dksX6_keep_0 21 rfl rfl)
theorem dX6_keep_22 : decode cX6_keep 22 = .ok (.iaload, 1) := dk_46 (dk_at dksX6_keep_0 22 rfl rfl)
theorem dX6_keep_23 : decode cX6_keep 23 = .ok (.ireturn, 1) := dk_172 (dk_at dksX6_keep_0 23 rfl rfl)
abbrev cX6_back : ByteArray := prog_19_method_104_code
def yX6_back : MethodName := ⟨RX6, "back", "()I"⟩
def dkwX6_back_1 : List UInt8 := [180, 0, 7, 3, 46, 172]
abbrev dktX6_back_1 : List UInt8 := dkwX6_back_1 ++ []
def dkwX6_back_0 : List UInt8 := [42, 180, 1, 100, 154, 0, 6, 18, 194, 172, 42, 42, 180, 0, 13, 42, 180, 0, 7, 182, 1, 104, 42]
abbrev dktX6_back_0 : List UInt8 := dkwX6_back_0 ++ dktX6_back_1
theorem dksX6_back_0 : cX6_back.data.toList.drop 0 = dktX6_back_0 := by decide +kernel
theorem dksX6_back_1 : cX6_back.data.toList.drop 23 = dktX6_back_1 := dk_seg dksX6_back_0 23 rfl rfl
theorem dX6_back_0 : decode cX6_back 0 = .ok (.aload_n 0, 1) := dk_42 (dk_at dksX6_back_0 0 rfl rfl)
theorem dX6_back_1 : decode cX6_back 1 = .ok (.getfield 356, 3) := dk_180 1 100 (dk_at dksX6_back_0 1 rfl rfl)
theorem dX6_back_4 : decode cX6_back 4 = .ok (.ifCond .ne 6, 3) := dk_154 0 6 (dk_at dksX6_back_0 4 rfl rfl)
theorem dX6_back_7 : decode cX6_back 7 = .ok (.ldc 194, 2) := dk_18 194 (dk_at dksX6_back_0 7 rfl rfl)
theorem dX6_back_9 : decode cX6_back 9 = .ok (.ireturn, 1) := dk_172 (dk_at dksX6_back_0 9 rfl rfl)
theorem dX6_back_10 : decode cX6_back 10 = .ok (.aload_n 0, 1) := dk_42 (dk_at dksX6_back_0 10 rfl rfl)
theorem dX6_back_11 : decode cX6_back 11 = .ok (.aload_n 0, 1) := dk_42 (dk_at dksX6_back_0 11 rfl rfl)
theorem dX6_back_12 : decode cX6_back 12 = .ok (.getfield 13, 3) := dk_180 0 13 (dk_at dksX6_back_0 12 rfl rfl)
theorem dX6_back_15 : decode cX6_back 15 = .ok (.aload_n 0, 1) := dk_42 (dk_at dksX6_back_0 15 rfl rfl)
theorem dX6_back_16 : decode cX6_back 16 = .ok (.getfield 7, 3) := dk_180 0 7 (dk_at dksX6_back_0 16 rfl rfl)
theorem dX6_back_19 : decode cX6_back 19 = .ok (.invokevirtual 360, 3) := dk_182 1 104 (dk_at dksX6_back_0 19 rfl rfl)
theorem dX6_back_22 : decode cX6_back 22 = .ok (.aload_n 0, 1) := dk_42 (dk_at dksX6_back_0 22 rfl rfl)
theorem dX6_back_23 : decode cX6_back 23 = .ok (.getfield 7, 3) := dk_180 0 7 (dk_at dksX6_back_1 0 rfl rfl)
theorem dX6_back_26 : decode cX6_back 26 = .ok (.iconst 0, 1) := dk_3 (dk_at dksX6_back_1 3 rfl rfl)
theorem dX6_back_27 : decode cX6_back 27 = .ok (.iaload, 1) := dk_46 (dk_at dksX6_back_1 4 rfl rfl)
theorem dX6_back_28 : decode cX6_back 28 = .ok (.ireturn, 1) := dk_172 (dk_at dksX6_back_1 5 rfl rfl)
abbrev cX6_count : ByteArray := prog_19_method_105_code
def yX6_count : MethodName := ⟨RX6, "count", "(I)I"⟩
def dkwX6_count_6 : List UInt8 := [46, 172, 18, 120, 172]
abbrev dktX6_count_6 : List UInt8 := dkwX6_count_6 ++ []
def dkwX6_count_5 : List UInt8 := [172, 42, 180, 0, 7, 4, 46, 172, 42, 180, 1, 95, 172, 42, 180, 0, 235, 172, 42, 180, 0, 7, 16, 9]
abbrev dktX6_count_5 : List UInt8 := dkwX6_count_5 ++ dktX6_count_6
def dkwX6_count_4 : List UInt8 := [172, 42, 180, 0, 7, 16, 6, 46, 172, 42, 180, 0, 7, 16, 7, 46, 172, 42, 180, 0, 7, 16, 8, 46]
abbrev dktX6_count_4 : List UInt8 := dkwX6_count_4 ++ dktX6_count_5
def dkwX6_count_3 : List UInt8 := [182, 0, 167, 172, 42, 180, 0, 7, 6, 46, 172, 42, 180, 0, 7, 7, 46, 172, 42, 180, 0, 7, 8, 46]
abbrev dktX6_count_3 : List UInt8 := dkwX6_count_3 ++ dktX6_count_4
def dkwX6_count_2 : List UInt8 := [42, 180, 0, 7, 3, 46, 172, 42, 180, 0, 7, 5, 46, 172, 42, 182, 0, 132, 172, 42, 182, 0, 182, 42]
abbrev dktX6_count_2 : List UInt8 := dkwX6_count_2 ++ dktX6_count_3
def dkwX6_count_1 : List UInt8 := [170, 0, 0, 0, 0, 0, 169, 0, 0, 0, 0, 0, 0, 0, 13, 0, 0, 0, 71, 0, 0, 0, 78, 0, 0, 0, 85, 0, 0, 0, 90, 0, 0, 0, 99, 0, 0, 0, 106, 0, 0, 0, 113, 0, 0, 0, 120, 0, 0, 0, 128, 0, 0, 0, 136, 0, 0, 0, 144, 0, 0, 0, 151, 0, 0, 0, 156, 0, 0, 0, 161]
abbrev dktX6_count_1 : List UInt8 := dkwX6_count_1 ++ dktX6_count_2
def dkwX6_count_0 : List UInt8 := [27]
abbrev dktX6_count_0 : List UInt8 := dkwX6_count_0 ++ dktX6_count_1
theorem dksX6_count_0 : cX6_count.data.toList.drop 0 = dktX6_count_0 := by decide +kernel
theorem dksX6_count_1 : cX6_count.data.toList.drop 1 = dktX6_count_1 := dk_seg dksX6_count_0 1 rfl rfl
theorem dksX6_count_2 : cX6_count.data.toList.drop 72 = dktX6_count_2 := dk_seg dksX6_count_1 71 rfl rfl
theorem dksX6_count_3 : cX6_count.data.toList.drop 96 = dktX6_count_3 := dk_seg dksX6_count_2 24 rfl rfl
theorem dksX6_count_4 : cX6_count.data.toList.drop 120 = dktX6_count_4 := dk_seg dksX6_count_3 24 rfl rfl
theorem dksX6_count_5 : cX6_count.data.toList.drop 144 = dktX6_count_5 := dk_seg dksX6_count_4 24 rfl rfl
theorem dksX6_count_6 : cX6_count.data.toList.drop 168 = dktX6_count_6 := dk_seg dksX6_count_5 24 rfl rfl
theorem dX6_count_0 : decode cX6_count 0 = .ok (.iload_n 1, 1) := dk_27 (dk_at dksX6_count_0 0 rfl rfl)
theorem dX6_count_1 : decode cX6_count 1 = .ok (.tableswitch 169 0 13 #[71, 78, 85, 90, 99, 106, 113, 120, 128, 136, 144, 151, 156, 161], 71) := by decide +kernel
theorem dX6_count_72 : decode cX6_count 72 = .ok (.aload_n 0, 1) := dk_42 (dk_at dksX6_count_2 0 rfl rfl)
theorem dX6_count_73 : decode cX6_count 73 = .ok (.getfield 7, 3) := dk_180 0 7 (dk_at dksX6_count_2 1 rfl rfl)
theorem dX6_count_76 : decode cX6_count 76 = .ok (.iconst 0, 1) := dk_3 (dk_at dksX6_count_2 4 rfl rfl)
theorem dX6_count_77 : decode cX6_count 77 = .ok (.iaload, 1) := dk_46 (dk_at dksX6_count_2 5 rfl rfl)
theorem dX6_count_78 : decode cX6_count 78 = .ok (.ireturn, 1) := dk_172 (dk_at dksX6_count_2 6 rfl rfl)
theorem dX6_count_79 : decode cX6_count 79 = .ok (.aload_n 0, 1) := dk_42 (dk_at dksX6_count_2 7 rfl rfl)
theorem dX6_count_80 : decode cX6_count 80 = .ok (.getfield 7, 3) := dk_180 0 7 (dk_at dksX6_count_2 8 rfl rfl)
theorem dX6_count_83 : decode cX6_count 83 = .ok (.iconst 2, 1) := dk_5 (dk_at dksX6_count_2 11 rfl rfl)
theorem dX6_count_84 : decode cX6_count 84 = .ok (.iaload, 1) := dk_46 (dk_at dksX6_count_2 12 rfl rfl)
theorem dX6_count_85 : decode cX6_count 85 = .ok (.ireturn, 1) := dk_172 (dk_at dksX6_count_2 13 rfl rfl)
theorem dX6_count_86 : decode cX6_count 86 = .ok (.aload_n 0, 1) := dk_42 (dk_at dksX6_count_2 14 rfl rfl)
theorem dX6_count_87 : decode cX6_count 87 = .ok (.invokevirtual 132, 3) := dk_182 0 132 (dk_at dksX6_count_2 15 rfl rfl)
theorem dX6_count_90 : decode cX6_count 90 = .ok (.ireturn, 1) := dk_172 (dk_at dksX6_count_2 18 rfl rfl)
theorem dX6_count_91 : decode cX6_count 91 = .ok (.aload_n 0, 1) := dk_42 (dk_at dksX6_count_2 19 rfl rfl)
theorem dX6_count_92 : decode cX6_count 92 = .ok (.invokevirtual 182, 3) := dk_182 0 182 (dk_at dksX6_count_2 20 rfl rfl)
theorem dX6_count_95 : decode cX6_count 95 = .ok (.aload_n 0, 1) := dk_42 (dk_at dksX6_count_2 23 rfl rfl)
theorem dX6_count_96 : decode cX6_count 96 = .ok (.invokevirtual 167, 3) := dk_182 0 167 (dk_at dksX6_count_3 0 rfl rfl)
theorem dX6_count_99 : decode cX6_count 99 = .ok (.ireturn, 1) := dk_172 (dk_at dksX6_count_3 3 rfl rfl)
theorem dX6_count_100 : decode cX6_count 100 = .ok (.aload_n 0, 1) := dk_42 (dk_at dksX6_count_3 4 rfl rfl)
theorem dX6_count_101 : decode cX6_count 101 = .ok (.getfield 7, 3) := dk_180 0 7 (dk_at dksX6_count_3 5 rfl rfl)
theorem dX6_count_104 : decode cX6_count 104 = .ok (.iconst 3, 1) := dk_6 (dk_at dksX6_count_3 8 rfl rfl)
theorem dX6_count_105 : decode cX6_count 105 = .ok (.iaload, 1) := dk_46 (dk_at dksX6_count_3 9 rfl rfl)
theorem dX6_count_106 : decode cX6_count 106 = .ok (.ireturn, 1) := dk_172 (dk_at dksX6_count_3 10 rfl rfl)
theorem dX6_count_107 : decode cX6_count 107 = .ok (.aload_n 0, 1) := dk_42 (dk_at dksX6_count_3 11 rfl rfl)
theorem dX6_count_108 : decode cX6_count 108 = .ok (.getfield 7, 3) := dk_180 0 7 (dk_at dksX6_count_3 12 rfl rfl)
theorem dX6_count_111 : decode cX6_count 111 = .ok (.iconst 4, 1) := dk_7 (dk_at dksX6_count_3 15 rfl rfl)
theorem dX6_count_112 : decode cX6_count 112 = .ok (.iaload, 1) := dk_46 (dk_at dksX6_count_3 16 rfl rfl)
theorem dX6_count_113 : decode cX6_count 113 = .ok (.ireturn, 1) := dk_172 (dk_at dksX6_count_3 17 rfl rfl)
theorem dX6_count_114 : decode cX6_count 114 = .ok (.aload_n 0, 1) := dk_42 (dk_at dksX6_count_3 18 rfl rfl)
theorem dX6_count_115 : decode cX6_count 115 = .ok (.getfield 7, 3) := dk_180 0 7 (dk_at dksX6_count_3 19 rfl rfl)
theorem dX6_count_118 : decode cX6_count 118 = .ok (.iconst 5, 1) := dk_8 (dk_at dksX6_count_3 22 rfl rfl)
theorem dX6_count_119 : decode cX6_count 119 = .ok (.iaload, 1) := dk_46 (dk_at dksX6_count_3 23 rfl rfl)
theorem dX6_count_120 : decode cX6_count 120 = .ok (.ireturn, 1) := dk_172 (dk_at dksX6_count_4 0 rfl rfl)
theorem dX6_count_121 : decode cX6_count 121 = .ok (.aload_n 0, 1) := dk_42 (dk_at dksX6_count_4 1 rfl rfl)
theorem dX6_count_122 : decode cX6_count 122 = .ok (.getfield 7, 3) := dk_180 0 7 (dk_at dksX6_count_4 2 rfl rfl)
theorem dX6_count_125 : decode cX6_count 125 = .ok (.bipush 6, 2) := dk_16 6 (dk_at dksX6_count_4 5 rfl rfl)
theorem dX6_count_127 : decode cX6_count 127 = .ok (.iaload, 1) := dk_46 (dk_at dksX6_count_4 7 rfl rfl)
theorem dX6_count_128 : decode cX6_count 128 = .ok (.ireturn, 1) := dk_172 (dk_at dksX6_count_4 8 rfl rfl)
theorem dX6_count_129 : decode cX6_count 129 = .ok (.aload_n 0, 1) := dk_42 (dk_at dksX6_count_4 9 rfl rfl)
theorem dX6_count_130 : decode cX6_count 130 = .ok (.getfield 7, 3) := dk_180 0 7 (dk_at dksX6_count_4 10 rfl rfl)
theorem dX6_count_133 : decode cX6_count 133 = .ok (.bipush 7, 2) := dk_16 7 (dk_at dksX6_count_4 13 rfl rfl)
theorem dX6_count_135 : decode cX6_count 135 = .ok (.iaload, 1) := dk_46 (dk_at dksX6_count_4 15 rfl rfl)
theorem dX6_count_136 : decode cX6_count 136 = .ok (.ireturn, 1) := dk_172 (dk_at dksX6_count_4 16 rfl rfl)
theorem dX6_count_137 : decode cX6_count 137 = .ok (.aload_n 0, 1) := dk_42 (dk_at dksX6_count_4 17 rfl rfl)
theorem dX6_count_138 : decode cX6_count 138 = .ok (.getfield 7, 3) := dk_180 0 7 (dk_at dksX6_count_4 18 rfl rfl)
theorem dX6_count_141 : decode cX6_count 141 = .ok (.bipush 8, 2) := dk_16 8 (dk_at dksX6_count_4 21 rfl rfl)
theorem dX6_count_143 : decode cX6_count 143 = .ok (.iaload, 1) := dk_46 (dk_at dksX6_count_4 23 rfl rfl)
theorem dX6_count_144 : decode cX6_count 144 = .ok (.ireturn, 1) := dk_172 (dk_at dksX6_count_5 0 rfl rfl)
theorem dX6_count_145 : decode cX6_count 145 = .ok (.aload_n 0, 1) := dk_42 (dk_at dksX6_count_5 1 rfl rfl)
theorem dX6_count_146 : decode cX6_count 146 = .ok (.getfield 7, 3) := dk_180 0 7 (dk_at dksX6_count_5 2 rfl rfl)
theorem dX6_count_149 : decode cX6_count 149 = .ok (.iconst 1, 1) := dk_4 (dk_at dksX6_count_5 5 rfl rfl)
theorem dX6_count_150 : decode cX6_count 150 = .ok (.iaload, 1) := dk_46 (dk_at dksX6_count_5 6 rfl rfl)
theorem dX6_count_151 : decode cX6_count 151 = .ok (.ireturn, 1) := dk_172 (dk_at dksX6_count_5 7 rfl rfl)
theorem dX6_count_152 : decode cX6_count 152 = .ok (.aload_n 0, 1) := dk_42 (dk_at dksX6_count_5 8 rfl rfl)
theorem dX6_count_153 : decode cX6_count 153 = .ok (.getfield 351, 3) := dk_180 1 95 (dk_at dksX6_count_5 9 rfl rfl)
theorem dX6_count_156 : decode cX6_count 156 = .ok (.ireturn, 1) := dk_172 (dk_at dksX6_count_5 12 rfl rfl)
theorem dX6_count_157 : decode cX6_count 157 = .ok (.aload_n 0, 1) := dk_42 (dk_at dksX6_count_5 13 rfl rfl)
theorem dX6_count_158 : decode cX6_count 158 = .ok (.getfield 235, 3) := dk_180 0 235 (dk_at dksX6_count_5 14 rfl rfl)
theorem dX6_count_161 : decode cX6_count 161 = .ok (.ireturn, 1) := dk_172 (dk_at dksX6_count_5 17 rfl rfl)
theorem dX6_count_162 : decode cX6_count 162 = .ok (.aload_n 0, 1) := dk_42 (dk_at dksX6_count_5 18 rfl rfl)
theorem dX6_count_163 : decode cX6_count 163 = .ok (.getfield 7, 3) := dk_180 0 7 (dk_at dksX6_count_5 19 rfl rfl)
theorem dX6_count_166 : decode cX6_count 166 = .ok (.bipush 9, 2) := dk_16 9 (dk_at dksX6_count_5 22 rfl rfl)
theorem dX6_count_168 : decode cX6_count 168 = .ok (.iaload, 1) := dk_46 (dk_at dksX6_count_6 0 rfl rfl)
theorem dX6_count_169 : decode cX6_count 169 = .ok (.ireturn, 1) := dk_172 (dk_at dksX6_count_6 1 rfl rfl)
theorem dX6_count_170 : decode cX6_count 170 = .ok (.ldc 120, 2) := dk_18 120 (dk_at dksX6_count_6 2 rfl rfl)
theorem dX6_count_172 : decode cX6_count 172 = .ok (.ireturn, 1) := dk_172 (dk_at dksX6_count_6 4 rfl rfl)
theorem q112 : (Jvm.Cond.initialized "KeptLeavesModel") ∈ lw_all := lw_g (lw_at lw_m1 10 rfl) rfl
theorem q1333 : (Jvm.Cond.instantiable "KeptLeavesModel" (38 : Nat)) ∈ lw_all := lw_g (lw_at lw_m6 31 rfl) rfl
theorem q1335 : (Jvm.Cond.instanceMethod ({ cls := "KeptLeavesModel", name := "<init>", desc := "()V" } : Jvm.MethodName)) ∈ lw_all := lw_g (lw_at lw_m6 33 rfl) rfl
theorem q1336 : (Jvm.Cond.code ({ cls := "KeptLeavesModel", name := "<init>", desc := "()V" } : Jvm.MethodName) prog_19_method_1_code (2 : Nat) (Option.none : Option Jvm.ClassFile.FieldType)) ∈ lw_all := lw_g (lw_at lw_m6 34 rfl) rfl
theorem q1337 : (Jvm.Cond.methodLink "KeptLeavesModel" (1 : Nat) ({ cls := "java/lang/Object", name := "<init>", desc := "()V" } : Jvm.MethodName)) ∈ lw_all := lw_g (lw_at lw_m6 35 rfl) rfl
theorem q1338 : (Jvm.Cond.fieldLink "KeptLeavesModel" (7 : Nat) "KeptLeavesModel" "s" "[I") ∈ lw_all := lw_g (lw_at lw_m6 36 rfl) rfl
theorem q1339 : (Jvm.Cond.fieldLink "KeptLeavesModel" (13 : Nat) "KeptLeavesModel" "image" "[I") ∈ lw_all := lw_g (lw_at lw_m6 37 rfl) rfl
theorem q1340 : (Jvm.Cond.fieldLink "KeptLeavesModel" (16 : Nat) "KeptLeavesModel" "aside" "[I") ∈ lw_all := lw_g (lw_at lw_m6 38 rfl) rfl
theorem q1341 : (Jvm.Cond.fieldLink "KeptLeavesModel" (356 : Nat) "KeptLeavesModel" "hasImage" "Z") ∈ lw_all := lw_g (lw_at lw_m6 39 rfl) rfl
theorem q1342 : (Jvm.Cond.fieldLink "KeptLeavesModel" (19 : Nat) "KeptLeavesModel" "tSort" "[I") ∈ lw_all := lw_g (lw_at lw_m6 40 rfl) rfl
theorem q1343 : (Jvm.Cond.fieldLink "KeptLeavesModel" (22 : Nat) "KeptLeavesModel" "tSize" "[I") ∈ lw_all := lw_g (lw_at lw_m6 41 rfl) rfl
theorem q1344 : (Jvm.Cond.fieldLink "KeptLeavesModel" (25 : Nat) "KeptLeavesModel" "tNumber" "[I") ∈ lw_all := lw_g (lw_at lw_m6 42 rfl) rfl
theorem q1345 : (Jvm.Cond.fieldLink "KeptLeavesModel" (28 : Nat) "KeptLeavesModel" "held" "[I") ∈ lw_all := lw_g (lw_at lw_m6 43 rfl) rfl
theorem q1346 : (Jvm.Cond.fieldLink "KeptLeavesModel" (31 : Nat) "KeptLeavesModel" "heldNumber" "[I") ∈ lw_all := lw_g (lw_at lw_m6 44 rfl) rfl
theorem q1347 : (Jvm.Cond.fieldLink "KeptLeavesModel" (34 : Nat) "KeptLeavesModel" "heldWorth" "[I") ∈ lw_all := lw_g (lw_at lw_m6 45 rfl) rfl
theorem q1348 : (Jvm.Cond.fieldLink "KeptLeavesModel" (37 : Nat) "KeptLeavesModel" "heldSize" "[I") ∈ lw_all := lw_g (lw_at lw_m6 46 rfl) rfl
theorem q1349 : (Jvm.Cond.fieldLink "KeptLeavesModel" (40 : Nat) "KeptLeavesModel" "heldRow" "[I") ∈ lw_all := lw_g (lw_at lw_m6 47 rfl) rfl
theorem q1350 : (Jvm.Cond.fieldLink "KeptLeavesModel" (43 : Nat) "KeptLeavesModel" "roomOf" "[I") ∈ lw_all := lw_g (lw_at lw_m6 48 rfl) rfl
theorem q1351 : (Jvm.Cond.fieldLink "KeptLeavesModel" (46 : Nat) "KeptLeavesModel" "missOf" "[I") ∈ lw_all := lw_g (lw_at lw_m6 49 rfl) rfl
theorem q1352 : (Jvm.Cond.fieldLink "KeptLeavesModel" (49 : Nat) "KeptLeavesModel" "roomsOf" "[I") ∈ lw_all := lw_g (lw_at lw_m6 50 rfl) rfl
theorem q1353 : (Jvm.Cond.fieldLink "KeptLeavesModel" (52 : Nat) "KeptLeavesModel" "near" "[I") ∈ lw_all := lw_g (lw_at lw_m6 51 rfl) rfl
theorem q1354 : (Jvm.Cond.fieldLink "KeptLeavesModel" (55 : Nat) "KeptLeavesModel" "tries" "[I") ∈ lw_all := lw_g (lw_at lw_m6 52 rfl) rfl
theorem q1355 : (Jvm.Cond.fieldLink "KeptLeavesModel" (58 : Nat) "KeptLeavesModel" "behindOf" "[I") ∈ lw_all := lw_g (lw_at lw_m6 53 rfl) rfl
theorem q1356 : (Jvm.Cond.fieldLink "KeptLeavesModel" (61 : Nat) "KeptLeavesModel" "withinOf" "[I") ∈ lw_all := lw_g (lw_at lw_m6 54 rfl) rfl
theorem q1357 : (Jvm.Cond.fieldLink "KeptLeavesModel" (205 : Nat) "KeptLeavesModel" "keptBest" "I") ∈ lw_all := lw_g (lw_at lw_m6 55 rfl) rfl
theorem q1358 : (Jvm.Cond.fieldLink "KeptLeavesModel" (64 : Nat) "KeptLeavesModel" "tape" "[I") ∈ lw_all := lw_g (lw_at lw_m6 56 rfl) rfl
theorem q1359 : (Jvm.Cond.fieldLink "KeptLeavesModel" (235 : Nat) "KeptLeavesModel" "taped" "I") ∈ lw_all := lw_g (lw_at lw_m6 57 rfl) rfl
theorem q1360 : (Jvm.Cond.fieldLink "KeptLeavesModel" (252 : Nat) "KeptLeavesModel" "begin" "I") ∈ lw_all := lw_g (lw_at lw_m6 58 rfl) rfl
theorem q1361 : (Jvm.Cond.fieldLink "KeptLeavesModel" (246 : Nat) "KeptLeavesModel" "behind" "I") ∈ lw_all := lw_g (lw_at lw_m6 59 rfl) rfl
theorem q1362 : (Jvm.Cond.fieldLink "KeptLeavesModel" (249 : Nat) "KeptLeavesModel" "token" "I") ∈ lw_all := lw_g (lw_at lw_m6 60 rfl) rfl
theorem q1363 : (Jvm.Cond.fieldLink "KeptLeavesModel" (264 : Nat) "KeptLeavesModel" "number" "I") ∈ lw_all := lw_g (lw_at lw_m6 61 rfl) rfl
theorem q1364 : (Jvm.Cond.fieldLink "KeptLeavesModel" (258 : Nat) "KeptLeavesModel" "letter" "I") ∈ lw_all := lw_g (lw_at lw_m6 62 rfl) rfl
theorem q1365 : (Jvm.Cond.fieldLink "KeptLeavesModel" (314 : Nat) "KeptLeavesModel" "deep" "I") ∈ lw_all := lw_g (lw_at lw_m6 63 rfl) rfl
theorem q1366 : (Jvm.Cond.fieldLink "KeptLeavesModel" (311 : Nat) "KeptLeavesModel" "turned" "I") ∈ lw_all := lw_g (lw_at lw_m6 64 rfl) rfl
theorem q1367 : (Jvm.Cond.fieldLink "KeptLeavesModel" (278 : Nat) "KeptLeavesModel" "laid" "I") ∈ lw_all := lw_g (lw_at lw_m6 65 rfl) rfl
theorem q1368 : (Jvm.Cond.fieldLink "KeptLeavesModel" (275 : Nat) "KeptLeavesModel" "laidAt" "I") ∈ lw_all := lw_g (lw_at lw_m6 66 rfl) rfl
theorem q1369 : (Jvm.Cond.fieldLink "KeptLeavesModel" (305 : Nat) "KeptLeavesModel" "said" "I") ∈ lw_all := lw_g (lw_at lw_m6 67 rfl) rfl
theorem q1370 : (Jvm.Cond.fieldLink "KeptLeavesModel" (67 : Nat) "KeptLeavesModel" "named" "[I") ∈ lw_all := lw_g (lw_at lw_m6 68 rfl) rfl
theorem q1371 : (Jvm.Cond.fieldLink "KeptLeavesModel" (70 : Nat) "KeptLeavesModel" "pile" "[I") ∈ lw_all := lw_g (lw_at lw_m6 69 rfl) rfl
theorem q1372 : (Jvm.Cond.fieldLink "KeptLeavesModel" (73 : Nat) "KeptLeavesModel" "carried" "[I") ∈ lw_all := lw_g (lw_at lw_m6 70 rfl) rfl
theorem q1373 : (Jvm.Cond.fieldLink "KeptLeavesModel" (76 : Nat) "KeptLeavesModel" "waits" "[I") ∈ lw_all := lw_g (lw_at lw_m6 71 rfl) rfl
theorem q1374 : (Jvm.Cond.fieldLink "KeptLeavesModel" (351 : Nat) "KeptLeavesModel" "waiting" "I") ∈ lw_all := lw_g (lw_at lw_m6 72 rfl) rfl
theorem q1375 : (Jvm.Cond.fieldLink "KeptLeavesModel" (79 : Nat) "KeptLeavesModel" "row" "[I") ∈ lw_all := lw_g (lw_at lw_m6 73 rfl) rfl
theorem q1376 : (Jvm.Cond.laysFinal "KeptLeavesModel" "KeptLeavesModel" "s" "[I") ∈ lw_all := lw_g (lw_at lw_m6 74 rfl) rfl
theorem q1377 : (Jvm.Cond.soleField "KeptLeavesModel" "s") ∈ lw_all := lw_g (lw_at lw_m6 75 rfl) rfl
theorem q1378 : (Jvm.Cond.laysFinal "KeptLeavesModel" "KeptLeavesModel" "image" "[I") ∈ lw_all := lw_g (lw_at lw_m6 76 rfl) rfl
theorem q1379 : (Jvm.Cond.soleField "KeptLeavesModel" "image") ∈ lw_all := lw_g (lw_at lw_m6 77 rfl) rfl
theorem q1380 : (Jvm.Cond.laysFinal "KeptLeavesModel" "KeptLeavesModel" "aside" "[I") ∈ lw_all := lw_g (lw_at lw_m6 78 rfl) rfl
theorem q1381 : (Jvm.Cond.soleField "KeptLeavesModel" "aside") ∈ lw_all := lw_g (lw_at lw_m6 79 rfl) rfl
theorem q1382 : (Jvm.Cond.lays "KeptLeavesModel" "KeptLeavesModel" "hasImage" "Z") ∈ lw_all := lw_g (lw_at lw_m6 80 rfl) rfl
theorem q1383 : (Jvm.Cond.soleField "KeptLeavesModel" "hasImage") ∈ lw_all := lw_g (lw_at lw_m6 81 rfl) rfl
theorem q1384 : (Jvm.Cond.laysFinal "KeptLeavesModel" "KeptLeavesModel" "tSort" "[I") ∈ lw_all := lw_g (lw_at lw_m6 82 rfl) rfl
theorem q1385 : (Jvm.Cond.soleField "KeptLeavesModel" "tSort") ∈ lw_all := lw_g (lw_at lw_m6 83 rfl) rfl
theorem q1386 : (Jvm.Cond.laysFinal "KeptLeavesModel" "KeptLeavesModel" "tSize" "[I") ∈ lw_all := lw_g (lw_at lw_m6 84 rfl) rfl
theorem q1387 : (Jvm.Cond.soleField "KeptLeavesModel" "tSize") ∈ lw_all := lw_g (lw_at lw_m6 85 rfl) rfl
theorem q1388 : (Jvm.Cond.laysFinal "KeptLeavesModel" "KeptLeavesModel" "tNumber" "[I") ∈ lw_all := lw_g (lw_at lw_m6 86 rfl) rfl
theorem q1389 : (Jvm.Cond.soleField "KeptLeavesModel" "tNumber") ∈ lw_all := lw_g (lw_at lw_m6 87 rfl) rfl
theorem q1390 : (Jvm.Cond.laysFinal "KeptLeavesModel" "KeptLeavesModel" "held" "[I") ∈ lw_all := lw_g (lw_at lw_m6 88 rfl) rfl
theorem q1391 : (Jvm.Cond.soleField "KeptLeavesModel" "held") ∈ lw_all := lw_g (lw_at lw_m6 89 rfl) rfl
theorem q1392 : (Jvm.Cond.laysFinal "KeptLeavesModel" "KeptLeavesModel" "heldNumber" "[I") ∈ lw_all := lw_g (lw_at lw_m6 90 rfl) rfl
theorem q1393 : (Jvm.Cond.soleField "KeptLeavesModel" "heldNumber") ∈ lw_all := lw_g (lw_at lw_m6 91 rfl) rfl
theorem q1394 : (Jvm.Cond.laysFinal "KeptLeavesModel" "KeptLeavesModel" "heldWorth" "[I") ∈ lw_all := lw_g (lw_at lw_m6 92 rfl) rfl
theorem q1395 : (Jvm.Cond.soleField "KeptLeavesModel" "heldWorth") ∈ lw_all := lw_g (lw_at lw_m6 93 rfl) rfl
theorem q1396 : (Jvm.Cond.laysFinal "KeptLeavesModel" "KeptLeavesModel" "heldSize" "[I") ∈ lw_all := lw_g (lw_at lw_m6 94 rfl) rfl
theorem q1397 : (Jvm.Cond.soleField "KeptLeavesModel" "heldSize") ∈ lw_all := lw_g (lw_at lw_m6 95 rfl) rfl
theorem q1398 : (Jvm.Cond.laysFinal "KeptLeavesModel" "KeptLeavesModel" "heldRow" "[I") ∈ lw_all := lw_g (lw_at lw_m6 96 rfl) rfl
theorem q1399 : (Jvm.Cond.soleField "KeptLeavesModel" "heldRow") ∈ lw_all := lw_g (lw_at lw_m6 97 rfl) rfl
theorem q1400 : (Jvm.Cond.laysFinal "KeptLeavesModel" "KeptLeavesModel" "roomOf" "[I") ∈ lw_all := lw_g (lw_at lw_m6 98 rfl) rfl
theorem q1401 : (Jvm.Cond.soleField "KeptLeavesModel" "roomOf") ∈ lw_all := lw_g (lw_at lw_m6 99 rfl) rfl
theorem q1402 : (Jvm.Cond.laysFinal "KeptLeavesModel" "KeptLeavesModel" "missOf" "[I") ∈ lw_all := lw_g (lw_at lw_m6 100 rfl) rfl
theorem q1403 : (Jvm.Cond.soleField "KeptLeavesModel" "missOf") ∈ lw_all := lw_g (lw_at lw_m6 101 rfl) rfl
theorem q1404 : (Jvm.Cond.laysFinal "KeptLeavesModel" "KeptLeavesModel" "roomsOf" "[I") ∈ lw_all := lw_g (lw_at lw_m6 102 rfl) rfl
theorem q1405 : (Jvm.Cond.soleField "KeptLeavesModel" "roomsOf") ∈ lw_all := lw_g (lw_at lw_m6 103 rfl) rfl
theorem q1406 : (Jvm.Cond.laysFinal "KeptLeavesModel" "KeptLeavesModel" "near" "[I") ∈ lw_all := lw_g (lw_at lw_m6 104 rfl) rfl
theorem q1407 : (Jvm.Cond.soleField "KeptLeavesModel" "near") ∈ lw_all := lw_g (lw_at lw_m6 105 rfl) rfl
theorem q1408 : (Jvm.Cond.laysFinal "KeptLeavesModel" "KeptLeavesModel" "tries" "[I") ∈ lw_all := lw_g (lw_at lw_m6 106 rfl) rfl
theorem q1409 : (Jvm.Cond.soleField "KeptLeavesModel" "tries") ∈ lw_all := lw_g (lw_at lw_m6 107 rfl) rfl
theorem q1410 : (Jvm.Cond.laysFinal "KeptLeavesModel" "KeptLeavesModel" "behindOf" "[I") ∈ lw_all := lw_g (lw_at lw_m6 108 rfl) rfl
theorem q1411 : (Jvm.Cond.soleField "KeptLeavesModel" "behindOf") ∈ lw_all := lw_g (lw_at lw_m6 109 rfl) rfl
theorem q1412 : (Jvm.Cond.laysFinal "KeptLeavesModel" "KeptLeavesModel" "withinOf" "[I") ∈ lw_all := lw_g (lw_at lw_m6 110 rfl) rfl
theorem q1413 : (Jvm.Cond.soleField "KeptLeavesModel" "withinOf") ∈ lw_all := lw_g (lw_at lw_m6 111 rfl) rfl
theorem q1414 : (Jvm.Cond.lays "KeptLeavesModel" "KeptLeavesModel" "keptBest" "I") ∈ lw_all := lw_g (lw_at lw_m6 112 rfl) rfl
theorem q1415 : (Jvm.Cond.soleField "KeptLeavesModel" "keptBest") ∈ lw_all := lw_g (lw_at lw_m6 113 rfl) rfl
theorem q1416 : (Jvm.Cond.laysFinal "KeptLeavesModel" "KeptLeavesModel" "tape" "[I") ∈ lw_all := lw_g (lw_at lw_m6 114 rfl) rfl
theorem q1417 : (Jvm.Cond.soleField "KeptLeavesModel" "tape") ∈ lw_all := lw_g (lw_at lw_m6 115 rfl) rfl
theorem q1418 : (Jvm.Cond.lays "KeptLeavesModel" "KeptLeavesModel" "taped" "I") ∈ lw_all := lw_g (lw_at lw_m6 116 rfl) rfl
theorem q1419 : (Jvm.Cond.soleField "KeptLeavesModel" "taped") ∈ lw_all := lw_g (lw_at lw_m6 117 rfl) rfl
theorem q1420 : (Jvm.Cond.lays "KeptLeavesModel" "KeptLeavesModel" "begin" "I") ∈ lw_all := lw_g (lw_at lw_m6 118 rfl) rfl
theorem q1421 : (Jvm.Cond.soleField "KeptLeavesModel" "begin") ∈ lw_all := lw_g (lw_at lw_m6 119 rfl) rfl
theorem q1422 : (Jvm.Cond.lays "KeptLeavesModel" "KeptLeavesModel" "behind" "I") ∈ lw_all := lw_g (lw_at lw_m6 120 rfl) rfl
theorem q1423 : (Jvm.Cond.soleField "KeptLeavesModel" "behind") ∈ lw_all := lw_g (lw_at lw_m6 121 rfl) rfl
theorem q1424 : (Jvm.Cond.lays "KeptLeavesModel" "KeptLeavesModel" "token" "I") ∈ lw_all := lw_g (lw_at lw_m6 122 rfl) rfl
theorem q1425 : (Jvm.Cond.soleField "KeptLeavesModel" "token") ∈ lw_all := lw_g (lw_at lw_m6 123 rfl) rfl
theorem q1426 : (Jvm.Cond.lays "KeptLeavesModel" "KeptLeavesModel" "number" "I") ∈ lw_all := lw_g (lw_at lw_m6 124 rfl) rfl
theorem q1427 : (Jvm.Cond.soleField "KeptLeavesModel" "number") ∈ lw_all := lw_g (lw_at lw_m6 125 rfl) rfl
theorem q1428 : (Jvm.Cond.lays "KeptLeavesModel" "KeptLeavesModel" "letter" "I") ∈ lw_all := lw_g (lw_at lw_m6 126 rfl) rfl
theorem q1429 : (Jvm.Cond.soleField "KeptLeavesModel" "letter") ∈ lw_all := lw_g (lw_at lw_m6 127 rfl) rfl
theorem q1430 : (Jvm.Cond.lays "KeptLeavesModel" "KeptLeavesModel" "deep" "I") ∈ lw_all := lw_g (lw_at lw_m6 128 rfl) rfl
theorem q1431 : (Jvm.Cond.soleField "KeptLeavesModel" "deep") ∈ lw_all := lw_g (lw_at lw_m6 129 rfl) rfl
theorem q1432 : (Jvm.Cond.lays "KeptLeavesModel" "KeptLeavesModel" "turned" "I") ∈ lw_all := lw_g (lw_at lw_m6 130 rfl) rfl
theorem q1433 : (Jvm.Cond.soleField "KeptLeavesModel" "turned") ∈ lw_all := lw_g (lw_at lw_m6 131 rfl) rfl
theorem q1434 : (Jvm.Cond.lays "KeptLeavesModel" "KeptLeavesModel" "laid" "I") ∈ lw_all := lw_g (lw_at lw_m6 132 rfl) rfl
theorem q1435 : (Jvm.Cond.soleField "KeptLeavesModel" "laid") ∈ lw_all := lw_g (lw_at lw_m6 133 rfl) rfl
theorem q1436 : (Jvm.Cond.lays "KeptLeavesModel" "KeptLeavesModel" "laidAt" "I") ∈ lw_all := lw_g (lw_at lw_m6 134 rfl) rfl
theorem q1437 : (Jvm.Cond.soleField "KeptLeavesModel" "laidAt") ∈ lw_all := lw_g (lw_at lw_m6 135 rfl) rfl
theorem q1438 : (Jvm.Cond.lays "KeptLeavesModel" "KeptLeavesModel" "said" "I") ∈ lw_all := lw_g (lw_at lw_m6 136 rfl) rfl
theorem q1439 : (Jvm.Cond.soleField "KeptLeavesModel" "said") ∈ lw_all := lw_g (lw_at lw_m6 137 rfl) rfl
theorem q1440 : (Jvm.Cond.laysFinal "KeptLeavesModel" "KeptLeavesModel" "named" "[I") ∈ lw_all := lw_g (lw_at lw_m6 138 rfl) rfl
theorem q1441 : (Jvm.Cond.soleField "KeptLeavesModel" "named") ∈ lw_all := lw_g (lw_at lw_m6 139 rfl) rfl
theorem q1442 : (Jvm.Cond.laysFinal "KeptLeavesModel" "KeptLeavesModel" "pile" "[I") ∈ lw_all := lw_g (lw_at lw_m6 140 rfl) rfl
theorem q1443 : (Jvm.Cond.soleField "KeptLeavesModel" "pile") ∈ lw_all := lw_g (lw_at lw_m6 141 rfl) rfl
theorem q1444 : (Jvm.Cond.laysFinal "KeptLeavesModel" "KeptLeavesModel" "carried" "[I") ∈ lw_all := lw_g (lw_at lw_m6 142 rfl) rfl
theorem q1445 : (Jvm.Cond.soleField "KeptLeavesModel" "carried") ∈ lw_all := lw_g (lw_at lw_m6 143 rfl) rfl
theorem q1446 : (Jvm.Cond.laysFinal "KeptLeavesModel" "KeptLeavesModel" "waits" "[I") ∈ lw_all := lw_g (lw_at lw_m6 144 rfl) rfl
theorem q1447 : (Jvm.Cond.soleField "KeptLeavesModel" "waits") ∈ lw_all := lw_g (lw_at lw_m6 145 rfl) rfl
theorem q1448 : (Jvm.Cond.lays "KeptLeavesModel" "KeptLeavesModel" "waiting" "I") ∈ lw_all := lw_g (lw_at lw_m6 146 rfl) rfl
theorem q1449 : (Jvm.Cond.soleField "KeptLeavesModel" "waiting") ∈ lw_all := lw_g (lw_at lw_m6 147 rfl) rfl
theorem q1450 : (Jvm.Cond.laysFinal "KeptLeavesModel" "KeptLeavesModel" "row" "[I") ∈ lw_all := lw_g (lw_at lw_m6 148 rfl) rfl
theorem q1451 : (Jvm.Cond.soleField "KeptLeavesModel" "row") ∈ lw_all := lw_g (lw_at lw_m6 149 rfl) rfl
theorem q1452 : (Jvm.Cond.superclass "KeptLeavesModel" "java/lang/Object") ∈ lw_all := lw_g (lw_at lw_m6 150 rfl) rfl
theorem q1454 : (Jvm.Cond.instanceMethod ({ cls := "KeptLeavesModel", name := "leaf", desc := "(IIII)I" } : Jvm.MethodName)) ∈ lw_all := lw_g (lw_at lw_m6 152 rfl) rfl
theorem q1455 : (Jvm.Cond.selects "KeptLeavesModel" ({ cls := "KeptLeavesModel", name := "leaf", desc := "(IIII)I" } : Jvm.MethodName) ({ cls := "KeptLeavesModel", name := "leaf", desc := "(IIII)I" } : Jvm.MethodName)) ∈ lw_all := lw_g (lw_at lw_m6 153 rfl) rfl
theorem q1456 : (Jvm.Cond.code ({ cls := "KeptLeavesModel", name := "leaf", desc := "(IIII)I" } : Jvm.MethodName) prog_19_method_17_code (5 : Nat) (Option.some Jvm.ClassFile.FieldType.int)) ∈ lw_all := lw_g (lw_at lw_m6 154 rfl) rfl
theorem q1457 : (Jvm.Cond.constantLong "KeptLeavesModel" (110 : Nat) (5 : Int64)) ∈ lw_all := lw_g (lw_at lw_m6 155 rfl) rfl
theorem q1458 : (Jvm.Cond.methodLink "KeptLeavesModel" (83 : Nat) ({ cls := "KeptLeavesModel", name := "isIn", desc := "(JJJ)Z" } : Jvm.MethodName)) ∈ lw_all := lw_g (lw_at lw_m6 156 rfl) rfl
theorem q1459 : (Jvm.Cond.static ({ cls := "KeptLeavesModel", name := "isIn", desc := "(JJJ)Z" } : Jvm.MethodName)) ∈ lw_all := lw_g (lw_at lw_m6 157 rfl) rfl
theorem q1460 : (Jvm.Cond.code ({ cls := "KeptLeavesModel", name := "isIn", desc := "(JJJ)Z" } : Jvm.MethodName) prog_19_method_2_code (6 : Nat) (Option.some Jvm.ClassFile.FieldType.boolean)) ∈ lw_all := lw_g (lw_at lw_m6 158 rfl) rfl
theorem q1461 : (Jvm.Cond.constantLong "KeptLeavesModel" (112 : Nat) (9 : Int64)) ∈ lw_all := lw_g (lw_at lw_m6 159 rfl) rfl
theorem q1462 : (Jvm.Cond.constantLong "KeptLeavesModel" (114 : Nat) (99 : Int64)) ∈ lw_all := lw_g (lw_at lw_m6 160 rfl) rfl
theorem q1463 : (Jvm.Cond.constant "KeptLeavesModel" (82 : Nat) (-1000000005 : Int32)) ∈ lw_all := lw_g (lw_at lw_m6 161 rfl) rfl
theorem q1464 : (Jvm.Cond.methodLink "KeptLeavesModel" (116 : Nat) ({ cls := "KeptLeavesModel", name := "isLeaf", desc := "(I)Z" } : Jvm.MethodName)) ∈ lw_all := lw_g (lw_at lw_m6 162 rfl) rfl
theorem q1465 : (Jvm.Cond.privateMethod ({ cls := "KeptLeavesModel", name := "isLeaf", desc := "(I)Z" } : Jvm.MethodName)) ∈ lw_tbl := lw_at lw_m6 163 rfl
theorem q1466 : (Jvm.Cond.instanceMethod ({ cls := "KeptLeavesModel", name := "isLeaf", desc := "(I)Z" } : Jvm.MethodName)) ∈ lw_all := lw_g (lw_at lw_m6 164 rfl) rfl
theorem q1467 : (Jvm.Cond.code ({ cls := "KeptLeavesModel", name := "isLeaf", desc := "(I)Z" } : Jvm.MethodName) prog_19_method_7_code (2 : Nat) (Option.some Jvm.ClassFile.FieldType.boolean)) ∈ lw_all := lw_g (lw_at lw_m6 165 rfl) rfl
theorem q1468 : (Jvm.Cond.constant "KeptLeavesModel" (120 : Nat) (-1000000001 : Int32)) ∈ lw_all := lw_g (lw_at lw_m6 166 rfl) rfl
theorem q1469 : (Jvm.Cond.constant "KeptLeavesModel" (121 : Nat) (-1000000003 : Int32)) ∈ lw_all := lw_g (lw_at lw_m6 167 rfl) rfl
theorem q1470 : (Jvm.Cond.methodLink "KeptLeavesModel" (122 : Nat) ({ cls := "KeptLeavesModel", name := "comes", desc := "(IIII)V" } : Jvm.MethodName)) ∈ lw_all := lw_g (lw_at lw_m6 168 rfl) rfl
theorem q1471 : (Jvm.Cond.privateMethod ({ cls := "KeptLeavesModel", name := "comes", desc := "(IIII)V" } : Jvm.MethodName)) ∈ lw_tbl := lw_at lw_m6 169 rfl
theorem q1472 : (Jvm.Cond.instanceMethod ({ cls := "KeptLeavesModel", name := "comes", desc := "(IIII)V" } : Jvm.MethodName)) ∈ lw_all := lw_g (lw_at lw_m6 170 rfl) rfl
theorem q1473 : (Jvm.Cond.code ({ cls := "KeptLeavesModel", name := "comes", desc := "(IIII)V" } : Jvm.MethodName) prog_19_method_16_code (6 : Nat) (Option.none : Option Jvm.ClassFile.FieldType)) ∈ lw_all := lw_g (lw_at lw_m6 171 rfl) rfl
theorem q1474 : (Jvm.Cond.methodLink "KeptLeavesModel" (92 : Nat) ({ cls := "KeptLeavesModel", name := "leafAt", desc := "(I)I" } : Jvm.MethodName)) ∈ lw_all := lw_g (lw_at lw_m6 172 rfl) rfl
theorem q1475 : (Jvm.Cond.privateMethod ({ cls := "KeptLeavesModel", name := "leafAt", desc := "(I)I" } : Jvm.MethodName)) ∈ lw_tbl := lw_at lw_m6 173 rfl
theorem q1476 : (Jvm.Cond.instanceMethod ({ cls := "KeptLeavesModel", name := "leafAt", desc := "(I)I" } : Jvm.MethodName)) ∈ lw_all := lw_g (lw_at lw_m6 174 rfl) rfl
theorem q1477 : (Jvm.Cond.code ({ cls := "KeptLeavesModel", name := "leafAt", desc := "(I)I" } : Jvm.MethodName) prog_19_method_5_code (2 : Nat) (Option.some Jvm.ClassFile.FieldType.int)) ∈ lw_all := lw_g (lw_at lw_m6 175 rfl) rfl
theorem q1479 : (Jvm.Cond.instanceMethod ({ cls := "KeptLeavesModel", name := "told", desc := "(II)I" } : Jvm.MethodName)) ∈ lw_all := lw_g (lw_at lw_m6 177 rfl) rfl
theorem q1480 : (Jvm.Cond.selects "KeptLeavesModel" ({ cls := "KeptLeavesModel", name := "told", desc := "(II)I" } : Jvm.MethodName) ({ cls := "KeptLeavesModel", name := "told", desc := "(II)I" } : Jvm.MethodName)) ∈ lw_all := lw_g (lw_at lw_m6 178 rfl) rfl
theorem q1481 : (Jvm.Cond.code ({ cls := "KeptLeavesModel", name := "told", desc := "(II)I" } : Jvm.MethodName) prog_19_method_21_code (4 : Nat) (Option.some Jvm.ClassFile.FieldType.int)) ∈ lw_all := lw_g (lw_at lw_m6 179 rfl) rfl
theorem q1482 : (Jvm.Cond.methodLink "KeptLeavesModel" (126 : Nat) ({ cls := "KeptLeavesModel", name := "orNone", desc := "(I)I" } : Jvm.MethodName)) ∈ lw_all := lw_g (lw_at lw_m6 180 rfl) rfl
theorem q1483 : (Jvm.Cond.static ({ cls := "KeptLeavesModel", name := "orNone", desc := "(I)I" } : Jvm.MethodName)) ∈ lw_all := lw_g (lw_at lw_m6 181 rfl) rfl
theorem q1484 : (Jvm.Cond.code ({ cls := "KeptLeavesModel", name := "orNone", desc := "(I)I" } : Jvm.MethodName) prog_19_method_3_code (1 : Nat) (Option.some Jvm.ClassFile.FieldType.int)) ∈ lw_all := lw_g (lw_at lw_m6 182 rfl) rfl
theorem q1485 : (Jvm.Cond.methodLink "KeptLeavesModel" (104 : Nat) ({ cls := "KeptLeavesModel", name := "room", desc := "(I)I" } : Jvm.MethodName)) ∈ lw_all := lw_g (lw_at lw_m6 183 rfl) rfl
theorem q1486 : (Jvm.Cond.privateMethod ({ cls := "KeptLeavesModel", name := "room", desc := "(I)I" } : Jvm.MethodName)) ∈ lw_tbl := lw_at lw_m6 184 rfl
theorem q1487 : (Jvm.Cond.instanceMethod ({ cls := "KeptLeavesModel", name := "room", desc := "(I)I" } : Jvm.MethodName)) ∈ lw_all := lw_g (lw_at lw_m6 185 rfl) rfl
theorem q1488 : (Jvm.Cond.code ({ cls := "KeptLeavesModel", name := "room", desc := "(I)I" } : Jvm.MethodName) prog_19_method_11_code (4 : Nat) (Option.some Jvm.ClassFile.FieldType.int)) ∈ lw_all := lw_g (lw_at lw_m6 186 rfl) rfl
theorem q1489 : (Jvm.Cond.methodLink "KeptLeavesModel" (98 : Nat) ({ cls := "KeptLeavesModel", name := "plainRoom", desc := "(I)I" } : Jvm.MethodName)) ∈ lw_all := lw_g (lw_at lw_m6 187 rfl) rfl
theorem q1490 : (Jvm.Cond.privateMethod ({ cls := "KeptLeavesModel", name := "plainRoom", desc := "(I)I" } : Jvm.MethodName)) ∈ lw_tbl := lw_at lw_m6 188 rfl
theorem q1491 : (Jvm.Cond.instanceMethod ({ cls := "KeptLeavesModel", name := "plainRoom", desc := "(I)I" } : Jvm.MethodName)) ∈ lw_all := lw_g (lw_at lw_m6 189 rfl) rfl
theorem q1492 : (Jvm.Cond.code ({ cls := "KeptLeavesModel", name := "plainRoom", desc := "(I)I" } : Jvm.MethodName) prog_19_method_10_code (5 : Nat) (Option.some Jvm.ClassFile.FieldType.int)) ∈ lw_all := lw_g (lw_at lw_m6 190 rfl) rfl
theorem q1493 : (Jvm.Cond.methodLink "KeptLeavesModel" (88 : Nat) ({ cls := "KeptLeavesModel", name := "counts", desc := "(I)I" } : Jvm.MethodName)) ∈ lw_all := lw_g (lw_at lw_m6 191 rfl) rfl
theorem q1494 : (Jvm.Cond.privateMethod ({ cls := "KeptLeavesModel", name := "counts", desc := "(I)I" } : Jvm.MethodName)) ∈ lw_tbl := lw_at lw_m6 192 rfl
theorem q1495 : (Jvm.Cond.instanceMethod ({ cls := "KeptLeavesModel", name := "counts", desc := "(I)I" } : Jvm.MethodName)) ∈ lw_all := lw_g (lw_at lw_m6 193 rfl) rfl
theorem q1496 : (Jvm.Cond.code ({ cls := "KeptLeavesModel", name := "counts", desc := "(I)I" } : Jvm.MethodName) prog_19_method_85_code (4 : Nat) (Option.some Jvm.ClassFile.FieldType.int)) ∈ lw_all := lw_g (lw_at lw_m6 194 rfl) rfl
theorem q1497 : (Jvm.Cond.methodLink "KeptLeavesModel" (320 : Nat) ({ cls := "KeptLeavesModel", name := "textAt", desc := "(I)I" } : Jvm.MethodName)) ∈ lw_all := lw_g (lw_at lw_m6 195 rfl) rfl
theorem q1498 : (Jvm.Cond.privateMethod ({ cls := "KeptLeavesModel", name := "textAt", desc := "(I)I" } : Jvm.MethodName)) ∈ lw_tbl := lw_at lw_m6 196 rfl
theorem q1499 : (Jvm.Cond.instanceMethod ({ cls := "KeptLeavesModel", name := "textAt", desc := "(I)I" } : Jvm.MethodName)) ∈ lw_all := lw_g (lw_at lw_m6 197 rfl) rfl
theorem q1500 : (Jvm.Cond.code ({ cls := "KeptLeavesModel", name := "textAt", desc := "(I)I" } : Jvm.MethodName) prog_19_method_6_code (2 : Nat) (Option.some Jvm.ClassFile.FieldType.int)) ∈ lw_all := lw_g (lw_at lw_m6 198 rfl) rfl
theorem q1501 : (Jvm.Cond.methodLink "KeptLeavesModel" (95 : Nat) ({ cls := "KeptLeavesModel", name := "worked", desc := "(I)I" } : Jvm.MethodName)) ∈ lw_all := lw_g (lw_at lw_m6 199 rfl) rfl
theorem q1502 : (Jvm.Cond.privateMethod ({ cls := "KeptLeavesModel", name := "worked", desc := "(I)I" } : Jvm.MethodName)) ∈ lw_tbl := lw_at lw_m6 200 rfl
theorem q1503 : (Jvm.Cond.instanceMethod ({ cls := "KeptLeavesModel", name := "worked", desc := "(I)I" } : Jvm.MethodName)) ∈ lw_all := lw_g (lw_at lw_m6 201 rfl) rfl
theorem q1504 : (Jvm.Cond.code ({ cls := "KeptLeavesModel", name := "worked", desc := "(I)I" } : Jvm.MethodName) prog_19_method_88_code (6 : Nat) (Option.some Jvm.ClassFile.FieldType.int)) ∈ lw_all := lw_g (lw_at lw_m6 202 rfl) rfl
theorem q1505 : (Jvm.Cond.methodLink "KeptLeavesModel" (332 : Nat) ({ cls := "KeptLeavesModel", name := "joined", desc := "(III)I" } : Jvm.MethodName)) ∈ lw_all := lw_g (lw_at lw_m6 203 rfl) rfl
theorem q1506 : (Jvm.Cond.static ({ cls := "KeptLeavesModel", name := "joined", desc := "(III)I" } : Jvm.MethodName)) ∈ lw_all := lw_g (lw_at lw_m6 204 rfl) rfl
theorem q1507 : (Jvm.Cond.code ({ cls := "KeptLeavesModel", name := "joined", desc := "(III)I" } : Jvm.MethodName) prog_19_method_87_code (3 : Nat) (Option.some Jvm.ClassFile.FieldType.int)) ∈ lw_all := lw_g (lw_at lw_m6 205 rfl) rfl
theorem q1508 : (Jvm.Cond.methodLink "KeptLeavesModel" (107 : Nat) ({ cls := "KeptLeavesModel", name := "miss", desc := "(I)I" } : Jvm.MethodName)) ∈ lw_all := lw_g (lw_at lw_m6 206 rfl) rfl
theorem q1509 : (Jvm.Cond.privateMethod ({ cls := "KeptLeavesModel", name := "miss", desc := "(I)I" } : Jvm.MethodName)) ∈ lw_tbl := lw_at lw_m6 207 rfl
theorem q1510 : (Jvm.Cond.instanceMethod ({ cls := "KeptLeavesModel", name := "miss", desc := "(I)I" } : Jvm.MethodName)) ∈ lw_all := lw_g (lw_at lw_m6 208 rfl) rfl
theorem q1511 : (Jvm.Cond.code ({ cls := "KeptLeavesModel", name := "miss", desc := "(I)I" } : Jvm.MethodName) prog_19_method_13_code (5 : Nat) (Option.some Jvm.ClassFile.FieldType.int)) ∈ lw_all := lw_g (lw_at lw_m6 209 rfl) rfl
theorem q1512 : (Jvm.Cond.methodLink "KeptLeavesModel" (101 : Nat) ({ cls := "KeptLeavesModel", name := "leaners", desc := "(I)I" } : Jvm.MethodName)) ∈ lw_all := lw_g (lw_at lw_m6 210 rfl) rfl
theorem q1513 : (Jvm.Cond.privateMethod ({ cls := "KeptLeavesModel", name := "leaners", desc := "(I)I" } : Jvm.MethodName)) ∈ lw_tbl := lw_at lw_m6 211 rfl
theorem q1514 : (Jvm.Cond.instanceMethod ({ cls := "KeptLeavesModel", name := "leaners", desc := "(I)I" } : Jvm.MethodName)) ∈ lw_all := lw_g (lw_at lw_m6 212 rfl) rfl
theorem q1515 : (Jvm.Cond.code ({ cls := "KeptLeavesModel", name := "leaners", desc := "(I)I" } : Jvm.MethodName) prog_19_method_12_code (4 : Nat) (Option.some Jvm.ClassFile.FieldType.int)) ∈ lw_all := lw_g (lw_at lw_m6 213 rfl) rfl
theorem q1516 : (Jvm.Cond.methodLink "KeptLeavesModel" (129 : Nat) ({ cls := "KeptLeavesModel", name := "placeOf", desc := "(I)I" } : Jvm.MethodName)) ∈ lw_all := lw_g (lw_at lw_m6 214 rfl) rfl
theorem q1517 : (Jvm.Cond.privateMethod ({ cls := "KeptLeavesModel", name := "placeOf", desc := "(I)I" } : Jvm.MethodName)) ∈ lw_tbl := lw_at lw_m6 215 rfl
theorem q1518 : (Jvm.Cond.instanceMethod ({ cls := "KeptLeavesModel", name := "placeOf", desc := "(I)I" } : Jvm.MethodName)) ∈ lw_all := lw_g (lw_at lw_m6 216 rfl) rfl
theorem q1519 : (Jvm.Cond.code ({ cls := "KeptLeavesModel", name := "placeOf", desc := "(I)I" } : Jvm.MethodName) prog_19_method_18_code (4 : Nat) (Option.some Jvm.ClassFile.FieldType.int)) ∈ lw_all := lw_g (lw_at lw_m6 217 rfl) rfl
theorem q1520 : (Jvm.Cond.methodLink "KeptLeavesModel" (132 : Nat) ({ cls := "KeptLeavesModel", name := "vaultBits", desc := "()I" } : Jvm.MethodName)) ∈ lw_all := lw_g (lw_at lw_m6 218 rfl) rfl
theorem q1521 : (Jvm.Cond.privateMethod ({ cls := "KeptLeavesModel", name := "vaultBits", desc := "()I" } : Jvm.MethodName)) ∈ lw_tbl := lw_at lw_m6 219 rfl
theorem q1522 : (Jvm.Cond.instanceMethod ({ cls := "KeptLeavesModel", name := "vaultBits", desc := "()I" } : Jvm.MethodName)) ∈ lw_all := lw_g (lw_at lw_m6 220 rfl) rfl
theorem q1523 : (Jvm.Cond.code ({ cls := "KeptLeavesModel", name := "vaultBits", desc := "()I" } : Jvm.MethodName) prog_19_method_19_code (3 : Nat) (Option.some Jvm.ClassFile.FieldType.int)) ∈ lw_all := lw_g (lw_at lw_m6 221 rfl) rfl
theorem q1524 : (Jvm.Cond.methodLink "KeptLeavesModel" (136 : Nat) ({ cls := "KeptLeavesModel", name := "isRead", desc := "(II)Z" } : Jvm.MethodName)) ∈ lw_all := lw_g (lw_at lw_m6 222 rfl) rfl
theorem q1525 : (Jvm.Cond.privateMethod ({ cls := "KeptLeavesModel", name := "isRead", desc := "(II)Z" } : Jvm.MethodName)) ∈ lw_tbl := lw_at lw_m6 223 rfl
theorem q1526 : (Jvm.Cond.instanceMethod ({ cls := "KeptLeavesModel", name := "isRead", desc := "(II)Z" } : Jvm.MethodName)) ∈ lw_all := lw_g (lw_at lw_m6 224 rfl) rfl
theorem q1527 : (Jvm.Cond.code ({ cls := "KeptLeavesModel", name := "isRead", desc := "(II)Z" } : Jvm.MethodName) prog_19_method_20_code (4 : Nat) (Option.some Jvm.ClassFile.FieldType.boolean)) ∈ lw_all := lw_g (lw_at lw_m6 225 rfl) rfl
theorem q1528 : (Jvm.Cond.methodLink "KeptLeavesModel" (140 : Nat) ({ cls := "KeptLeavesModel", name := "worth", desc := "(I)I" } : Jvm.MethodName)) ∈ lw_all := lw_g (lw_at lw_m6 226 rfl) rfl
theorem q1529 : (Jvm.Cond.privateMethod ({ cls := "KeptLeavesModel", name := "worth", desc := "(I)I" } : Jvm.MethodName)) ∈ lw_tbl := lw_at lw_m6 227 rfl
theorem q1530 : (Jvm.Cond.instanceMethod ({ cls := "KeptLeavesModel", name := "worth", desc := "(I)I" } : Jvm.MethodName)) ∈ lw_all := lw_g (lw_at lw_m6 228 rfl) rfl
theorem q1531 : (Jvm.Cond.code ({ cls := "KeptLeavesModel", name := "worth", desc := "(I)I" } : Jvm.MethodName) prog_19_method_14_code (4 : Nat) (Option.some Jvm.ClassFile.FieldType.int)) ∈ lw_all := lw_g (lw_at lw_m6 229 rfl) rfl
theorem q1533 : (Jvm.Cond.instanceMethod ({ cls := "KeptLeavesModel", name := "as", desc := "(II)I" } : Jvm.MethodName)) ∈ lw_all := lw_g (lw_at lw_m6 231 rfl) rfl
theorem q1534 : (Jvm.Cond.selects "KeptLeavesModel" ({ cls := "KeptLeavesModel", name := "as", desc := "(II)I" } : Jvm.MethodName) ({ cls := "KeptLeavesModel", name := "as", desc := "(II)I" } : Jvm.MethodName)) ∈ lw_all := lw_g (lw_at lw_m6 232 rfl) rfl
theorem q1535 : (Jvm.Cond.code ({ cls := "KeptLeavesModel", name := "as", desc := "(II)I" } : Jvm.MethodName) prog_19_method_23_code (3 : Nat) (Option.some Jvm.ClassFile.FieldType.int)) ∈ lw_all := lw_g (lw_at lw_m6 233 rfl) rfl
theorem q1536 : (Jvm.Cond.methodLink "KeptLeavesModel" (143 : Nat) ({ cls := "KeptLeavesModel", name := "isOf", desc := "(II)Z" } : Jvm.MethodName)) ∈ lw_all := lw_g (lw_at lw_m6 234 rfl) rfl
theorem q1537 : (Jvm.Cond.static ({ cls := "KeptLeavesModel", name := "isOf", desc := "(II)Z" } : Jvm.MethodName)) ∈ lw_all := lw_g (lw_at lw_m6 235 rfl) rfl
theorem q1538 : (Jvm.Cond.code ({ cls := "KeptLeavesModel", name := "isOf", desc := "(II)Z" } : Jvm.MethodName) prog_19_method_22_code (2 : Nat) (Option.some Jvm.ClassFile.FieldType.boolean)) ∈ lw_all := lw_g (lw_at lw_m6 236 rfl) rfl
theorem q1539 : (Jvm.Cond.constant "KeptLeavesModel" (146 : Nat) (-1000000012 : Int32)) ∈ lw_all := lw_g (lw_at lw_m6 237 rfl) rfl
theorem q1541 : (Jvm.Cond.instanceMethod ({ cls := "KeptLeavesModel", name := "turns", desc := "(II)I" } : Jvm.MethodName)) ∈ lw_all := lw_g (lw_at lw_m6 239 rfl) rfl
theorem q1542 : (Jvm.Cond.selects "KeptLeavesModel" ({ cls := "KeptLeavesModel", name := "turns", desc := "(II)I" } : Jvm.MethodName) ({ cls := "KeptLeavesModel", name := "turns", desc := "(II)I" } : Jvm.MethodName)) ∈ lw_all := lw_g (lw_at lw_m7 0 rfl) rfl
theorem q1543 : (Jvm.Cond.code ({ cls := "KeptLeavesModel", name := "turns", desc := "(II)I" } : Jvm.MethodName) prog_19_method_24_code (3 : Nat) (Option.some Jvm.ClassFile.FieldType.int)) ∈ lw_all := lw_g (lw_at lw_m7 1 rfl) rfl
theorem q1544 : (Jvm.Cond.methodLink "KeptLeavesModel" (147 : Nat) ({ cls := "KeptLeavesModel", name := "becomes", desc := "(II)I" } : Jvm.MethodName)) ∈ lw_all := lw_g (lw_at lw_m7 2 rfl) rfl
theorem q1545 : (Jvm.Cond.privateMethod ({ cls := "KeptLeavesModel", name := "becomes", desc := "(II)I" } : Jvm.MethodName)) ∈ lw_tbl := lw_at lw_m7 3 rfl
theorem q1546 : (Jvm.Cond.instanceMethod ({ cls := "KeptLeavesModel", name := "becomes", desc := "(II)I" } : Jvm.MethodName)) ∈ lw_all := lw_g (lw_at lw_m7 4 rfl) rfl
theorem q1547 : (Jvm.Cond.code ({ cls := "KeptLeavesModel", name := "becomes", desc := "(II)I" } : Jvm.MethodName) prog_19_method_4_code (4 : Nat) (Option.some Jvm.ClassFile.FieldType.int)) ∈ lw_all := lw_g (lw_at lw_m7 5 rfl) rfl
theorem q1549 : (Jvm.Cond.instanceMethod ({ cls := "KeptLeavesModel", name := "set", desc := "(III)I" } : Jvm.MethodName)) ∈ lw_all := lw_g (lw_at lw_m7 7 rfl) rfl
theorem q1550 : (Jvm.Cond.selects "KeptLeavesModel" ({ cls := "KeptLeavesModel", name := "set", desc := "(III)I" } : Jvm.MethodName) ({ cls := "KeptLeavesModel", name := "set", desc := "(III)I" } : Jvm.MethodName)) ∈ lw_all := lw_g (lw_at lw_m7 8 rfl) rfl
theorem q1551 : (Jvm.Cond.code ({ cls := "KeptLeavesModel", name := "set", desc := "(III)I" } : Jvm.MethodName) prog_19_method_25_code (4 : Nat) (Option.some Jvm.ClassFile.FieldType.int)) ∈ lw_all := lw_g (lw_at lw_m7 9 rfl) rfl
theorem q1552 : (Jvm.Cond.constantLong "KeptLeavesModel" (151 : Nat) (2 : Int64)) ∈ lw_all := lw_g (lw_at lw_m7 10 rfl) rfl
theorem q1554 : (Jvm.Cond.instanceMethod ({ cls := "KeptLeavesModel", name := "leans", desc := "(II)I" } : Jvm.MethodName)) ∈ lw_all := lw_g (lw_at lw_m7 12 rfl) rfl
theorem q1555 : (Jvm.Cond.selects "KeptLeavesModel" ({ cls := "KeptLeavesModel", name := "leans", desc := "(II)I" } : Jvm.MethodName) ({ cls := "KeptLeavesModel", name := "leans", desc := "(II)I" } : Jvm.MethodName)) ∈ lw_all := lw_g (lw_at lw_m7 13 rfl) rfl
theorem q1556 : (Jvm.Cond.code ({ cls := "KeptLeavesModel", name := "leans", desc := "(II)I" } : Jvm.MethodName) prog_19_method_26_code (3 : Nat) (Option.some Jvm.ClassFile.FieldType.int)) ∈ lw_all := lw_g (lw_at lw_m7 14 rfl) rfl
theorem q1558 : (Jvm.Cond.instanceMethod ({ cls := "KeptLeavesModel", name := "deal", desc := "(I)I" } : Jvm.MethodName)) ∈ lw_all := lw_g (lw_at lw_m7 16 rfl) rfl
theorem q1559 : (Jvm.Cond.selects "KeptLeavesModel" ({ cls := "KeptLeavesModel", name := "deal", desc := "(I)I" } : Jvm.MethodName) ({ cls := "KeptLeavesModel", name := "deal", desc := "(I)I" } : Jvm.MethodName)) ∈ lw_all := lw_g (lw_at lw_m7 17 rfl) rfl
theorem q1560 : (Jvm.Cond.code ({ cls := "KeptLeavesModel", name := "deal", desc := "(I)I" } : Jvm.MethodName) prog_19_method_27_code (6 : Nat) (Option.some Jvm.ClassFile.FieldType.int)) ∈ lw_all := lw_g (lw_at lw_m7 18 rfl) rfl
theorem q1561 : (Jvm.Cond.constantLong "KeptLeavesModel" (153 : Nat) (8 : Int64)) ∈ lw_all := lw_g (lw_at lw_m7 19 rfl) rfl
theorem q1562 : (Jvm.Cond.methodLink "KeptLeavesModel" (155 : Nat) ({ cls := "KeptLeavesModel", name := "drawn", desc := "()I" } : Jvm.MethodName)) ∈ lw_all := lw_g (lw_at lw_m7 20 rfl) rfl
theorem q1563 : (Jvm.Cond.privateMethod ({ cls := "KeptLeavesModel", name := "drawn", desc := "()I" } : Jvm.MethodName)) ∈ lw_tbl := lw_at lw_m7 21 rfl
theorem q1564 : (Jvm.Cond.instanceMethod ({ cls := "KeptLeavesModel", name := "drawn", desc := "()I" } : Jvm.MethodName)) ∈ lw_all := lw_g (lw_at lw_m7 22 rfl) rfl
theorem q1565 : (Jvm.Cond.code ({ cls := "KeptLeavesModel", name := "drawn", desc := "()I" } : Jvm.MethodName) prog_19_method_9_code (1 : Nat) (Option.some Jvm.ClassFile.FieldType.int)) ∈ lw_all := lw_g (lw_at lw_m7 23 rfl) rfl
theorem q1566 : (Jvm.Cond.constant "KeptLeavesModel" (87 : Nat) (1103515245 : Int32)) ∈ lw_all := lw_g (lw_at lw_m7 24 rfl) rfl
theorem q1568 : (Jvm.Cond.instanceMethod ({ cls := "KeptLeavesModel", name := "space", desc := "(I)I" } : Jvm.MethodName)) ∈ lw_all := lw_g (lw_at lw_m7 26 rfl) rfl
theorem q1569 : (Jvm.Cond.selects "KeptLeavesModel" ({ cls := "KeptLeavesModel", name := "space", desc := "(I)I" } : Jvm.MethodName) ({ cls := "KeptLeavesModel", name := "space", desc := "(I)I" } : Jvm.MethodName)) ∈ lw_all := lw_g (lw_at lw_m7 27 rfl) rfl
theorem q1570 : (Jvm.Cond.code ({ cls := "KeptLeavesModel", name := "space", desc := "(I)I" } : Jvm.MethodName) prog_19_method_36_code (2 : Nat) (Option.some Jvm.ClassFile.FieldType.int)) ∈ lw_all := lw_g (lw_at lw_m7 28 rfl) rfl
theorem q1571 : (Jvm.Cond.constantLong "KeptLeavesModel" (180 : Nat) (60 : Int64)) ∈ lw_all := lw_g (lw_at lw_m7 29 rfl) rfl
theorem q1572 : (Jvm.Cond.methodLink "KeptLeavesModel" (182 : Nat) ({ cls := "KeptLeavesModel", name := "knows", desc := "()V" } : Jvm.MethodName)) ∈ lw_all := lw_g (lw_at lw_m7 30 rfl) rfl
theorem q1573 : (Jvm.Cond.privateMethod ({ cls := "KeptLeavesModel", name := "knows", desc := "()V" } : Jvm.MethodName)) ∈ lw_tbl := lw_at lw_m7 31 rfl
theorem q1574 : (Jvm.Cond.instanceMethod ({ cls := "KeptLeavesModel", name := "knows", desc := "()V" } : Jvm.MethodName)) ∈ lw_all := lw_g (lw_at lw_m7 32 rfl) rfl
theorem q1575 : (Jvm.Cond.code ({ cls := "KeptLeavesModel", name := "knows", desc := "()V" } : Jvm.MethodName) prog_19_method_15_code (2 : Nat) (Option.none : Option Jvm.ClassFile.FieldType)) ∈ lw_all := lw_g (lw_at lw_m7 33 rfl) rfl
theorem q1576 : (Jvm.Cond.methodLink "KeptLeavesModel" (177 : Nat) ({ cls := "KeptLeavesModel", name := "throwsFor", desc := "(I)I" } : Jvm.MethodName)) ∈ lw_all := lw_g (lw_at lw_m7 34 rfl) rfl
theorem q1577 : (Jvm.Cond.privateMethod ({ cls := "KeptLeavesModel", name := "throwsFor", desc := "(I)I" } : Jvm.MethodName)) ∈ lw_tbl := lw_at lw_m7 35 rfl
theorem q1578 : (Jvm.Cond.instanceMethod ({ cls := "KeptLeavesModel", name := "throwsFor", desc := "(I)I" } : Jvm.MethodName)) ∈ lw_all := lw_g (lw_at lw_m7 36 rfl) rfl
theorem q1579 : (Jvm.Cond.code ({ cls := "KeptLeavesModel", name := "throwsFor", desc := "(I)I" } : Jvm.MethodName) prog_19_method_34_code (3 : Nat) (Option.some Jvm.ClassFile.FieldType.int)) ∈ lw_all := lw_g (lw_at lw_m7 37 rfl) rfl
theorem q1580 : (Jvm.Cond.methodLink "KeptLeavesModel" (167 : Nat) ({ cls := "KeptLeavesModel", name := "fullness", desc := "()I" } : Jvm.MethodName)) ∈ lw_all := lw_g (lw_at lw_m7 38 rfl) rfl
theorem q1581 : (Jvm.Cond.privateMethod ({ cls := "KeptLeavesModel", name := "fullness", desc := "()I" } : Jvm.MethodName)) ∈ lw_tbl := lw_at lw_m7 39 rfl
theorem q1582 : (Jvm.Cond.instanceMethod ({ cls := "KeptLeavesModel", name := "fullness", desc := "()I" } : Jvm.MethodName)) ∈ lw_all := lw_g (lw_at lw_m7 40 rfl) rfl
theorem q1583 : (Jvm.Cond.code ({ cls := "KeptLeavesModel", name := "fullness", desc := "()I" } : Jvm.MethodName) prog_19_method_28_code (3 : Nat) (Option.some Jvm.ClassFile.FieldType.int)) ∈ lw_all := lw_g (lw_at lw_m7 41 rfl) rfl
theorem q1584 : (Jvm.Cond.methodLink "KeptLeavesModel" (170 : Nat) ({ cls := "KeptLeavesModel", name := "goesFirst", desc := "()I" } : Jvm.MethodName)) ∈ lw_all := lw_g (lw_at lw_m7 42 rfl) rfl
theorem q1585 : (Jvm.Cond.privateMethod ({ cls := "KeptLeavesModel", name := "goesFirst", desc := "()I" } : Jvm.MethodName)) ∈ lw_tbl := lw_at lw_m7 43 rfl
theorem q1586 : (Jvm.Cond.instanceMethod ({ cls := "KeptLeavesModel", name := "goesFirst", desc := "()I" } : Jvm.MethodName)) ∈ lw_all := lw_g (lw_at lw_m7 44 rfl) rfl
theorem q1587 : (Jvm.Cond.code ({ cls := "KeptLeavesModel", name := "goesFirst", desc := "()I" } : Jvm.MethodName) prog_19_method_33_code (7 : Nat) (Option.some Jvm.ClassFile.FieldType.int)) ∈ lw_all := lw_g (lw_at lw_m7 45 rfl) rfl
theorem q1588 : (Jvm.Cond.methodLink "KeptLeavesModel" (161 : Nat) ({ cls := "KeptLeavesModel", name := "mayGo", desc := "(I)Z" } : Jvm.MethodName)) ∈ lw_all := lw_g (lw_at lw_m7 46 rfl) rfl
theorem q1589 : (Jvm.Cond.privateMethod ({ cls := "KeptLeavesModel", name := "mayGo", desc := "(I)Z" } : Jvm.MethodName)) ∈ lw_tbl := lw_at lw_m7 47 rfl
theorem q1590 : (Jvm.Cond.instanceMethod ({ cls := "KeptLeavesModel", name := "mayGo", desc := "(I)Z" } : Jvm.MethodName)) ∈ lw_all := lw_g (lw_at lw_m7 48 rfl) rfl
theorem q1591 : (Jvm.Cond.code ({ cls := "KeptLeavesModel", name := "mayGo", desc := "(I)Z" } : Jvm.MethodName) prog_19_method_31_code (2 : Nat) (Option.some Jvm.ClassFile.FieldType.boolean)) ∈ lw_all := lw_g (lw_at lw_m7 49 rfl) rfl
theorem q1592 : (Jvm.Cond.methodLink "KeptLeavesModel" (158 : Nat) ({ cls := "KeptLeavesModel", name := "isLeaned", desc := "(I)Z" } : Jvm.MethodName)) ∈ lw_all := lw_g (lw_at lw_m7 50 rfl) rfl
theorem q1593 : (Jvm.Cond.privateMethod ({ cls := "KeptLeavesModel", name := "isLeaned", desc := "(I)Z" } : Jvm.MethodName)) ∈ lw_tbl := lw_at lw_m7 51 rfl
theorem q1594 : (Jvm.Cond.instanceMethod ({ cls := "KeptLeavesModel", name := "isLeaned", desc := "(I)Z" } : Jvm.MethodName)) ∈ lw_all := lw_g (lw_at lw_m7 52 rfl) rfl
theorem q1595 : (Jvm.Cond.code ({ cls := "KeptLeavesModel", name := "isLeaned", desc := "(I)Z" } : Jvm.MethodName) prog_19_method_30_code (4 : Nat) (Option.some Jvm.ClassFile.FieldType.boolean)) ∈ lw_all := lw_g (lw_at lw_m7 53 rfl) rfl
theorem q1596 : (Jvm.Cond.methodLink "KeptLeavesModel" (164 : Nat) ({ cls := "KeptLeavesModel", name := "speaks", desc := "(I)I" } : Jvm.MethodName)) ∈ lw_all := lw_g (lw_at lw_m7 54 rfl) rfl
theorem q1597 : (Jvm.Cond.privateMethod ({ cls := "KeptLeavesModel", name := "speaks", desc := "(I)I" } : Jvm.MethodName)) ∈ lw_tbl := lw_at lw_m7 55 rfl
theorem q1598 : (Jvm.Cond.instanceMethod ({ cls := "KeptLeavesModel", name := "speaks", desc := "(I)I" } : Jvm.MethodName)) ∈ lw_all := lw_g (lw_at lw_m7 56 rfl) rfl
theorem q1599 : (Jvm.Cond.code ({ cls := "KeptLeavesModel", name := "speaks", desc := "(I)I" } : Jvm.MethodName) prog_19_method_32_code (5 : Nat) (Option.some Jvm.ClassFile.FieldType.int)) ∈ lw_all := lw_g (lw_at lw_m7 57 rfl) rfl
theorem q1600 : (Jvm.Cond.methodLink "KeptLeavesModel" (173 : Nat) ({ cls := "KeptLeavesModel", name := "leaves", desc := "(I)V" } : Jvm.MethodName)) ∈ lw_all := lw_g (lw_at lw_m7 58 rfl) rfl
theorem q1601 : (Jvm.Cond.privateMethod ({ cls := "KeptLeavesModel", name := "leaves", desc := "(I)V" } : Jvm.MethodName)) ∈ lw_tbl := lw_at lw_m7 59 rfl
theorem q1602 : (Jvm.Cond.instanceMethod ({ cls := "KeptLeavesModel", name := "leaves", desc := "(I)V" } : Jvm.MethodName)) ∈ lw_all := lw_g (lw_at lw_m7 60 rfl) rfl
theorem q1603 : (Jvm.Cond.code ({ cls := "KeptLeavesModel", name := "leaves", desc := "(I)V" } : Jvm.MethodName) prog_19_method_29_code (3 : Nat) (Option.none : Option Jvm.ClassFile.FieldType)) ∈ lw_all := lw_g (lw_at lw_m7 61 rfl) rfl
theorem q1605 : (Jvm.Cond.instanceMethod ({ cls := "KeptLeavesModel", name := "rule", desc := "(I)I" } : Jvm.MethodName)) ∈ lw_all := lw_g (lw_at lw_m7 63 rfl) rfl
theorem q1606 : (Jvm.Cond.selects "KeptLeavesModel" ({ cls := "KeptLeavesModel", name := "rule", desc := "(I)I" } : Jvm.MethodName) ({ cls := "KeptLeavesModel", name := "rule", desc := "(I)I" } : Jvm.MethodName)) ∈ lw_all := lw_g (lw_at lw_m7 64 rfl) rfl
theorem q1607 : (Jvm.Cond.code ({ cls := "KeptLeavesModel", name := "rule", desc := "(I)I" } : Jvm.MethodName) prog_19_method_37_code (2 : Nat) (Option.some Jvm.ClassFile.FieldType.int)) ∈ lw_all := lw_g (lw_at lw_m7 65 rfl) rfl
theorem q1608 : (Jvm.Cond.constantLong "KeptLeavesModel" (185 : Nat) (4 : Int64)) ∈ lw_all := lw_g (lw_at lw_m7 66 rfl) rfl
theorem q1610 : (Jvm.Cond.instanceMethod ({ cls := "KeptLeavesModel", name := "care", desc := "(I)I" } : Jvm.MethodName)) ∈ lw_all := lw_g (lw_at lw_m7 68 rfl) rfl
theorem q1611 : (Jvm.Cond.selects "KeptLeavesModel" ({ cls := "KeptLeavesModel", name := "care", desc := "(I)I" } : Jvm.MethodName) ({ cls := "KeptLeavesModel", name := "care", desc := "(I)I" } : Jvm.MethodName)) ∈ lw_all := lw_g (lw_at lw_m7 69 rfl) rfl
theorem q1612 : (Jvm.Cond.code ({ cls := "KeptLeavesModel", name := "care", desc := "(I)I" } : Jvm.MethodName) prog_19_method_38_code (2 : Nat) (Option.some Jvm.ClassFile.FieldType.int)) ∈ lw_all := lw_g (lw_at lw_m7 70 rfl) rfl
theorem q1614 : (Jvm.Cond.instanceMethod ({ cls := "KeptLeavesModel", name := "want", desc := "(I)I" } : Jvm.MethodName)) ∈ lw_all := lw_g (lw_at lw_m7 72 rfl) rfl
theorem q1615 : (Jvm.Cond.selects "KeptLeavesModel" ({ cls := "KeptLeavesModel", name := "want", desc := "(I)I" } : Jvm.MethodName) ({ cls := "KeptLeavesModel", name := "want", desc := "(I)I" } : Jvm.MethodName)) ∈ lw_all := lw_g (lw_at lw_m7 73 rfl) rfl
theorem q1616 : (Jvm.Cond.code ({ cls := "KeptLeavesModel", name := "want", desc := "(I)I" } : Jvm.MethodName) prog_19_method_39_code (2 : Nat) (Option.some Jvm.ClassFile.FieldType.int)) ∈ lw_all := lw_g (lw_at lw_m7 74 rfl) rfl
theorem q1617 : (Jvm.Cond.methodLink "KeptLeavesModel" (187 : Nat) ({ cls := "KeptLeavesModel", name := "asks", desc := "(I)Z" } : Jvm.MethodName)) ∈ lw_all := lw_g (lw_at lw_m7 75 rfl) rfl
theorem q1618 : (Jvm.Cond.privateMethod ({ cls := "KeptLeavesModel", name := "asks", desc := "(I)Z" } : Jvm.MethodName)) ∈ lw_tbl := lw_at lw_m7 76 rfl
theorem q1619 : (Jvm.Cond.instanceMethod ({ cls := "KeptLeavesModel", name := "asks", desc := "(I)Z" } : Jvm.MethodName)) ∈ lw_all := lw_g (lw_at lw_m7 77 rfl) rfl
theorem q1620 : (Jvm.Cond.code ({ cls := "KeptLeavesModel", name := "asks", desc := "(I)Z" } : Jvm.MethodName) prog_19_method_35_code (4 : Nat) (Option.some Jvm.ClassFile.FieldType.boolean)) ∈ lw_all := lw_g (lw_at lw_m7 78 rfl) rfl
theorem q1622 : (Jvm.Cond.instanceMethod ({ cls := "KeptLeavesModel", name := "next", desc := "()I" } : Jvm.MethodName)) ∈ lw_all := lw_g (lw_at lw_m7 80 rfl) rfl
theorem q1623 : (Jvm.Cond.selects "KeptLeavesModel" ({ cls := "KeptLeavesModel", name := "next", desc := "()I" } : Jvm.MethodName) ({ cls := "KeptLeavesModel", name := "next", desc := "()I" } : Jvm.MethodName)) ∈ lw_all := lw_g (lw_at lw_m7 81 rfl) rfl
theorem q1624 : (Jvm.Cond.code ({ cls := "KeptLeavesModel", name := "next", desc := "()I" } : Jvm.MethodName) prog_19_method_40_code (3 : Nat) (Option.some Jvm.ClassFile.FieldType.int)) ∈ lw_all := lw_g (lw_at lw_m7 82 rfl) rfl
theorem q1626 : (Jvm.Cond.instanceMethod ({ cls := "KeptLeavesModel", name := "out", desc := "(I)I" } : Jvm.MethodName)) ∈ lw_all := lw_g (lw_at lw_m7 84 rfl) rfl
theorem q1627 : (Jvm.Cond.selects "KeptLeavesModel" ({ cls := "KeptLeavesModel", name := "out", desc := "(I)I" } : Jvm.MethodName) ({ cls := "KeptLeavesModel", name := "out", desc := "(I)I" } : Jvm.MethodName)) ∈ lw_all := lw_g (lw_at lw_m7 85 rfl) rfl
theorem q1628 : (Jvm.Cond.code ({ cls := "KeptLeavesModel", name := "out", desc := "(I)I" } : Jvm.MethodName) prog_19_method_41_code (3 : Nat) (Option.some Jvm.ClassFile.FieldType.int)) ∈ lw_all := lw_g (lw_at lw_m7 86 rfl) rfl
theorem q1630 : (Jvm.Cond.instanceMethod ({ cls := "KeptLeavesModel", name := "at", desc := "(I)I" } : Jvm.MethodName)) ∈ lw_all := lw_g (lw_at lw_m7 88 rfl) rfl
theorem q1631 : (Jvm.Cond.selects "KeptLeavesModel" ({ cls := "KeptLeavesModel", name := "at", desc := "(I)I" } : Jvm.MethodName) ({ cls := "KeptLeavesModel", name := "at", desc := "(I)I" } : Jvm.MethodName)) ∈ lw_all := lw_g (lw_at lw_m7 89 rfl) rfl
theorem q1632 : (Jvm.Cond.code ({ cls := "KeptLeavesModel", name := "at", desc := "(I)I" } : Jvm.MethodName) prog_19_method_42_code (2 : Nat) (Option.some Jvm.ClassFile.FieldType.int)) ∈ lw_all := lw_g (lw_at lw_m7 90 rfl) rfl
theorem q1634 : (Jvm.Cond.instanceMethod ({ cls := "KeptLeavesModel", name := "fire", desc := "(I)I" } : Jvm.MethodName)) ∈ lw_all := lw_g (lw_at lw_m7 92 rfl) rfl
theorem q1635 : (Jvm.Cond.selects "KeptLeavesModel" ({ cls := "KeptLeavesModel", name := "fire", desc := "(I)I" } : Jvm.MethodName) ({ cls := "KeptLeavesModel", name := "fire", desc := "(I)I" } : Jvm.MethodName)) ∈ lw_all := lw_g (lw_at lw_m7 93 rfl) rfl
theorem q1636 : (Jvm.Cond.code ({ cls := "KeptLeavesModel", name := "fire", desc := "(I)I" } : Jvm.MethodName) prog_19_method_43_code (5 : Nat) (Option.some Jvm.ClassFile.FieldType.int)) ∈ lw_all := lw_g (lw_at lw_m7 94 rfl) rfl
theorem q1637 : (Jvm.Cond.constantLong "KeptLeavesModel" (190 : Nat) (20 : Int64)) ∈ lw_all := lw_g (lw_at lw_m7 95 rfl) rfl
theorem q1639 : (Jvm.Cond.instanceMethod ({ cls := "KeptLeavesModel", name := "seed", desc := "(I)I" } : Jvm.MethodName)) ∈ lw_all := lw_g (lw_at lw_m7 97 rfl) rfl
theorem q1640 : (Jvm.Cond.selects "KeptLeavesModel" ({ cls := "KeptLeavesModel", name := "seed", desc := "(I)I" } : Jvm.MethodName) ({ cls := "KeptLeavesModel", name := "seed", desc := "(I)I" } : Jvm.MethodName)) ∈ lw_all := lw_g (lw_at lw_m7 98 rfl) rfl
theorem q1641 : (Jvm.Cond.code ({ cls := "KeptLeavesModel", name := "seed", desc := "(I)I" } : Jvm.MethodName) prog_19_method_44_code (2 : Nat) (Option.some Jvm.ClassFile.FieldType.int)) ∈ lw_all := lw_g (lw_at lw_m7 99 rfl) rfl
theorem q1643 : (Jvm.Cond.instanceMethod ({ cls := "KeptLeavesModel", name := "plan", desc := "(I)I" } : Jvm.MethodName)) ∈ lw_all := lw_g (lw_at lw_m7 101 rfl) rfl
theorem q1644 : (Jvm.Cond.selects "KeptLeavesModel" ({ cls := "KeptLeavesModel", name := "plan", desc := "(I)I" } : Jvm.MethodName) ({ cls := "KeptLeavesModel", name := "plan", desc := "(I)I" } : Jvm.MethodName)) ∈ lw_all := lw_g (lw_at lw_m7 102 rfl) rfl
theorem q1645 : (Jvm.Cond.code ({ cls := "KeptLeavesModel", name := "plan", desc := "(I)I" } : Jvm.MethodName) prog_19_method_45_code (2 : Nat) (Option.some Jvm.ClassFile.FieldType.int)) ∈ lw_all := lw_g (lw_at lw_m7 103 rfl) rfl
theorem q1647 : (Jvm.Cond.instanceMethod ({ cls := "KeptLeavesModel", name := "clear", desc := "()I" } : Jvm.MethodName)) ∈ lw_all := lw_g (lw_at lw_m7 105 rfl) rfl
theorem q1648 : (Jvm.Cond.selects "KeptLeavesModel" ({ cls := "KeptLeavesModel", name := "clear", desc := "()I" } : Jvm.MethodName) ({ cls := "KeptLeavesModel", name := "clear", desc := "()I" } : Jvm.MethodName)) ∈ lw_all := lw_g (lw_at lw_m7 106 rfl) rfl
theorem q1649 : (Jvm.Cond.code ({ cls := "KeptLeavesModel", name := "clear", desc := "()I" } : Jvm.MethodName) prog_19_method_46_code (1 : Nat) (Option.some Jvm.ClassFile.FieldType.int)) ∈ lw_all := lw_g (lw_at lw_m7 107 rfl) rfl
theorem q1651 : (Jvm.Cond.instanceMethod ({ cls := "KeptLeavesModel", name := "run", desc := "(I)I" } : Jvm.MethodName)) ∈ lw_all := lw_g (lw_at lw_m7 109 rfl) rfl
theorem q1652 : (Jvm.Cond.selects "KeptLeavesModel" ({ cls := "KeptLeavesModel", name := "run", desc := "(I)I" } : Jvm.MethodName) ({ cls := "KeptLeavesModel", name := "run", desc := "(I)I" } : Jvm.MethodName)) ∈ lw_all := lw_g (lw_at lw_m7 110 rfl) rfl
theorem q1653 : (Jvm.Cond.code ({ cls := "KeptLeavesModel", name := "run", desc := "(I)I" } : Jvm.MethodName) prog_19_method_47_code (5 : Nat) (Option.some Jvm.ClassFile.FieldType.int)) ∈ lw_all := lw_g (lw_at lw_m7 111 rfl) rfl
theorem q1654 : (Jvm.Cond.constantLong "KeptLeavesModel" (192 : Nat) (24 : Int64)) ∈ lw_all := lw_g (lw_at lw_m7 112 rfl) rfl
theorem q1655 : (Jvm.Cond.constant "KeptLeavesModel" (194 : Nat) (-1000000002 : Int32)) ∈ lw_all := lw_g (lw_at lw_m7 113 rfl) rfl
theorem q1657 : (Jvm.Cond.instanceMethod ({ cls := "KeptLeavesModel", name := "would", desc := "()I" } : Jvm.MethodName)) ∈ lw_all := lw_g (lw_at lw_m7 115 rfl) rfl
theorem q1658 : (Jvm.Cond.selects "KeptLeavesModel" ({ cls := "KeptLeavesModel", name := "would", desc := "()I" } : Jvm.MethodName) ({ cls := "KeptLeavesModel", name := "would", desc := "()I" } : Jvm.MethodName)) ∈ lw_all := lw_g (lw_at lw_m7 116 rfl) rfl
theorem q1659 : (Jvm.Cond.code ({ cls := "KeptLeavesModel", name := "would", desc := "()I" } : Jvm.MethodName) prog_19_method_50_code (1 : Nat) (Option.some Jvm.ClassFile.FieldType.int)) ∈ lw_all := lw_g (lw_at lw_m7 117 rfl) rfl
theorem q1660 : (Jvm.Cond.methodLink "KeptLeavesModel" (195 : Nat) ({ cls := "KeptLeavesModel", name := "triesRow", desc := "()I" } : Jvm.MethodName)) ∈ lw_all := lw_g (lw_at lw_m7 118 rfl) rfl
theorem q1661 : (Jvm.Cond.privateMethod ({ cls := "KeptLeavesModel", name := "triesRow", desc := "()I" } : Jvm.MethodName)) ∈ lw_tbl := lw_at lw_m7 119 rfl
theorem q1662 : (Jvm.Cond.instanceMethod ({ cls := "KeptLeavesModel", name := "triesRow", desc := "()I" } : Jvm.MethodName)) ∈ lw_all := lw_g (lw_at lw_m7 120 rfl) rfl
theorem q1663 : (Jvm.Cond.code ({ cls := "KeptLeavesModel", name := "triesRow", desc := "()I" } : Jvm.MethodName) prog_19_method_49_code (2 : Nat) (Option.some Jvm.ClassFile.FieldType.int)) ∈ lw_all := lw_g (lw_at lw_m7 121 rfl) rfl
theorem q1664 : (Jvm.Cond.methodLink "KeptLeavesModel" (198 : Nat) ({ cls := "KeptLeavesModel", name := "wouldCost", desc := "(I)I" } : Jvm.MethodName)) ∈ lw_all := lw_g (lw_at lw_m7 122 rfl) rfl
theorem q1665 : (Jvm.Cond.privateMethod ({ cls := "KeptLeavesModel", name := "wouldCost", desc := "(I)I" } : Jvm.MethodName)) ∈ lw_tbl := lw_at lw_m7 123 rfl
theorem q1666 : (Jvm.Cond.instanceMethod ({ cls := "KeptLeavesModel", name := "wouldCost", desc := "(I)I" } : Jvm.MethodName)) ∈ lw_all := lw_g (lw_at lw_m7 124 rfl) rfl
theorem q1667 : (Jvm.Cond.code ({ cls := "KeptLeavesModel", name := "wouldCost", desc := "(I)I" } : Jvm.MethodName) prog_19_method_48_code (4 : Nat) (Option.some Jvm.ClassFile.FieldType.int)) ∈ lw_all := lw_g (lw_at lw_m7 125 rfl) rfl
theorem q1669 : (Jvm.Cond.instanceMethod ({ cls := "KeptLeavesModel", name := "least", desc := "(I)I" } : Jvm.MethodName)) ∈ lw_all := lw_g (lw_at lw_m7 127 rfl) rfl
theorem q1670 : (Jvm.Cond.selects "KeptLeavesModel" ({ cls := "KeptLeavesModel", name := "least", desc := "(I)I" } : Jvm.MethodName) ({ cls := "KeptLeavesModel", name := "least", desc := "(I)I" } : Jvm.MethodName)) ∈ lw_all := lw_g (lw_at lw_m7 128 rfl) rfl
theorem q1671 : (Jvm.Cond.code ({ cls := "KeptLeavesModel", name := "least", desc := "(I)I" } : Jvm.MethodName) prog_19_method_55_code (3 : Nat) (Option.some Jvm.ClassFile.FieldType.int)) ∈ lw_all := lw_g (lw_at lw_m7 129 rfl) rfl
theorem q1672 : (Jvm.Cond.methodLink "KeptLeavesModel" (212 : Nat) ({ cls := "KeptLeavesModel", name := "knowsRooms", desc := "()V" } : Jvm.MethodName)) ∈ lw_all := lw_g (lw_at lw_m7 130 rfl) rfl
theorem q1673 : (Jvm.Cond.privateMethod ({ cls := "KeptLeavesModel", name := "knowsRooms", desc := "()V" } : Jvm.MethodName)) ∈ lw_tbl := lw_at lw_m7 131 rfl
theorem q1674 : (Jvm.Cond.instanceMethod ({ cls := "KeptLeavesModel", name := "knowsRooms", desc := "()V" } : Jvm.MethodName)) ∈ lw_all := lw_g (lw_at lw_m7 132 rfl) rfl
theorem q1675 : (Jvm.Cond.code ({ cls := "KeptLeavesModel", name := "knowsRooms", desc := "()V" } : Jvm.MethodName) prog_19_method_52_code (3 : Nat) (Option.none : Option Jvm.ClassFile.FieldType)) ∈ lw_all := lw_g (lw_at lw_m7 133 rfl) rfl
theorem q1676 : (Jvm.Cond.methodLink "KeptLeavesModel" (201 : Nat) ({ cls := "KeptLeavesModel", name := "sets", desc := "()I" } : Jvm.MethodName)) ∈ lw_all := lw_g (lw_at lw_m7 134 rfl) rfl
theorem q1677 : (Jvm.Cond.privateMethod ({ cls := "KeptLeavesModel", name := "sets", desc := "()I" } : Jvm.MethodName)) ∈ lw_tbl := lw_at lw_m7 135 rfl
theorem q1678 : (Jvm.Cond.instanceMethod ({ cls := "KeptLeavesModel", name := "sets", desc := "()I" } : Jvm.MethodName)) ∈ lw_all := lw_g (lw_at lw_m7 136 rfl) rfl
theorem q1679 : (Jvm.Cond.code ({ cls := "KeptLeavesModel", name := "sets", desc := "()I" } : Jvm.MethodName) prog_19_method_51_code (1 : Nat) (Option.some Jvm.ClassFile.FieldType.int)) ∈ lw_all := lw_g (lw_at lw_m7 137 rfl) rfl
theorem q1680 : (Jvm.Cond.methodLink "KeptLeavesModel" (215 : Nat) ({ cls := "KeptLeavesModel", name := "leastOf", desc := "(I)I" } : Jvm.MethodName)) ∈ lw_all := lw_g (lw_at lw_m7 138 rfl) rfl
theorem q1681 : (Jvm.Cond.privateMethod ({ cls := "KeptLeavesModel", name := "leastOf", desc := "(I)I" } : Jvm.MethodName)) ∈ lw_tbl := lw_at lw_m7 139 rfl
theorem q1682 : (Jvm.Cond.instanceMethod ({ cls := "KeptLeavesModel", name := "leastOf", desc := "(I)I" } : Jvm.MethodName)) ∈ lw_all := lw_g (lw_at lw_m7 140 rfl) rfl
theorem q1683 : (Jvm.Cond.code ({ cls := "KeptLeavesModel", name := "leastOf", desc := "(I)I" } : Jvm.MethodName) prog_19_method_54_code (6 : Nat) (Option.some Jvm.ClassFile.FieldType.int)) ∈ lw_all := lw_g (lw_at lw_m7 141 rfl) rfl
theorem q1684 : (Jvm.Cond.methodLink "KeptLeavesModel" (209 : Nat) ({ cls := "KeptLeavesModel", name := "lookWithin", desc := "()V" } : Jvm.MethodName)) ∈ lw_all := lw_g (lw_at lw_m7 142 rfl) rfl
theorem q1685 : (Jvm.Cond.privateMethod ({ cls := "KeptLeavesModel", name := "lookWithin", desc := "()V" } : Jvm.MethodName)) ∈ lw_tbl := lw_at lw_m7 143 rfl
theorem q1686 : (Jvm.Cond.instanceMethod ({ cls := "KeptLeavesModel", name := "lookWithin", desc := "()V" } : Jvm.MethodName)) ∈ lw_all := lw_g (lw_at lw_m7 144 rfl) rfl
theorem q1687 : (Jvm.Cond.code ({ cls := "KeptLeavesModel", name := "lookWithin", desc := "()V" } : Jvm.MethodName) prog_19_method_53_code (5 : Nat) (Option.none : Option Jvm.ClassFile.FieldType)) ∈ lw_all := lw_g (lw_at lw_m7 145 rfl) rfl
theorem q1688 : (Jvm.Cond.constant "KeptLeavesModel" (204 : Nat) (1000000000 : Int32)) ∈ lw_all := lw_g (lw_at lw_m7 146 rfl) rfl
theorem q1690 : (Jvm.Cond.instanceMethod ({ cls := "KeptLeavesModel", name := "hold", desc := "(I)I" } : Jvm.MethodName)) ∈ lw_all := lw_g (lw_at lw_m7 148 rfl) rfl
theorem q1691 : (Jvm.Cond.selects "KeptLeavesModel" ({ cls := "KeptLeavesModel", name := "hold", desc := "(I)I" } : Jvm.MethodName) ({ cls := "KeptLeavesModel", name := "hold", desc := "(I)I" } : Jvm.MethodName)) ∈ lw_all := lw_g (lw_at lw_m7 149 rfl) rfl
theorem q1692 : (Jvm.Cond.code ({ cls := "KeptLeavesModel", name := "hold", desc := "(I)I" } : Jvm.MethodName) prog_19_method_57_code (2 : Nat) (Option.some Jvm.ClassFile.FieldType.int)) ∈ lw_all := lw_g (lw_at lw_m7 150 rfl) rfl
theorem q1693 : (Jvm.Cond.methodLink "KeptLeavesModel" (218 : Nat) ({ cls := "KeptLeavesModel", name := "heldBy", desc := "(I)I" } : Jvm.MethodName)) ∈ lw_all := lw_g (lw_at lw_m7 151 rfl) rfl
theorem q1694 : (Jvm.Cond.privateMethod ({ cls := "KeptLeavesModel", name := "heldBy", desc := "(I)I" } : Jvm.MethodName)) ∈ lw_tbl := lw_at lw_m7 152 rfl
theorem q1695 : (Jvm.Cond.instanceMethod ({ cls := "KeptLeavesModel", name := "heldBy", desc := "(I)I" } : Jvm.MethodName)) ∈ lw_all := lw_g (lw_at lw_m7 153 rfl) rfl
theorem q1696 : (Jvm.Cond.code ({ cls := "KeptLeavesModel", name := "heldBy", desc := "(I)I" } : Jvm.MethodName) prog_19_method_56_code (4 : Nat) (Option.some Jvm.ClassFile.FieldType.int)) ∈ lw_all := lw_g (lw_at lw_m7 154 rfl) rfl
theorem q1698 : (Jvm.Cond.instanceMethod ({ cls := "KeptLeavesModel", name := "best", desc := "(I)I" } : Jvm.MethodName)) ∈ lw_all := lw_g (lw_at lw_m7 156 rfl) rfl
theorem q1699 : (Jvm.Cond.selects "KeptLeavesModel" ({ cls := "KeptLeavesModel", name := "best", desc := "(I)I" } : Jvm.MethodName) ({ cls := "KeptLeavesModel", name := "best", desc := "(I)I" } : Jvm.MethodName)) ∈ lw_all := lw_g (lw_at lw_m7 157 rfl) rfl
theorem q1700 : (Jvm.Cond.code ({ cls := "KeptLeavesModel", name := "best", desc := "(I)I" } : Jvm.MethodName) prog_19_method_59_code (3 : Nat) (Option.some Jvm.ClassFile.FieldType.int)) ∈ lw_all := lw_g (lw_at lw_m7 158 rfl) rfl
theorem q1701 : (Jvm.Cond.methodLink "KeptLeavesModel" (221 : Nat) ({ cls := "KeptLeavesModel", name := "bestWithout", desc := "(I)I" } : Jvm.MethodName)) ∈ lw_all := lw_g (lw_at lw_m7 159 rfl) rfl
theorem q1702 : (Jvm.Cond.privateMethod ({ cls := "KeptLeavesModel", name := "bestWithout", desc := "(I)I" } : Jvm.MethodName)) ∈ lw_tbl := lw_at lw_m7 160 rfl
theorem q1703 : (Jvm.Cond.instanceMethod ({ cls := "KeptLeavesModel", name := "bestWithout", desc := "(I)I" } : Jvm.MethodName)) ∈ lw_all := lw_g (lw_at lw_m7 161 rfl) rfl
theorem q1704 : (Jvm.Cond.code ({ cls := "KeptLeavesModel", name := "bestWithout", desc := "(I)I" } : Jvm.MethodName) prog_19_method_58_code (5 : Nat) (Option.some Jvm.ClassFile.FieldType.int)) ∈ lw_all := lw_g (lw_at lw_m7 162 rfl) rfl
theorem q1706 : (Jvm.Cond.instanceMethod ({ cls := "KeptLeavesModel", name := "price", desc := "(I)I" } : Jvm.MethodName)) ∈ lw_all := lw_g (lw_at lw_m7 164 rfl) rfl
theorem q1707 : (Jvm.Cond.selects "KeptLeavesModel" ({ cls := "KeptLeavesModel", name := "price", desc := "(I)I" } : Jvm.MethodName) ({ cls := "KeptLeavesModel", name := "price", desc := "(I)I" } : Jvm.MethodName)) ∈ lw_all := lw_g (lw_at lw_m7 165 rfl) rfl
theorem q1708 : (Jvm.Cond.code ({ cls := "KeptLeavesModel", name := "price", desc := "(I)I" } : Jvm.MethodName) prog_19_method_60_code (2 : Nat) (Option.some Jvm.ClassFile.FieldType.int)) ∈ lw_all := lw_g (lw_at lw_m7 166 rfl) rfl
theorem q1710 : (Jvm.Cond.instanceMethod ({ cls := "KeptLeavesModel", name := "means", desc := "(I)J" } : Jvm.MethodName)) ∈ lw_all := lw_g (lw_at lw_m7 168 rfl) rfl
theorem q1711 : (Jvm.Cond.selects "KeptLeavesModel" ({ cls := "KeptLeavesModel", name := "means", desc := "(I)J" } : Jvm.MethodName) ({ cls := "KeptLeavesModel", name := "means", desc := "(I)J" } : Jvm.MethodName)) ∈ lw_all := lw_g (lw_at lw_m7 169 rfl) rfl
theorem q1712 : (Jvm.Cond.code ({ cls := "KeptLeavesModel", name := "means", desc := "(I)J" } : Jvm.MethodName) prog_19_method_63_code (8 : Nat) (Option.some Jvm.ClassFile.FieldType.long)) ∈ lw_all := lw_g (lw_at lw_m7 170 rfl) rfl
theorem q1713 : (Jvm.Cond.constantLong "KeptLeavesModel" (224 : Nat) (3 : Int64)) ∈ lw_all := lw_g (lw_at lw_m7 171 rfl) rfl
theorem q1714 : (Jvm.Cond.constantLong "KeptLeavesModel" (226 : Nat) (-1000000001 : Int64)) ∈ lw_all := lw_g (lw_at lw_m7 172 rfl) rfl
theorem q1715 : (Jvm.Cond.methodLink "KeptLeavesModel" (228 : Nat) ({ cls := "KeptLeavesModel", name := "rowsOf", desc := "(I)I" } : Jvm.MethodName)) ∈ lw_all := lw_g (lw_at lw_m7 173 rfl) rfl
theorem q1716 : (Jvm.Cond.privateMethod ({ cls := "KeptLeavesModel", name := "rowsOf", desc := "(I)I" } : Jvm.MethodName)) ∈ lw_tbl := lw_at lw_m7 174 rfl
theorem q1717 : (Jvm.Cond.instanceMethod ({ cls := "KeptLeavesModel", name := "rowsOf", desc := "(I)I" } : Jvm.MethodName)) ∈ lw_all := lw_g (lw_at lw_m7 175 rfl) rfl
theorem q1718 : (Jvm.Cond.code ({ cls := "KeptLeavesModel", name := "rowsOf", desc := "(I)I" } : Jvm.MethodName) prog_19_method_62_code (4 : Nat) (Option.some Jvm.ClassFile.FieldType.int)) ∈ lw_all := lw_g (lw_at lw_m7 176 rfl) rfl
theorem q1719 : (Jvm.Cond.methodLink "KeptLeavesModel" (231 : Nat) ({ cls := "KeptLeavesModel", name := "laysRow", desc := "(II)V" } : Jvm.MethodName)) ∈ lw_all := lw_g (lw_at lw_m7 177 rfl) rfl
theorem q1720 : (Jvm.Cond.privateMethod ({ cls := "KeptLeavesModel", name := "laysRow", desc := "(II)V" } : Jvm.MethodName)) ∈ lw_tbl := lw_at lw_m7 178 rfl
theorem q1721 : (Jvm.Cond.instanceMethod ({ cls := "KeptLeavesModel", name := "laysRow", desc := "(II)V" } : Jvm.MethodName)) ∈ lw_all := lw_g (lw_at lw_m7 179 rfl) rfl
theorem q1722 : (Jvm.Cond.code ({ cls := "KeptLeavesModel", name := "laysRow", desc := "(II)V" } : Jvm.MethodName) prog_19_method_61_code (5 : Nat) (Option.none : Option Jvm.ClassFile.FieldType)) ∈ lw_all := lw_g (lw_at lw_m7 180 rfl) rfl
theorem q1724 : (Jvm.Cond.instanceMethod ({ cls := "KeptLeavesModel", name := "gap", desc := "(II)I" } : Jvm.MethodName)) ∈ lw_all := lw_g (lw_at lw_m7 182 rfl) rfl
theorem q1725 : (Jvm.Cond.selects "KeptLeavesModel" ({ cls := "KeptLeavesModel", name := "gap", desc := "(II)I" } : Jvm.MethodName) ({ cls := "KeptLeavesModel", name := "gap", desc := "(II)I" } : Jvm.MethodName)) ∈ lw_all := lw_g (lw_at lw_m7 183 rfl) rfl
theorem q1726 : (Jvm.Cond.code ({ cls := "KeptLeavesModel", name := "gap", desc := "(II)I" } : Jvm.MethodName) prog_19_method_64_code (7 : Nat) (Option.some Jvm.ClassFile.FieldType.int)) ∈ lw_all := lw_g (lw_at lw_m7 184 rfl) rfl
theorem q1728 : (Jvm.Cond.instanceMethod ({ cls := "KeptLeavesModel", name := "feed", desc := "(III)I" } : Jvm.MethodName)) ∈ lw_all := lw_g (lw_at lw_m7 186 rfl) rfl
theorem q1729 : (Jvm.Cond.selects "KeptLeavesModel" ({ cls := "KeptLeavesModel", name := "feed", desc := "(III)I" } : Jvm.MethodName) ({ cls := "KeptLeavesModel", name := "feed", desc := "(III)I" } : Jvm.MethodName)) ∈ lw_all := lw_g (lw_at lw_m7 187 rfl) rfl
theorem q1730 : (Jvm.Cond.code ({ cls := "KeptLeavesModel", name := "feed", desc := "(III)I" } : Jvm.MethodName) prog_19_method_65_code (6 : Nat) (Option.some Jvm.ClassFile.FieldType.int)) ∈ lw_all := lw_g (lw_at lw_m7 188 rfl) rfl
theorem q1732 : (Jvm.Cond.instanceMethod ({ cls := "KeptLeavesModel", name := "trim", desc := "(I)I" } : Jvm.MethodName)) ∈ lw_all := lw_g (lw_at lw_m7 190 rfl) rfl
theorem q1733 : (Jvm.Cond.selects "KeptLeavesModel" ({ cls := "KeptLeavesModel", name := "trim", desc := "(I)I" } : Jvm.MethodName) ({ cls := "KeptLeavesModel", name := "trim", desc := "(I)I" } : Jvm.MethodName)) ∈ lw_all := lw_g (lw_at lw_m7 191 rfl) rfl
theorem q1734 : (Jvm.Cond.code ({ cls := "KeptLeavesModel", name := "trim", desc := "(I)I" } : Jvm.MethodName) prog_19_method_66_code (2 : Nat) (Option.some Jvm.ClassFile.FieldType.int)) ∈ lw_all := lw_g (lw_at lw_m7 192 rfl) rfl
theorem q1736 : (Jvm.Cond.instanceMethod ({ cls := "KeptLeavesModel", name := "text", desc := "()I" } : Jvm.MethodName)) ∈ lw_all := lw_g (lw_at lw_m7 194 rfl) rfl
theorem q1737 : (Jvm.Cond.selects "KeptLeavesModel" ({ cls := "KeptLeavesModel", name := "text", desc := "()I" } : Jvm.MethodName) ({ cls := "KeptLeavesModel", name := "text", desc := "()I" } : Jvm.MethodName)) ∈ lw_all := lw_g (lw_at lw_m7 195 rfl) rfl
theorem q1738 : (Jvm.Cond.code ({ cls := "KeptLeavesModel", name := "text", desc := "()I" } : Jvm.MethodName) prog_19_method_83_code (3 : Nat) (Option.some Jvm.ClassFile.FieldType.int)) ∈ lw_all := lw_g (lw_at lw_m7 196 rfl) rfl
theorem q1739 : (Jvm.Cond.methodLink "KeptLeavesModel" (326 : Nat) ({ cls := "KeptLeavesModel", name := "parse", desc := "()I" } : Jvm.MethodName)) ∈ lw_all := lw_g (lw_at lw_m7 197 rfl) rfl
theorem q1740 : (Jvm.Cond.privateMethod ({ cls := "KeptLeavesModel", name := "parse", desc := "()I" } : Jvm.MethodName)) ∈ lw_tbl := lw_at lw_m7 198 rfl
theorem q1741 : (Jvm.Cond.instanceMethod ({ cls := "KeptLeavesModel", name := "parse", desc := "()I" } : Jvm.MethodName)) ∈ lw_all := lw_g (lw_at lw_m7 199 rfl) rfl
theorem q1742 : (Jvm.Cond.code ({ cls := "KeptLeavesModel", name := "parse", desc := "()I" } : Jvm.MethodName) prog_19_method_82_code (3 : Nat) (Option.some Jvm.ClassFile.FieldType.int)) ∈ lw_all := lw_g (lw_at lw_m7 200 rfl) rfl
theorem q1743 : (Jvm.Cond.methodLink "KeptLeavesModel" (287 : Nat) ({ cls := "KeptLeavesModel", name := "nextToken", desc := "()V" } : Jvm.MethodName)) ∈ lw_all := lw_g (lw_at lw_m7 201 rfl) rfl
theorem q1744 : (Jvm.Cond.privateMethod ({ cls := "KeptLeavesModel", name := "nextToken", desc := "()V" } : Jvm.MethodName)) ∈ lw_tbl := lw_at lw_m7 202 rfl
theorem q1745 : (Jvm.Cond.instanceMethod ({ cls := "KeptLeavesModel", name := "nextToken", desc := "()V" } : Jvm.MethodName)) ∈ lw_all := lw_g (lw_at lw_m7 203 rfl) rfl
theorem q1746 : (Jvm.Cond.code ({ cls := "KeptLeavesModel", name := "nextToken", desc := "()V" } : Jvm.MethodName) prog_19_method_69_code (3 : Nat) (Option.none : Option Jvm.ClassFile.FieldType)) ∈ lw_all := lw_g (lw_at lw_m7 204 rfl) rfl
theorem q1747 : (Jvm.Cond.methodLink "KeptLeavesModel" (255 : Nat) ({ cls := "KeptLeavesModel", name := "isLetter", desc := "(I)Z" } : Jvm.MethodName)) ∈ lw_all := lw_g (lw_at lw_m7 205 rfl) rfl
theorem q1748 : (Jvm.Cond.privateMethod ({ cls := "KeptLeavesModel", name := "isLetter", desc := "(I)Z" } : Jvm.MethodName)) ∈ lw_tbl := lw_at lw_m7 206 rfl
theorem q1749 : (Jvm.Cond.instanceMethod ({ cls := "KeptLeavesModel", name := "isLetter", desc := "(I)Z" } : Jvm.MethodName)) ∈ lw_all := lw_g (lw_at lw_m7 207 rfl) rfl
theorem q1750 : (Jvm.Cond.code ({ cls := "KeptLeavesModel", name := "isLetter", desc := "(I)Z" } : Jvm.MethodName) prog_19_method_67_code (2 : Nat) (Option.some Jvm.ClassFile.FieldType.boolean)) ∈ lw_all := lw_g (lw_at lw_m7 208 rfl) rfl
theorem q1751 : (Jvm.Cond.constantLong "KeptLeavesModel" (238 : Nat) (97 : Int64)) ∈ lw_all := lw_g (lw_at lw_m7 209 rfl) rfl
theorem q1752 : (Jvm.Cond.constantLong "KeptLeavesModel" (240 : Nat) (122 : Int64)) ∈ lw_all := lw_g (lw_at lw_m7 210 rfl) rfl
theorem q1753 : (Jvm.Cond.methodLink "KeptLeavesModel" (261 : Nat) ({ cls := "KeptLeavesModel", name := "isDigit", desc := "(I)Z" } : Jvm.MethodName)) ∈ lw_all := lw_g (lw_at lw_m7 211 rfl) rfl
theorem q1754 : (Jvm.Cond.privateMethod ({ cls := "KeptLeavesModel", name := "isDigit", desc := "(I)Z" } : Jvm.MethodName)) ∈ lw_tbl := lw_at lw_m7 212 rfl
theorem q1755 : (Jvm.Cond.instanceMethod ({ cls := "KeptLeavesModel", name := "isDigit", desc := "(I)Z" } : Jvm.MethodName)) ∈ lw_all := lw_g (lw_at lw_m7 213 rfl) rfl
theorem q1756 : (Jvm.Cond.code ({ cls := "KeptLeavesModel", name := "isDigit", desc := "(I)Z" } : Jvm.MethodName) prog_19_method_68_code (2 : Nat) (Option.some Jvm.ClassFile.FieldType.boolean)) ∈ lw_all := lw_g (lw_at lw_m7 214 rfl) rfl
theorem q1757 : (Jvm.Cond.constantLong "KeptLeavesModel" (242 : Nat) (48 : Int64)) ∈ lw_all := lw_g (lw_at lw_m7 215 rfl) rfl
theorem q1758 : (Jvm.Cond.constantLong "KeptLeavesModel" (244 : Nat) (57 : Int64)) ∈ lw_all := lw_g (lw_at lw_m7 216 rfl) rfl
theorem q1759 : (Jvm.Cond.methodLink "KeptLeavesModel" (323 : Nat) ({ cls := "KeptLeavesModel", name := "key", desc := "()I" } : Jvm.MethodName)) ∈ lw_all := lw_g (lw_at lw_m7 217 rfl) rfl
theorem q1760 : (Jvm.Cond.privateMethod ({ cls := "KeptLeavesModel", name := "key", desc := "()I" } : Jvm.MethodName)) ∈ lw_tbl := lw_at lw_m7 218 rfl
theorem q1761 : (Jvm.Cond.instanceMethod ({ cls := "KeptLeavesModel", name := "key", desc := "()I" } : Jvm.MethodName)) ∈ lw_all := lw_g (lw_at lw_m7 219 rfl) rfl
theorem q1762 : (Jvm.Cond.code ({ cls := "KeptLeavesModel", name := "key", desc := "()I" } : Jvm.MethodName) prog_19_method_73_code (1 : Nat) (Option.some Jvm.ClassFile.FieldType.int)) ∈ lw_all := lw_g (lw_at lw_m7 220 rfl) rfl
theorem q1763 : (Jvm.Cond.methodLink "KeptLeavesModel" (267 : Nat) ({ cls := "KeptLeavesModel", name := "isWordAt", desc := "(IIII)Z" } : Jvm.MethodName)) ∈ lw_all := lw_g (lw_at lw_m7 221 rfl) rfl
theorem q1764 : (Jvm.Cond.privateMethod ({ cls := "KeptLeavesModel", name := "isWordAt", desc := "(IIII)Z" } : Jvm.MethodName)) ∈ lw_tbl := lw_at lw_m7 222 rfl
theorem q1765 : (Jvm.Cond.instanceMethod ({ cls := "KeptLeavesModel", name := "isWordAt", desc := "(IIII)Z" } : Jvm.MethodName)) ∈ lw_all := lw_g (lw_at lw_m7 223 rfl) rfl
theorem q1766 : (Jvm.Cond.code ({ cls := "KeptLeavesModel", name := "isWordAt", desc := "(IIII)Z" } : Jvm.MethodName) prog_19_method_71_code (6 : Nat) (Option.some Jvm.ClassFile.FieldType.boolean)) ∈ lw_all := lw_g (lw_at lw_m7 224 rfl) rfl
theorem q1767 : (Jvm.Cond.methodLink "KeptLeavesModel" (271 : Nat) ({ cls := "KeptLeavesModel", name := "isLong", desc := "(IIIIII)Z" } : Jvm.MethodName)) ∈ lw_all := lw_g (lw_at lw_m7 225 rfl) rfl
theorem q1768 : (Jvm.Cond.privateMethod ({ cls := "KeptLeavesModel", name := "isLong", desc := "(IIIIII)Z" } : Jvm.MethodName)) ∈ lw_tbl := lw_at lw_m7 226 rfl
theorem q1769 : (Jvm.Cond.instanceMethod ({ cls := "KeptLeavesModel", name := "isLong", desc := "(IIIIII)Z" } : Jvm.MethodName)) ∈ lw_all := lw_g (lw_at lw_m7 227 rfl) rfl
theorem q1770 : (Jvm.Cond.code ({ cls := "KeptLeavesModel", name := "isLong", desc := "(IIIIII)Z" } : Jvm.MethodName) prog_19_method_72_code (8 : Nat) (Option.some Jvm.ClassFile.FieldType.boolean)) ∈ lw_all := lw_g (lw_at lw_m7 228 rfl) rfl
theorem q1771 : (Jvm.Cond.methodLink "KeptLeavesModel" (317 : Nat) ({ cls := "KeptLeavesModel", name := "either", desc := "(I)Z" } : Jvm.MethodName)) ∈ lw_all := lw_g (lw_at lw_m7 229 rfl) rfl
theorem q1772 : (Jvm.Cond.privateMethod ({ cls := "KeptLeavesModel", name := "either", desc := "(I)Z" } : Jvm.MethodName)) ∈ lw_tbl := lw_at lw_m7 230 rfl
theorem q1773 : (Jvm.Cond.instanceMethod ({ cls := "KeptLeavesModel", name := "either", desc := "(I)Z" } : Jvm.MethodName)) ∈ lw_all := lw_g (lw_at lw_m7 231 rfl) rfl
theorem q1774 : (Jvm.Cond.code ({ cls := "KeptLeavesModel", name := "either", desc := "(I)Z" } : Jvm.MethodName) prog_19_method_76_code (2 : Nat) (Option.some Jvm.ClassFile.FieldType.boolean)) ∈ lw_all := lw_g (lw_at lw_m7 232 rfl) rfl
theorem q1775 : (Jvm.Cond.methodLink "KeptLeavesModel" (281 : Nat) ({ cls := "KeptLeavesModel", name := "both", desc := "(I)Z" } : Jvm.MethodName)) ∈ lw_all := lw_g (lw_at lw_m7 233 rfl) rfl
theorem q1776 : (Jvm.Cond.privateMethod ({ cls := "KeptLeavesModel", name := "both", desc := "(I)Z" } : Jvm.MethodName)) ∈ lw_tbl := lw_at lw_m7 234 rfl
theorem q1777 : (Jvm.Cond.instanceMethod ({ cls := "KeptLeavesModel", name := "both", desc := "(I)Z" } : Jvm.MethodName)) ∈ lw_all := lw_g (lw_at lw_m7 235 rfl) rfl
theorem q1778 : (Jvm.Cond.code ({ cls := "KeptLeavesModel", name := "both", desc := "(I)Z" } : Jvm.MethodName) prog_19_method_77_code (2 : Nat) (Option.some Jvm.ClassFile.FieldType.boolean)) ∈ lw_all := lw_g (lw_at lw_m7 236 rfl) rfl
theorem q1779 : (Jvm.Cond.methodLink "KeptLeavesModel" (293 : Nat) ({ cls := "KeptLeavesModel", name := "test", desc := "(I)Z" } : Jvm.MethodName)) ∈ lw_all := lw_g (lw_at lw_m7 237 rfl) rfl
theorem q1780 : (Jvm.Cond.privateMethod ({ cls := "KeptLeavesModel", name := "test", desc := "(I)Z" } : Jvm.MethodName)) ∈ lw_tbl := lw_at lw_m7 238 rfl
theorem q1781 : (Jvm.Cond.instanceMethod ({ cls := "KeptLeavesModel", name := "test", desc := "(I)Z" } : Jvm.MethodName)) ∈ lw_all := lw_g (lw_at lw_m7 239 rfl) rfl
theorem q1782 : (Jvm.Cond.code ({ cls := "KeptLeavesModel", name := "test", desc := "(I)Z" } : Jvm.MethodName) prog_19_method_78_code (3 : Nat) (Option.some Jvm.ClassFile.FieldType.boolean)) ∈ lw_all := lw_g (lw_at lw_m8 0 rfl) rfl
theorem q1783 : (Jvm.Cond.methodLink "KeptLeavesModel" (296 : Nat) ({ cls := "KeptLeavesModel", name := "sum", desc := "(I)Z" } : Jvm.MethodName)) ∈ lw_all := lw_g (lw_at lw_m8 1 rfl) rfl
theorem q1784 : (Jvm.Cond.privateMethod ({ cls := "KeptLeavesModel", name := "sum", desc := "(I)Z" } : Jvm.MethodName)) ∈ lw_tbl := lw_at lw_m8 2 rfl
theorem q1785 : (Jvm.Cond.instanceMethod ({ cls := "KeptLeavesModel", name := "sum", desc := "(I)Z" } : Jvm.MethodName)) ∈ lw_all := lw_g (lw_at lw_m8 3 rfl) rfl
theorem q1786 : (Jvm.Cond.code ({ cls := "KeptLeavesModel", name := "sum", desc := "(I)Z" } : Jvm.MethodName) prog_19_method_79_code (3 : Nat) (Option.some Jvm.ClassFile.FieldType.boolean)) ∈ lw_all := lw_g (lw_at lw_m8 4 rfl) rfl
theorem q1787 : (Jvm.Cond.methodLink "KeptLeavesModel" (299 : Nat) ({ cls := "KeptLeavesModel", name := "term", desc := "(I)Z" } : Jvm.MethodName)) ∈ lw_all := lw_g (lw_at lw_m8 5 rfl) rfl
theorem q1788 : (Jvm.Cond.privateMethod ({ cls := "KeptLeavesModel", name := "term", desc := "(I)Z" } : Jvm.MethodName)) ∈ lw_tbl := lw_at lw_m8 6 rfl
theorem q1789 : (Jvm.Cond.instanceMethod ({ cls := "KeptLeavesModel", name := "term", desc := "(I)Z" } : Jvm.MethodName)) ∈ lw_all := lw_g (lw_at lw_m8 7 rfl) rfl
theorem q1790 : (Jvm.Cond.code ({ cls := "KeptLeavesModel", name := "term", desc := "(I)Z" } : Jvm.MethodName) prog_19_method_80_code (3 : Nat) (Option.some Jvm.ClassFile.FieldType.boolean)) ∈ lw_all := lw_g (lw_at lw_m8 8 rfl) rfl
theorem q1791 : (Jvm.Cond.methodLink "KeptLeavesModel" (302 : Nat) ({ cls := "KeptLeavesModel", name := "part0", desc := "(I)Z" } : Jvm.MethodName)) ∈ lw_all := lw_g (lw_at lw_m8 9 rfl) rfl
theorem q1792 : (Jvm.Cond.privateMethod ({ cls := "KeptLeavesModel", name := "part0", desc := "(I)Z" } : Jvm.MethodName)) ∈ lw_tbl := lw_at lw_m8 10 rfl
theorem q1793 : (Jvm.Cond.instanceMethod ({ cls := "KeptLeavesModel", name := "part0", desc := "(I)Z" } : Jvm.MethodName)) ∈ lw_all := lw_g (lw_at lw_m8 11 rfl) rfl
theorem q1794 : (Jvm.Cond.code ({ cls := "KeptLeavesModel", name := "part0", desc := "(I)Z" } : Jvm.MethodName) prog_19_method_81_code (2 : Nat) (Option.some Jvm.ClassFile.FieldType.boolean)) ∈ lw_all := lw_g (lw_at lw_m8 12 rfl) rfl
theorem q1795 : (Jvm.Cond.methodLink "KeptLeavesModel" (290 : Nat) ({ cls := "KeptLeavesModel", name := "step", desc := "(II)V" } : Jvm.MethodName)) ∈ lw_all := lw_g (lw_at lw_m8 13 rfl) rfl
theorem q1796 : (Jvm.Cond.privateMethod ({ cls := "KeptLeavesModel", name := "step", desc := "(II)V" } : Jvm.MethodName)) ∈ lw_tbl := lw_at lw_m8 14 rfl
theorem q1797 : (Jvm.Cond.instanceMethod ({ cls := "KeptLeavesModel", name := "step", desc := "(II)V" } : Jvm.MethodName)) ∈ lw_all := lw_g (lw_at lw_m8 15 rfl) rfl
theorem q1798 : (Jvm.Cond.code ({ cls := "KeptLeavesModel", name := "step", desc := "(II)V" } : Jvm.MethodName) prog_19_method_75_code (3 : Nat) (Option.none : Option Jvm.ClassFile.FieldType)) ∈ lw_all := lw_g (lw_at lw_m8 16 rfl) rfl
theorem q1799 : (Jvm.Cond.methodLink "KeptLeavesModel" (308 : Nat) ({ cls := "KeptLeavesModel", name := "isName", desc := "(II)Z" } : Jvm.MethodName)) ∈ lw_all := lw_g (lw_at lw_m8 17 rfl) rfl
theorem q1800 : (Jvm.Cond.static ({ cls := "KeptLeavesModel", name := "isName", desc := "(II)Z" } : Jvm.MethodName)) ∈ lw_all := lw_g (lw_at lw_m8 18 rfl) rfl
theorem q1801 : (Jvm.Cond.code ({ cls := "KeptLeavesModel", name := "isName", desc := "(II)Z" } : Jvm.MethodName) prog_19_method_74_code (2 : Nat) (Option.some Jvm.ClassFile.FieldType.boolean)) ∈ lw_all := lw_g (lw_at lw_m8 19 rfl) rfl
theorem q1802 : (Jvm.Cond.methodLink "KeptLeavesModel" (284 : Nat) ({ cls := "KeptLeavesModel", name := "isSign", desc := "(I)Z" } : Jvm.MethodName)) ∈ lw_all := lw_g (lw_at lw_m8 20 rfl) rfl
theorem q1803 : (Jvm.Cond.privateMethod ({ cls := "KeptLeavesModel", name := "isSign", desc := "(I)Z" } : Jvm.MethodName)) ∈ lw_tbl := lw_at lw_m8 21 rfl
theorem q1804 : (Jvm.Cond.instanceMethod ({ cls := "KeptLeavesModel", name := "isSign", desc := "(I)Z" } : Jvm.MethodName)) ∈ lw_all := lw_g (lw_at lw_m8 22 rfl) rfl
theorem q1805 : (Jvm.Cond.code ({ cls := "KeptLeavesModel", name := "isSign", desc := "(I)Z" } : Jvm.MethodName) prog_19_method_70_code (2 : Nat) (Option.some Jvm.ClassFile.FieldType.boolean)) ∈ lw_all := lw_g (lw_at lw_m8 23 rfl) rfl
theorem q1807 : (Jvm.Cond.instanceMethod ({ cls := "KeptLeavesModel", name := "textTold", desc := "(II)I" } : Jvm.MethodName)) ∈ lw_all := lw_g (lw_at lw_m8 25 rfl) rfl
theorem q1808 : (Jvm.Cond.selects "KeptLeavesModel" ({ cls := "KeptLeavesModel", name := "textTold", desc := "(II)I" } : Jvm.MethodName) ({ cls := "KeptLeavesModel", name := "textTold", desc := "(II)I" } : Jvm.MethodName)) ∈ lw_all := lw_g (lw_at lw_m8 26 rfl) rfl
theorem q1809 : (Jvm.Cond.code ({ cls := "KeptLeavesModel", name := "textTold", desc := "(II)I" } : Jvm.MethodName) prog_19_method_84_code (3 : Nat) (Option.some Jvm.ClassFile.FieldType.int)) ∈ lw_all := lw_g (lw_at lw_m8 27 rfl) rfl
theorem q1810 : (Jvm.Cond.methodLink "KeptLeavesModel" (329 : Nat) ({ cls := "KeptLeavesModel", name := "isText", desc := "(I)Z" } : Jvm.MethodName)) ∈ lw_all := lw_g (lw_at lw_m8 28 rfl) rfl
theorem q1811 : (Jvm.Cond.privateMethod ({ cls := "KeptLeavesModel", name := "isText", desc := "(I)Z" } : Jvm.MethodName)) ∈ lw_tbl := lw_at lw_m8 29 rfl
theorem q1812 : (Jvm.Cond.instanceMethod ({ cls := "KeptLeavesModel", name := "isText", desc := "(I)Z" } : Jvm.MethodName)) ∈ lw_all := lw_g (lw_at lw_m8 30 rfl) rfl
theorem q1813 : (Jvm.Cond.code ({ cls := "KeptLeavesModel", name := "isText", desc := "(I)Z" } : Jvm.MethodName) prog_19_method_8_code (2 : Nat) (Option.some Jvm.ClassFile.FieldType.boolean)) ∈ lw_all := lw_g (lw_at lw_m8 31 rfl) rfl
theorem q1815 : (Jvm.Cond.instanceMethod ({ cls := "KeptLeavesModel", name := "why", desc := "(I)I" } : Jvm.MethodName)) ∈ lw_all := lw_g (lw_at lw_m8 33 rfl) rfl
theorem q1816 : (Jvm.Cond.selects "KeptLeavesModel" ({ cls := "KeptLeavesModel", name := "why", desc := "(I)I" } : Jvm.MethodName) ({ cls := "KeptLeavesModel", name := "why", desc := "(I)I" } : Jvm.MethodName)) ∈ lw_all := lw_g (lw_at lw_m8 34 rfl) rfl
theorem q1817 : (Jvm.Cond.code ({ cls := "KeptLeavesModel", name := "why", desc := "(I)I" } : Jvm.MethodName) prog_19_method_86_code (2 : Nat) (Option.some Jvm.ClassFile.FieldType.int)) ∈ lw_all := lw_g (lw_at lw_m8 35 rfl) rfl
theorem q1819 : (Jvm.Cond.instanceMethod ({ cls := "KeptLeavesModel", name := "sheet", desc := "(III)I" } : Jvm.MethodName)) ∈ lw_all := lw_g (lw_at lw_m8 37 rfl) rfl
theorem q1820 : (Jvm.Cond.selects "KeptLeavesModel" ({ cls := "KeptLeavesModel", name := "sheet", desc := "(III)I" } : Jvm.MethodName) ({ cls := "KeptLeavesModel", name := "sheet", desc := "(III)I" } : Jvm.MethodName)) ∈ lw_all := lw_g (lw_at lw_m8 38 rfl) rfl
theorem q1821 : (Jvm.Cond.code ({ cls := "KeptLeavesModel", name := "sheet", desc := "(III)I" } : Jvm.MethodName) prog_19_method_90_code (5 : Nat) (Option.some Jvm.ClassFile.FieldType.int)) ∈ lw_all := lw_g (lw_at lw_m8 39 rfl) rfl
theorem q1822 : (Jvm.Cond.methodLink "KeptLeavesModel" (336 : Nat) ({ cls := "KeptLeavesModel", name := "isSheet", desc := "(I)Z" } : Jvm.MethodName)) ∈ lw_all := lw_g (lw_at lw_m8 40 rfl) rfl
theorem q1823 : (Jvm.Cond.static ({ cls := "KeptLeavesModel", name := "isSheet", desc := "(I)Z" } : Jvm.MethodName)) ∈ lw_all := lw_g (lw_at lw_m8 41 rfl) rfl
theorem q1824 : (Jvm.Cond.code ({ cls := "KeptLeavesModel", name := "isSheet", desc := "(I)Z" } : Jvm.MethodName) prog_19_method_89_code (1 : Nat) (Option.some Jvm.ClassFile.FieldType.boolean)) ∈ lw_all := lw_g (lw_at lw_m8 42 rfl) rfl
theorem q1825 : (Jvm.Cond.constantLong "KeptLeavesModel" (339 : Nat) (-1 : Int64)) ∈ lw_all := lw_g (lw_at lw_m8 43 rfl) rfl
theorem q1826 : (Jvm.Cond.constant "KeptLeavesModel" (341 : Nat) (-1000000014 : Int32)) ∈ lw_all := lw_g (lw_at lw_m8 44 rfl) rfl
theorem q1828 : (Jvm.Cond.instanceMethod ({ cls := "KeptLeavesModel", name := "mark", desc := "(III)I" } : Jvm.MethodName)) ∈ lw_all := lw_g (lw_at lw_m8 46 rfl) rfl
theorem q1829 : (Jvm.Cond.selects "KeptLeavesModel" ({ cls := "KeptLeavesModel", name := "mark", desc := "(III)I" } : Jvm.MethodName) ({ cls := "KeptLeavesModel", name := "mark", desc := "(III)I" } : Jvm.MethodName)) ∈ lw_all := lw_g (lw_at lw_m8 47 rfl) rfl
theorem q1830 : (Jvm.Cond.code ({ cls := "KeptLeavesModel", name := "mark", desc := "(III)I" } : Jvm.MethodName) prog_19_method_91_code (4 : Nat) (Option.some Jvm.ClassFile.FieldType.int)) ∈ lw_all := lw_g (lw_at lw_m8 48 rfl) rfl
theorem q1831 : (Jvm.Cond.constant "KeptLeavesModel" (342 : Nat) (-1000000011 : Int32)) ∈ lw_all := lw_g (lw_at lw_m8 49 rfl) rfl
theorem q1832 : (Jvm.Cond.constant "KeptLeavesModel" (343 : Nat) (-1000000013 : Int32)) ∈ lw_all := lw_g (lw_at lw_m8 50 rfl) rfl
theorem q1833 : (Jvm.Cond.constantLong "KeptLeavesModel" (344 : Nat) (-99999 : Int64)) ∈ lw_all := lw_g (lw_at lw_m8 51 rfl) rfl
theorem q1834 : (Jvm.Cond.constantLong "KeptLeavesModel" (346 : Nat) (99999 : Int64)) ∈ lw_all := lw_g (lw_at lw_m8 52 rfl) rfl
theorem q1836 : (Jvm.Cond.instanceMethod ({ cls := "KeptLeavesModel", name := "pour", desc := "(I)I" } : Jvm.MethodName)) ∈ lw_all := lw_g (lw_at lw_m8 54 rfl) rfl
theorem q1837 : (Jvm.Cond.selects "KeptLeavesModel" ({ cls := "KeptLeavesModel", name := "pour", desc := "(I)I" } : Jvm.MethodName) ({ cls := "KeptLeavesModel", name := "pour", desc := "(I)I" } : Jvm.MethodName)) ∈ lw_all := lw_g (lw_at lw_m8 55 rfl) rfl
theorem q1838 : (Jvm.Cond.code ({ cls := "KeptLeavesModel", name := "pour", desc := "(I)I" } : Jvm.MethodName) prog_19_method_92_code (3 : Nat) (Option.some Jvm.ClassFile.FieldType.int)) ∈ lw_all := lw_g (lw_at lw_m8 56 rfl) rfl
theorem q1840 : (Jvm.Cond.instanceMethod ({ cls := "KeptLeavesModel", name := "reads", desc := "(I)I" } : Jvm.MethodName)) ∈ lw_all := lw_g (lw_at lw_m8 58 rfl) rfl
theorem q1841 : (Jvm.Cond.selects "KeptLeavesModel" ({ cls := "KeptLeavesModel", name := "reads", desc := "(I)I" } : Jvm.MethodName) ({ cls := "KeptLeavesModel", name := "reads", desc := "(I)I" } : Jvm.MethodName)) ∈ lw_all := lw_g (lw_at lw_m8 59 rfl) rfl
theorem q1842 : (Jvm.Cond.code ({ cls := "KeptLeavesModel", name := "reads", desc := "(I)I" } : Jvm.MethodName) prog_19_method_93_code (4 : Nat) (Option.some Jvm.ClassFile.FieldType.int)) ∈ lw_all := lw_g (lw_at lw_m8 60 rfl) rfl
theorem q1844 : (Jvm.Cond.instanceMethod ({ cls := "KeptLeavesModel", name := "copy", desc := "(IIIII)I" } : Jvm.MethodName)) ∈ lw_all := lw_g (lw_at lw_m8 62 rfl) rfl
theorem q1845 : (Jvm.Cond.selects "KeptLeavesModel" ({ cls := "KeptLeavesModel", name := "copy", desc := "(IIIII)I" } : Jvm.MethodName) ({ cls := "KeptLeavesModel", name := "copy", desc := "(IIIII)I" } : Jvm.MethodName)) ∈ lw_all := lw_g (lw_at lw_m8 63 rfl) rfl
theorem q1846 : (Jvm.Cond.code ({ cls := "KeptLeavesModel", name := "copy", desc := "(IIIII)I" } : Jvm.MethodName) prog_19_method_94_code (7 : Nat) (Option.some Jvm.ClassFile.FieldType.int)) ∈ lw_all := lw_g (lw_at lw_m8 64 rfl) rfl
theorem q1848 : (Jvm.Cond.instanceMethod ({ cls := "KeptLeavesModel", name := "lay", desc := "(III)I" } : Jvm.MethodName)) ∈ lw_all := lw_g (lw_at lw_m8 66 rfl) rfl
theorem q1849 : (Jvm.Cond.selects "KeptLeavesModel" ({ cls := "KeptLeavesModel", name := "lay", desc := "(III)I" } : Jvm.MethodName) ({ cls := "KeptLeavesModel", name := "lay", desc := "(III)I" } : Jvm.MethodName)) ∈ lw_all := lw_g (lw_at lw_m8 67 rfl) rfl
theorem q1850 : (Jvm.Cond.code ({ cls := "KeptLeavesModel", name := "lay", desc := "(III)I" } : Jvm.MethodName) prog_19_method_96_code (7 : Nat) (Option.some Jvm.ClassFile.FieldType.int)) ∈ lw_all := lw_g (lw_at lw_m8 68 rfl) rfl
theorem q1851 : (Jvm.Cond.methodLink "KeptLeavesModel" (348 : Nat) ({ cls := "KeptLeavesModel", name := "isSlot", desc := "(I)Z" } : Jvm.MethodName)) ∈ lw_all := lw_g (lw_at lw_m8 69 rfl) rfl
theorem q1852 : (Jvm.Cond.static ({ cls := "KeptLeavesModel", name := "isSlot", desc := "(I)Z" } : Jvm.MethodName)) ∈ lw_all := lw_g (lw_at lw_m8 70 rfl) rfl
theorem q1853 : (Jvm.Cond.code ({ cls := "KeptLeavesModel", name := "isSlot", desc := "(I)Z" } : Jvm.MethodName) prog_19_method_95_code (1 : Nat) (Option.some Jvm.ClassFile.FieldType.boolean)) ∈ lw_all := lw_g (lw_at lw_m8 71 rfl) rfl
theorem q1855 : (Jvm.Cond.instanceMethod ({ cls := "KeptLeavesModel", name := "ask", desc := "(II)I" } : Jvm.MethodName)) ∈ lw_all := lw_g (lw_at lw_m8 73 rfl) rfl
theorem q1856 : (Jvm.Cond.selects "KeptLeavesModel" ({ cls := "KeptLeavesModel", name := "ask", desc := "(II)I" } : Jvm.MethodName) ({ cls := "KeptLeavesModel", name := "ask", desc := "(II)I" } : Jvm.MethodName)) ∈ lw_all := lw_g (lw_at lw_m8 74 rfl) rfl
theorem q1857 : (Jvm.Cond.code ({ cls := "KeptLeavesModel", name := "ask", desc := "(II)I" } : Jvm.MethodName) prog_19_method_97_code (3 : Nat) (Option.some Jvm.ClassFile.FieldType.int)) ∈ lw_all := lw_g (lw_at lw_m8 75 rfl) rfl
theorem q1859 : (Jvm.Cond.instanceMethod ({ cls := "KeptLeavesModel", name := "item", desc := "(II)I" } : Jvm.MethodName)) ∈ lw_all := lw_g (lw_at lw_m8 77 rfl) rfl
theorem q1860 : (Jvm.Cond.selects "KeptLeavesModel" ({ cls := "KeptLeavesModel", name := "item", desc := "(II)I" } : Jvm.MethodName) ({ cls := "KeptLeavesModel", name := "item", desc := "(II)I" } : Jvm.MethodName)) ∈ lw_all := lw_g (lw_at lw_m8 78 rfl) rfl
theorem q1861 : (Jvm.Cond.code ({ cls := "KeptLeavesModel", name := "item", desc := "(II)I" } : Jvm.MethodName) prog_19_method_98_code (4 : Nat) (Option.some Jvm.ClassFile.FieldType.int)) ∈ lw_all := lw_g (lw_at lw_m8 79 rfl) rfl
theorem q1863 : (Jvm.Cond.instanceMethod ({ cls := "KeptLeavesModel", name := "rest", desc := "(II)I" } : Jvm.MethodName)) ∈ lw_all := lw_g (lw_at lw_m8 81 rfl) rfl
theorem q1864 : (Jvm.Cond.selects "KeptLeavesModel" ({ cls := "KeptLeavesModel", name := "rest", desc := "(II)I" } : Jvm.MethodName) ({ cls := "KeptLeavesModel", name := "rest", desc := "(II)I" } : Jvm.MethodName)) ∈ lw_all := lw_g (lw_at lw_m8 82 rfl) rfl
theorem q1865 : (Jvm.Cond.code ({ cls := "KeptLeavesModel", name := "rest", desc := "(II)I" } : Jvm.MethodName) prog_19_method_99_code (3 : Nat) (Option.some Jvm.ClassFile.FieldType.int)) ∈ lw_all := lw_g (lw_at lw_m8 83 rfl) rfl
theorem q1867 : (Jvm.Cond.instanceMethod ({ cls := "KeptLeavesModel", name := "tell", desc := "(I)I" } : Jvm.MethodName)) ∈ lw_all := lw_g (lw_at lw_m8 85 rfl) rfl
theorem q1868 : (Jvm.Cond.selects "KeptLeavesModel" ({ cls := "KeptLeavesModel", name := "tell", desc := "(I)I" } : Jvm.MethodName) ({ cls := "KeptLeavesModel", name := "tell", desc := "(I)I" } : Jvm.MethodName)) ∈ lw_all := lw_g (lw_at lw_m8 86 rfl) rfl
theorem q1869 : (Jvm.Cond.code ({ cls := "KeptLeavesModel", name := "tell", desc := "(I)I" } : Jvm.MethodName) prog_19_method_100_code (2 : Nat) (Option.some Jvm.ClassFile.FieldType.int)) ∈ lw_all := lw_g (lw_at lw_m8 87 rfl) rfl
theorem q1871 : (Jvm.Cond.instanceMethod ({ cls := "KeptLeavesModel", name := "check", desc := "(I)I" } : Jvm.MethodName)) ∈ lw_all := lw_g (lw_at lw_m8 89 rfl) rfl
theorem q1872 : (Jvm.Cond.selects "KeptLeavesModel" ({ cls := "KeptLeavesModel", name := "check", desc := "(I)I" } : Jvm.MethodName) ({ cls := "KeptLeavesModel", name := "check", desc := "(I)I" } : Jvm.MethodName)) ∈ lw_all := lw_g (lw_at lw_m8 90 rfl) rfl
theorem q1873 : (Jvm.Cond.code ({ cls := "KeptLeavesModel", name := "check", desc := "(I)I" } : Jvm.MethodName) prog_19_method_102_code (5 : Nat) (Option.some Jvm.ClassFile.FieldType.int)) ∈ lw_all := lw_g (lw_at lw_m8 91 rfl) rfl
theorem q1874 : (Jvm.Cond.constantLong "KeptLeavesModel" (354 : Nat) (30 : Int64)) ∈ lw_all := lw_g (lw_at lw_m8 92 rfl) rfl
theorem q1875 : (Jvm.Cond.methodLink "KeptLeavesModel" (360 : Nat) ({ cls := "KeptLeavesModel", name := "setAside", desc := "([I[I)V" } : Jvm.MethodName)) ∈ lw_all := lw_g (lw_at lw_m8 93 rfl) rfl
theorem q1876 : (Jvm.Cond.privateMethod ({ cls := "KeptLeavesModel", name := "setAside", desc := "([I[I)V" } : Jvm.MethodName)) ∈ lw_tbl := lw_at lw_m8 94 rfl
theorem q1877 : (Jvm.Cond.instanceMethod ({ cls := "KeptLeavesModel", name := "setAside", desc := "([I[I)V" } : Jvm.MethodName)) ∈ lw_all := lw_g (lw_at lw_m8 95 rfl) rfl
theorem q1878 : (Jvm.Cond.code ({ cls := "KeptLeavesModel", name := "setAside", desc := "([I[I)V" } : Jvm.MethodName) prog_19_method_101_code (4 : Nat) (Option.none : Option Jvm.ClassFile.FieldType)) ∈ lw_all := lw_g (lw_at lw_m8 96 rfl) rfl
theorem q1880 : (Jvm.Cond.instanceMethod ({ cls := "KeptLeavesModel", name := "keep", desc := "()I" } : Jvm.MethodName)) ∈ lw_all := lw_g (lw_at lw_m8 98 rfl) rfl
theorem q1881 : (Jvm.Cond.selects "KeptLeavesModel" ({ cls := "KeptLeavesModel", name := "keep", desc := "()I" } : Jvm.MethodName) ({ cls := "KeptLeavesModel", name := "keep", desc := "()I" } : Jvm.MethodName)) ∈ lw_all := lw_g (lw_at lw_m8 99 rfl) rfl
theorem q1882 : (Jvm.Cond.code ({ cls := "KeptLeavesModel", name := "keep", desc := "()I" } : Jvm.MethodName) prog_19_method_103_code (1 : Nat) (Option.some Jvm.ClassFile.FieldType.int)) ∈ lw_all := lw_g (lw_at lw_m8 100 rfl) rfl
theorem q1884 : (Jvm.Cond.instanceMethod ({ cls := "KeptLeavesModel", name := "back", desc := "()I" } : Jvm.MethodName)) ∈ lw_all := lw_g (lw_at lw_m8 102 rfl) rfl
theorem q1885 : (Jvm.Cond.selects "KeptLeavesModel" ({ cls := "KeptLeavesModel", name := "back", desc := "()I" } : Jvm.MethodName) ({ cls := "KeptLeavesModel", name := "back", desc := "()I" } : Jvm.MethodName)) ∈ lw_all := lw_g (lw_at lw_m8 103 rfl) rfl
theorem q1886 : (Jvm.Cond.code ({ cls := "KeptLeavesModel", name := "back", desc := "()I" } : Jvm.MethodName) prog_19_method_104_code (1 : Nat) (Option.some Jvm.ClassFile.FieldType.int)) ∈ lw_all := lw_g (lw_at lw_m8 104 rfl) rfl
theorem q1888 : (Jvm.Cond.instanceMethod ({ cls := "KeptLeavesModel", name := "count", desc := "(I)I" } : Jvm.MethodName)) ∈ lw_all := lw_g (lw_at lw_m8 106 rfl) rfl
theorem q1889 : (Jvm.Cond.selects "KeptLeavesModel" ({ cls := "KeptLeavesModel", name := "count", desc := "(I)I" } : Jvm.MethodName) ({ cls := "KeptLeavesModel", name := "count", desc := "(I)I" } : Jvm.MethodName)) ∈ lw_all := lw_g (lw_at lw_m8 107 rfl) rfl
theorem q1890 : (Jvm.Cond.code ({ cls := "KeptLeavesModel", name := "count", desc := "(I)I" } : Jvm.MethodName) prog_19_method_105_code (2 : Nat) (Option.some Jvm.ClassFile.FieldType.int)) ∈ lw_all := lw_g (lw_at lw_m8 108 rfl) rfl
theorem in_X6 : ∀ w ∈ wsX60, w ∈ lw_all := lw_in wsX60 [1376, 1378, 1380, 1382, 1384, 1386, 1388, 1390, 1392, 1394, 1396, 1398, 1400, 1402, 1404, 1406, 1408, 1410, 1412, 1414, 1416, 1418, 1420, 1422, 1424, 1426, 1428, 1430, 1432, 1434, 1436, 1438, 1440, 1442, 1444, 1446, 1448, 1450] (by decide +kernel) (by decide +kernel)

