/-! SunkTowerModel -/
set_option maxRecDepth 100000
def RX4 : String := "SunkTowerModel"
def TX4 : u_T := fun k => match k with
  | 0 => ("SunkTowerModel", "thrown", "I", false)
  | 1 => ("SunkTowerModel", "all", "[I", true)
  | 2 => ("SunkTowerModel", "hasImage", "[Z", true)
  | 3 => ("SunkTowerModel", "tape", "[I", true)
  | 4 => ("SunkTowerModel", "fresh", "[I", true)
  | 5 => ("SunkTowerModel", "taped", "I", false)
  | 6 => ("SunkTowerModel", "at", "I", false)
  | 7 => ("SunkTowerModel", "behind", "I", false)
  | 8 => ("SunkTowerModel", "size", "I", false)
  | 9 => ("SunkTowerModel", "kind", "I", false)
  | 10 => ("SunkTowerModel", "number", "I", false)
  | 11 => ("SunkTowerModel", "wrong", "I", false)
  | 12 => ("SunkTowerModel", "wrongAt", "I", false)
  | 13 => ("SunkTowerModel", "faultKind", "I", false)
  | 14 => ("SunkTowerModel", "faultPlace", "I", false)
  | 15 => ("SunkTowerModel", "reading", "I", false)
  | 16 => ("SunkTowerModel", "reckoned", "[I", true)
  | 17 => ("SunkTowerModel", "words", "[I", true)
  | 18 => ("SunkTowerModel", "was", "[I", true)
  | 19 => ("SunkTowerModel", "gets", "[I", true)
  | 20 => ("SunkTowerModel", "rounds", "I", false)
  | 21 => ("SunkTowerModel", "toldWhy", "I", false)
  | 22 => ("SunkTowerModel", "x", "I", false)
  | 23 => ("SunkTowerModel", "sunk", "[I", true)
  | 24 => ("SunkTowerModel", "most", "[J", true)
  | 25 => ("SunkTowerModel", "mayTo", "I", false)
  | 26 => ("SunkTowerModel", "months", "I", false)
  | 27 => ("SunkTowerModel", "built", "[I", true)
  | 28 => ("SunkTowerModel", "bestBuilt", "[I", true)
  | 29 => ("SunkTowerModel", "bestMany", "I", false)
  | 30 => ("SunkTowerModel", "likeMany", "I", false)
  | 31 => ("SunkTowerModel", "bestSum", "J", false)
  | 32 => ("SunkTowerModel", "depths", "[I", true)
  | 33 => ("SunkTowerModel", "often", "[I", true)
  | 34 => ("SunkTowerModel", "fits", "[Z", true)
  | 35 => ("SunkTowerModel", "rowSort", "[I", true)
  | 36 => ("SunkTowerModel", "rowMany", "[I", true)
  | _ => ("SunkTowerModel", "numbers", "[J", true)
def tyX4 : Nat → FieldType := fun k => match k with
  | 0 => .int
  | 1 => .array .int
  | 2 => .array .boolean
  | 3 => .array .int
  | 4 => .array .int
  | 5 => .int
  | 6 => .int
  | 7 => .int
  | 8 => .int
  | 9 => .int
  | 10 => .int
  | 11 => .int
  | 12 => .int
  | 13 => .int
  | 14 => .int
  | 15 => .int
  | 16 => .array .int
  | 17 => .array .int
  | 18 => .array .int
  | 19 => .array .int
  | 20 => .int
  | 21 => .int
  | 22 => .int
  | 23 => .array .int
  | 24 => .array .long
  | 25 => .int
  | 26 => .int
  | 27 => .array .int
  | 28 => .array .int
  | 29 => .int
  | 30 => .int
  | 31 => .long
  | 32 => .array .int
  | 33 => .array .int
  | 34 => .array .boolean
  | 35 => .array .int
  | 36 => .array .int
  | _ => .array .long
abbrev wsX40 : List Cond := u_ws RX4 TX4 38
set_option maxRecDepth 100000 in
theorem nmX4 : ∀ a, a < 38 → ∀ b, b < 38 → a ≠ b → (TX4 a).2.1 ≠ (TX4 b).2.1 := by decide +kernel
set_option maxRecDepth 100000 in
theorem tyX4_ok : ∀ k, k < 38 → parseFieldDescriptor (TX4 k).2.2.1 = some (tyX4 k) := by decide +kernel
abbrev cX4_init : ByteArray := prog_11_method_3_code
def yX4_init : MethodName := ⟨RX4, "<init>", "()V"⟩
def dkwX4_init_7 : List UInt8 := [188, 11, 181, 0, 72, 42, 180, 0, 13, 184, 0, 75, 177]
abbrev dktX4_init_7 : List UInt8 := dkwX4_init_7 ++ []
def dkwX4_init_6 : List UInt8 := [2, 79, 89, 5, 2, 79, 89, 6, 2, 79, 181, 0, 66, 42, 7, 188, 10, 181, 0, 69, 42, 17, 0, 160]
abbrev dktX4_init_6 : List UInt8 := dkwX4_init_6 ++ dktX4_init_7
def dkwX4_init_5 : List UInt8 := [188, 10, 181, 0, 60, 42, 17, 3, 232, 188, 4, 181, 0, 63, 42, 7, 188, 10, 89, 3, 2, 79, 89, 4]
abbrev dktX4_init_5 : List UInt8 := dkwX4_init_5 ++ dktX4_init_6
def dkwX4_init_4 : List UInt8 := [6, 188, 10, 181, 0, 49, 42, 6, 188, 10, 181, 0, 52, 42, 18, 55, 188, 10, 181, 0, 56, 42, 18, 59]
abbrev dktX4_init_4 : List UInt8 := dkwX4_init_4 ++ dktX4_init_5
def dkwX4_init_3 : List UInt8 := [188, 10, 181, 0, 39, 42, 17, 2, 90, 188, 10, 181, 0, 42, 42, 17, 2, 37, 188, 11, 181, 0, 45, 42]
abbrev dktX4_init_3 : List UInt8 := dkwX4_init_3 ++ dktX4_init_4
def dkwX4_init_2 : List UInt8 := [188, 10, 181, 0, 30, 42, 16, 10, 188, 10, 181, 0, 33, 42, 16, 23, 188, 10, 181, 0, 36, 42, 16, 6]
abbrev dktX4_init_2 : List UInt8 := dkwX4_init_2 ++ dktX4_init_3
def dkwX4_init_1 : List UInt8 := [188, 10, 181, 0, 21, 42, 17, 4, 174, 188, 10, 181, 0, 24, 42, 2, 181, 0, 27, 42, 17, 3, 132]
abbrev dktX4_init_1 : List UInt8 := dkwX4_init_1 ++ dktX4_init_2
def dkwX4_init_0 : List UInt8 := [42, 183, 0, 7, 42, 17, 14, 10, 188, 10, 181, 0, 13, 42, 5, 188, 4, 181, 0, 17, 42, 17, 3, 132]
abbrev dktX4_init_0 : List UInt8 := dkwX4_init_0 ++ dktX4_init_1
theorem dksX4_init_0 : cX4_init.data.toList.drop 0 = dktX4_init_0 := by decide +kernel
theorem dksX4_init_1 : cX4_init.data.toList.drop 24 = dktX4_init_1 := dk_seg dksX4_init_0 24 rfl rfl
theorem dksX4_init_2 : cX4_init.data.toList.drop 47 = dktX4_init_2 := dk_seg dksX4_init_1 23 rfl rfl
theorem dksX4_init_3 : cX4_init.data.toList.drop 71 = dktX4_init_3 := dk_seg dksX4_init_2 24 rfl rfl
theorem dksX4_init_4 : cX4_init.data.toList.drop 95 = dktX4_init_4 := dk_seg dksX4_init_3 24 rfl rfl
theorem dksX4_init_5 : cX4_init.data.toList.drop 119 = dktX4_init_5 := dk_seg dksX4_init_4 24 rfl rfl
theorem dksX4_init_6 : cX4_init.data.toList.drop 143 = dktX4_init_6 := dk_seg dksX4_init_5 24 rfl rfl
theorem dksX4_init_7 : cX4_init.data.toList.drop 167 = dktX4_init_7 := dk_seg dksX4_init_6 24 rfl rfl
theorem dX4_init_0 : decode cX4_init 0 = .ok (.aload_n 0, 1) := dk_42 (dk_at dksX4_init_0 0 rfl rfl)
theorem dX4_init_1 : decode cX4_init 1 = .ok (.invokespecial 7, 3) := dk_183 0 7 (dk_at dksX4_init_0 1 rfl rfl)
theorem dX4_init_4 : decode cX4_init 4 = .ok (.aload_n 0, 1) := dk_42 (dk_at dksX4_init_0 4 rfl rfl)
theorem dX4_init_5 : decode cX4_init 5 = .ok (.sipush 3594, 3) := dk_17 14 10 (dk_at dksX4_init_0 5 rfl rfl)
theorem dX4_init_8 : decode cX4_init 8 = .ok (.newarray .int, 2) := dk_188_10 (dk_at dksX4_init_0 8 rfl rfl)
theorem dX4_init_10 : decode cX4_init 10 = .ok (.putfield 13, 3) := dk_181 0 13 (dk_at dksX4_init_0 10 rfl rfl)
theorem dX4_init_13 : decode cX4_init 13 = .ok (.aload_n 0, 1) := dk_42 (dk_at dksX4_init_0 13 rfl rfl)
theorem dX4_init_14 : decode cX4_init 14 = .ok (.iconst 2, 1) := dk_5 (dk_at dksX4_init_0 14 rfl rfl)
theorem dX4_init_15 : decode cX4_init 15 = .ok (.newarray .boolean, 2) := dk_188_4 (dk_at dksX4_init_0 15 rfl rfl)
theorem dX4_init_17 : decode cX4_init 17 = .ok (.putfield 17, 3) := dk_181 0 17 (dk_at dksX4_init_0 17 rfl rfl)
theorem dX4_init_20 : decode cX4_init 20 = .ok (.aload_n 0, 1) := dk_42 (dk_at dksX4_init_0 20 rfl rfl)
theorem dX4_init_21 : decode cX4_init 21 = .ok (.sipush 900, 3) := dk_17 3 132 (dk_at dksX4_init_0 21 rfl rfl)
theorem dX4_init_24 : decode cX4_init 24 = .ok (.newarray .int, 2) := dk_188_10 (dk_at dksX4_init_1 0 rfl rfl)
theorem dX4_init_26 : decode cX4_init 26 = .ok (.putfield 21, 3) := dk_181 0 21 (dk_at dksX4_init_1 2 rfl rfl)
theorem dX4_init_29 : decode cX4_init 29 = .ok (.aload_n 0, 1) := dk_42 (dk_at dksX4_init_1 5 rfl rfl)
theorem dX4_init_30 : decode cX4_init 30 = .ok (.sipush 1198, 3) := dk_17 4 174 (dk_at dksX4_init_1 6 rfl rfl)
theorem dX4_init_33 : decode cX4_init 33 = .ok (.newarray .int, 2) := dk_188_10 (dk_at dksX4_init_1 9 rfl rfl)
theorem dX4_init_35 : decode cX4_init 35 = .ok (.putfield 24, 3) := dk_181 0 24 (dk_at dksX4_init_1 11 rfl rfl)
theorem dX4_init_38 : decode cX4_init 38 = .ok (.aload_n 0, 1) := dk_42 (dk_at dksX4_init_1 14 rfl rfl)
theorem dX4_init_39 : decode cX4_init 39 = .ok (.iconst (-1), 1) := dk_2 (dk_at dksX4_init_1 15 rfl rfl)
theorem dX4_init_40 : decode cX4_init 40 = .ok (.putfield 27, 3) := dk_181 0 27 (dk_at dksX4_init_1 16 rfl rfl)
theorem dX4_init_43 : decode cX4_init 43 = .ok (.aload_n 0, 1) := dk_42 (dk_at dksX4_init_1 19 rfl rfl)
theorem dX4_init_44 : decode cX4_init 44 = .ok (.sipush 900, 3) := dk_17 3 132 (dk_at dksX4_init_1 20 rfl rfl)
theorem dX4_init_47 : decode cX4_init 47 = .ok (.newarray .int, 2) := dk_188_10 (dk_at dksX4_init_2 0 rfl rfl)
theorem dX4_init_49 : decode cX4_init 49 = .ok (.putfield 30, 3) := dk_181 0 30 (dk_at dksX4_init_2 2 rfl rfl)
theorem dX4_init_52 : decode cX4_init 52 = .ok (.aload_n 0, 1) := dk_42 (dk_at dksX4_init_2 5 rfl rfl)
theorem dX4_init_53 : decode cX4_init 53 = .ok (.bipush 10, 2) := dk_16 10 (dk_at dksX4_init_2 6 rfl rfl)
theorem dX4_init_55 : decode cX4_init 55 = .ok (.newarray .int, 2) := dk_188_10 (dk_at dksX4_init_2 8 rfl rfl)
theorem dX4_init_57 : decode cX4_init 57 = .ok (.putfield 33, 3) := dk_181 0 33 (dk_at dksX4_init_2 10 rfl rfl)
theorem dX4_init_60 : decode cX4_init 60 = .ok (.aload_n 0, 1) := dk_42 (dk_at dksX4_init_2 13 rfl rfl)
theorem dX4_init_61 : decode cX4_init 61 = .ok (.bipush 23, 2) := dk_16 23 (dk_at dksX4_init_2 14 rfl rfl)
theorem dX4_init_63 : decode cX4_init 63 = .ok (.newarray .int, 2) := dk_188_10 (dk_at dksX4_init_2 16 rfl rfl)
theorem dX4_init_65 : decode cX4_init 65 = .ok (.putfield 36, 3) := dk_181 0 36 (dk_at dksX4_init_2 18 rfl rfl)
theorem dX4_init_68 : decode cX4_init 68 = .ok (.aload_n 0, 1) := dk_42 (dk_at dksX4_init_2 21 rfl rfl)
theorem dX4_init_69 : decode cX4_init 69 = .ok (.bipush 6, 2) := dk_16 6 (dk_at dksX4_init_2 22 rfl rfl)
theorem dX4_init_71 : decode cX4_init 71 = .ok (.newarray .int, 2) := dk_188_10 (dk_at dksX4_init_3 0 rfl rfl)
theorem dX4_init_73 : decode cX4_init 73 = .ok (.putfield 39, 3) := dk_181 0 39 (dk_at dksX4_init_3 2 rfl rfl)
theorem dX4_init_76 : decode cX4_init 76 = .ok (.aload_n 0, 1) := dk_42 (dk_at dksX4_init_3 5 rfl rfl)
theorem dX4_init_77 : decode cX4_init 77 = .ok (.sipush 602, 3) := dk_17 2 90 (dk_at dksX4_init_3 6 rfl rfl)
theorem dX4_init_80 : decode cX4_init 80 = .ok (.newarray .int, 2) := dk_188_10 (dk_at dksX4_init_3 9 rfl rfl)
theorem dX4_init_82 : decode cX4_init 82 = .ok (.putfield 42, 3) := dk_181 0 42 (dk_at dksX4_init_3 11 rfl rfl)
theorem dX4_init_85 : decode cX4_init 85 = .ok (.aload_n 0, 1) := dk_42 (dk_at dksX4_init_3 14 rfl rfl)
theorem dX4_init_86 : decode cX4_init 86 = .ok (.sipush 549, 3) := dk_17 2 37 (dk_at dksX4_init_3 15 rfl rfl)
theorem dX4_init_89 : decode cX4_init 89 = .ok (.newarray .long, 2) := dk_188_11 (dk_at dksX4_init_3 18 rfl rfl)
theorem dX4_init_91 : decode cX4_init 91 = .ok (.putfield 45, 3) := dk_181 0 45 (dk_at dksX4_init_3 20 rfl rfl)
theorem dX4_init_94 : decode cX4_init 94 = .ok (.aload_n 0, 1) := dk_42 (dk_at dksX4_init_3 23 rfl rfl)
theorem dX4_init_95 : decode cX4_init 95 = .ok (.iconst 3, 1) := dk_6 (dk_at dksX4_init_4 0 rfl rfl)
theorem dX4_init_96 : decode cX4_init 96 = .ok (.newarray .int, 2) := dk_188_10 (dk_at dksX4_init_4 1 rfl rfl)
theorem dX4_init_98 : decode cX4_init 98 = .ok (.putfield 49, 3) := dk_181 0 49 (dk_at dksX4_init_4 3 rfl rfl)
theorem dX4_init_101 : decode cX4_init 101 = .ok (.aload_n 0, 1) := dk_42 (dk_at dksX4_init_4 6 rfl rfl)
theorem dX4_init_102 : decode cX4_init 102 = .ok (.iconst 3, 1) := dk_6 (dk_at dksX4_init_4 7 rfl rfl)
theorem dX4_init_103 : decode cX4_init 103 = .ok (.newarray .int, 2) := dk_188_10 (dk_at dksX4_init_4 8 rfl rfl)
theorem dX4_init_105 : decode cX4_init 105 = .ok (.putfield 52, 3) := dk_181 0 52 (dk_at dksX4_init_4 10 rfl rfl)
theorem dX4_init_108 : decode cX4_init 108 = .ok (.aload_n 0, 1) := dk_42 (dk_at dksX4_init_4 13 rfl rfl)
theorem dX4_init_109 : decode cX4_init 109 = .ok (.ldc 55, 2) := dk_18 55 (dk_at dksX4_init_4 14 rfl rfl)
theorem dX4_init_111 : decode cX4_init 111 = .ok (.newarray .int, 2) := dk_188_10 (dk_at dksX4_init_4 16 rfl rfl)
theorem dX4_init_113 : decode cX4_init 113 = .ok (.putfield 56, 3) := dk_181 0 56 (dk_at dksX4_init_4 18 rfl rfl)
theorem dX4_init_116 : decode cX4_init 116 = .ok (.aload_n 0, 1) := dk_42 (dk_at dksX4_init_4 21 rfl rfl)
theorem dX4_init_117 : decode cX4_init 117 = .ok (.ldc 59, 2) := dk_18 59 (dk_at dksX4_init_4 22 rfl rfl)
theorem dX4_init_119 : decode cX4_init 119 = .ok (.newarray .int, 2) := dk_188_10 (dk_at dksX4_init_5 0 rfl rfl)
theorem dX4_init_121 : decode cX4_init 121 = .ok (.putfield 60, 3) := dk_181 0 60 (dk_at dksX4_init_5 2 rfl rfl)
theorem dX4_init_124 : decode cX4_init 124 = .ok (.aload_n 0, 1) := dk_42 (dk_at dksX4_init_5 5 rfl rfl)
theorem dX4_init_125 : decode cX4_init 125 = .ok (.sipush 1000, 3) := dk_17 3 232 (dk_at dksX4_init_5 6 rfl rfl)
theorem dX4_init_128 : decode cX4_init 128 = .ok (.newarray .boolean, 2) := dk_188_4 (dk_at dksX4_init_5 9 rfl rfl)
theorem dX4_init_130 : decode cX4_init 130 = .ok (.putfield 63, 3) := dk_181 0 63 (dk_at dksX4_init_5 11 rfl rfl)
theorem dX4_init_133 : decode cX4_init 133 = .ok (.aload_n 0, 1) := dk_42 (dk_at dksX4_init_5 14 rfl rfl)
theorem dX4_init_134 : decode cX4_init 134 = .ok (.iconst 4, 1) := dk_7 (dk_at dksX4_init_5 15 rfl rfl)
theorem dX4_init_135 : decode cX4_init 135 = .ok (.newarray .int, 2) := dk_188_10 (dk_at dksX4_init_5 16 rfl rfl)
theorem dX4_init_137 : decode cX4_init 137 = .ok (.dup, 1) := dk_89 (dk_at dksX4_init_5 18 rfl rfl)
theorem dX4_init_138 : decode cX4_init 138 = .ok (.iconst 0, 1) := dk_3 (dk_at dksX4_init_5 19 rfl rfl)
theorem dX4_init_139 : decode cX4_init 139 = .ok (.iconst (-1), 1) := dk_2 (dk_at dksX4_init_5 20 rfl rfl)
theorem dX4_init_140 : decode cX4_init 140 = .ok (.iastore, 1) := dk_79 (dk_at dksX4_init_5 21 rfl rfl)
theorem dX4_init_141 : decode cX4_init 141 = .ok (.dup, 1) := dk_89 (dk_at dksX4_init_5 22 rfl rfl)
theorem dX4_init_142 : decode cX4_init 142 = .ok (.iconst 1, 1) := dk_4 (dk_at dksX4_init_5 23 rfl rfl)
theorem dX4_init_143 : decode cX4_init 143 = .ok (.iconst (-1), 1) := dk_2 (dk_at dksX4_init_6 0 rfl rfl)
theorem dX4_init_144 : decode cX4_init 144 = .ok (.iastore, 1) := dk_79 (dk_at dksX4_init_6 1 rfl rfl)
theorem dX4_init_145 : decode cX4_init 145 = .ok (.dup, 1) := dk_89 (dk_at dksX4_init_6 2 rfl rfl)
theorem dX4_init_146 : decode cX4_init 146 = .ok (.iconst 2, 1) := dk_5 (dk_at dksX4_init_6 3 rfl rfl)
theorem dX4_init_147 : decode cX4_init 147 = .ok (.iconst (-1), 1) := dk_2 (dk_at dksX4_init_6 4 rfl rfl)
theorem dX4_init_148 : decode cX4_init 148 = .ok (.iastore, 1) := dk_79 (dk_at dksX4_init_6 5 rfl rfl)
theorem dX4_init_149 : decode cX4_init 149 = .ok (.dup, 1) := dk_89 (dk_at dksX4_init_6 6 rfl rfl)
theorem dX4_init_150 : decode cX4_init 150 = .ok (.iconst 3, 1) := dk_6 (dk_at dksX4_init_6 7 rfl rfl)
theorem dX4_init_151 : decode cX4_init 151 = .ok (.iconst (-1), 1) := dk_2 (dk_at dksX4_init_6 8 rfl rfl)
theorem dX4_init_152 : decode cX4_init 152 = .ok (.iastore, 1) := dk_79 (dk_at dksX4_init_6 9 rfl rfl)
theorem dX4_init_153 : decode cX4_init 153 = .ok (.putfield 66, 3) := dk_181 0 66 (dk_at dksX4_init_6 10 rfl rfl)
theorem dX4_init_156 : decode cX4_init 156 = .ok (.aload_n 0, 1) := dk_42 (dk_at dksX4_init_6 13 rfl rfl)
theorem dX4_init_157 : decode cX4_init 157 = .ok (.iconst 4, 1) := dk_7 (dk_at dksX4_init_6 14 rfl rfl)
theorem dX4_init_158 : decode cX4_init 158 = .ok (.newarray .int, 2) := dk_188_10 (dk_at dksX4_init_6 15 rfl rfl)
theorem dX4_init_160 : decode cX4_init 160 = .ok (.putfield 69, 3) := dk_181 0 69 (dk_at dksX4_init_6 17 rfl rfl)
theorem dX4_init_163 : decode cX4_init 163 = .ok (.aload_n 0, 1) := dk_42 (dk_at dksX4_init_6 20 rfl rfl)
theorem dX4_init_164 : decode cX4_init 164 = .ok (.sipush 160, 3) := dk_17 0 160 (dk_at dksX4_init_6 21 rfl rfl)
theorem dX4_init_167 : decode cX4_init 167 = .ok (.newarray .long, 2) := dk_188_11 (dk_at dksX4_init_7 0 rfl rfl)
theorem dX4_init_169 : decode cX4_init 169 = .ok (.putfield 72, 3) := dk_181 0 72 (dk_at dksX4_init_7 2 rfl rfl)
theorem dX4_init_172 : decode cX4_init 172 = .ok (.aload_n 0, 1) := dk_42 (dk_at dksX4_init_7 5 rfl rfl)
theorem dX4_init_173 : decode cX4_init 173 = .ok (.getfield 13, 3) := dk_180 0 13 (dk_at dksX4_init_7 6 rfl rfl)
theorem dX4_init_176 : decode cX4_init 176 = .ok (.invokestatic 75, 3) := dk_184 0 75 (dk_at dksX4_init_7 9 rfl rfl)
theorem dX4_init_179 : decode cX4_init 179 = .ok (.return_, 1) := dk_177 (dk_at dksX4_init_7 12 rfl rfl)
abbrev cX4_plain : ByteArray := prog_11_method_4_code
def yX4_plain : MethodName := ⟨RX4, "plain", "([I)V"⟩
def dkwX4_plain_2 : List UInt8 := [79, 42, 16, 58, 27, 96, 2, 79, 132, 1, 1, 167, 255, 233, 177]
abbrev dktX4_plain_2 : List UInt8 := dkwX4_plain_2 ++ []
def dkwX4_plain_1 : List UInt8 := [42, 6, 16, 50, 79, 42, 7, 16, 10, 79, 3, 60, 27, 16, 6, 162, 0, 23, 42, 16, 35, 27, 96, 2]
abbrev dktX4_plain_1 : List UInt8 := dkwX4_plain_1 ++ dktX4_plain_2
def dkwX4_plain_0 : List UInt8 := [3, 60, 27, 17, 4, 174, 162, 0, 13, 42, 27, 3, 79, 132, 1, 1, 167, 255, 242, 42, 5, 16, 100, 79]
abbrev dktX4_plain_0 : List UInt8 := dkwX4_plain_0 ++ dktX4_plain_1
theorem dksX4_plain_0 : cX4_plain.data.toList.drop 0 = dktX4_plain_0 := by decide +kernel
theorem dksX4_plain_1 : cX4_plain.data.toList.drop 24 = dktX4_plain_1 := dk_seg dksX4_plain_0 24 rfl rfl
theorem dksX4_plain_2 : cX4_plain.data.toList.drop 48 = dktX4_plain_2 := dk_seg dksX4_plain_1 24 rfl rfl
theorem dX4_plain_0 : decode cX4_plain 0 = .ok (.iconst 0, 1) := dk_3 (dk_at dksX4_plain_0 0 rfl rfl)
theorem dX4_plain_1 : decode cX4_plain 1 = .ok (.istore_n 1, 1) := dk_60 (dk_at dksX4_plain_0 1 rfl rfl)
theorem dX4_plain_2 : decode cX4_plain 2 = .ok (.iload_n 1, 1) := dk_27 (dk_at dksX4_plain_0 2 rfl rfl)
theorem dX4_plain_3 : decode cX4_plain 3 = .ok (.sipush 1198, 3) := dk_17 4 174 (dk_at dksX4_plain_0 3 rfl rfl)
theorem dX4_plain_6 : decode cX4_plain 6 = .ok (.if_icmp .ge 13, 3) := dk_162 0 13 (dk_at dksX4_plain_0 6 rfl rfl)
theorem dX4_plain_9 : decode cX4_plain 9 = .ok (.aload_n 0, 1) := dk_42 (dk_at dksX4_plain_0 9 rfl rfl)
theorem dX4_plain_10 : decode cX4_plain 10 = .ok (.iload_n 1, 1) := dk_27 (dk_at dksX4_plain_0 10 rfl rfl)
theorem dX4_plain_11 : decode cX4_plain 11 = .ok (.iconst 0, 1) := dk_3 (dk_at dksX4_plain_0 11 rfl rfl)
theorem dX4_plain_12 : decode cX4_plain 12 = .ok (.iastore, 1) := dk_79 (dk_at dksX4_plain_0 12 rfl rfl)
theorem dX4_plain_13 : decode cX4_plain 13 = .ok (.iinc 1 1, 3) := dk_132 1 1 (dk_at dksX4_plain_0 13 rfl rfl)
theorem dX4_plain_16 : decode cX4_plain 16 = .ok (.goto (-14), 3) := dk_167 255 242 (dk_at dksX4_plain_0 16 rfl rfl)
theorem dX4_plain_19 : decode cX4_plain 19 = .ok (.aload_n 0, 1) := dk_42 (dk_at dksX4_plain_0 19 rfl rfl)
theorem dX4_plain_20 : decode cX4_plain 20 = .ok (.iconst 2, 1) := dk_5 (dk_at dksX4_plain_0 20 rfl rfl)
theorem dX4_plain_21 : decode cX4_plain 21 = .ok (.bipush 100, 2) := dk_16 100 (dk_at dksX4_plain_0 21 rfl rfl)
theorem dX4_plain_23 : decode cX4_plain 23 = .ok (.iastore, 1) := dk_79 (dk_at dksX4_plain_0 23 rfl rfl)
theorem dX4_plain_24 : decode cX4_plain 24 = .ok (.aload_n 0, 1) := dk_42 (dk_at dksX4_plain_1 0 rfl rfl)
theorem dX4_plain_25 : decode cX4_plain 25 = .ok (.iconst 3, 1) := dk_6 (dk_at dksX4_plain_1 1 rfl rfl)
theorem dX4_plain_26 : decode cX4_plain 26 = .ok (.bipush 50, 2) := dk_16 50 (dk_at dksX4_plain_1 2 rfl rfl)
theorem dX4_plain_28 : decode cX4_plain 28 = .ok (.iastore, 1) := dk_79 (dk_at dksX4_plain_1 4 rfl rfl)
theorem dX4_plain_29 : decode cX4_plain 29 = .ok (.aload_n 0, 1) := dk_42 (dk_at dksX4_plain_1 5 rfl rfl)
theorem dX4_plain_30 : decode cX4_plain 30 = .ok (.iconst 4, 1) := dk_7 (dk_at dksX4_plain_1 6 rfl rfl)
theorem dX4_plain_31 : decode cX4_plain 31 = .ok (.bipush 10, 2) := dk_16 10 (dk_at dksX4_plain_1 7 rfl rfl)
theorem dX4_plain_33 : decode cX4_plain 33 = .ok (.iastore, 1) := dk_79 (dk_at dksX4_plain_1 9 rfl rfl)
theorem dX4_plain_34 : decode cX4_plain 34 = .ok (.iconst 0, 1) := dk_3 (dk_at dksX4_plain_1 10 rfl rfl)
theorem dX4_plain_35 : decode cX4_plain 35 = .ok (.istore_n 1, 1) := dk_60 (dk_at dksX4_plain_1 11 rfl rfl)
theorem dX4_plain_36 : decode cX4_plain 36 = .ok (.iload_n 1, 1) := dk_27 (dk_at dksX4_plain_1 12 rfl rfl)
theorem dX4_plain_37 : decode cX4_plain 37 = .ok (.bipush 6, 2) := dk_16 6 (dk_at dksX4_plain_1 13 rfl rfl)
theorem dX4_plain_39 : decode cX4_plain 39 = .ok (.if_icmp .ge 23, 3) := dk_162 0 23 (dk_at dksX4_plain_1 15 rfl rfl)
theorem dX4_plain_42 : decode cX4_plain 42 = .ok (.aload_n 0, 1) := dk_42 (dk_at dksX4_plain_1 18 rfl rfl)
theorem dX4_plain_43 : decode cX4_plain 43 = .ok (.bipush 35, 2) := dk_16 35 (dk_at dksX4_plain_1 19 rfl rfl)
theorem dX4_plain_45 : decode cX4_plain 45 = .ok (.iload_n 1, 1) := dk_27 (dk_at dksX4_plain_1 21 rfl rfl)
theorem dX4_plain_46 : decode cX4_plain 46 = .ok (.iadd, 1) := dk_96 (dk_at dksX4_plain_1 22 rfl rfl)
theorem dX4_plain_47 : decode cX4_plain 47 = .ok (.iconst (-1), 1) := dk_2 (dk_at dksX4_plain_1 23 rfl rfl)
theorem dX4_plain_48 : decode cX4_plain 48 = .ok (.iastore, 1) := dk_79 (dk_at dksX4_plain_2 0 rfl rfl)
theorem dX4_plain_49 : decode cX4_plain 49 = .ok (.aload_n 0, 1) := dk_42 (dk_at dksX4_plain_2 1 rfl rfl)
theorem dX4_plain_50 : decode cX4_plain 50 = .ok (.bipush 58, 2) := dk_16 58 (dk_at dksX4_plain_2 2 rfl rfl)
theorem dX4_plain_52 : decode cX4_plain 52 = .ok (.iload_n 1, 1) := dk_27 (dk_at dksX4_plain_2 4 rfl rfl)
theorem dX4_plain_53 : decode cX4_plain 53 = .ok (.iadd, 1) := dk_96 (dk_at dksX4_plain_2 5 rfl rfl)
theorem dX4_plain_54 : decode cX4_plain 54 = .ok (.iconst (-1), 1) := dk_2 (dk_at dksX4_plain_2 6 rfl rfl)
theorem dX4_plain_55 : decode cX4_plain 55 = .ok (.iastore, 1) := dk_79 (dk_at dksX4_plain_2 7 rfl rfl)
theorem dX4_plain_56 : decode cX4_plain 56 = .ok (.iinc 1 1, 3) := dk_132 1 1 (dk_at dksX4_plain_2 8 rfl rfl)
theorem dX4_plain_59 : decode cX4_plain 59 = .ok (.goto (-23), 3) := dk_167 255 233 (dk_at dksX4_plain_2 11 rfl rfl)
theorem dX4_plain_62 : decode cX4_plain 62 = .ok (.return_, 1) := dk_177 (dk_at dksX4_plain_2 14 rfl rfl)
abbrev cX4_feed : ByteArray := prog_11_method_5_code
def yX4_feed : MethodName := ⟨RX4, "feed", "(IIIII)I"⟩
def dkwX4_feed_5 : List UInt8 := [167, 255, 162, 42, 180, 0, 79, 172]
abbrev dktX4_feed_5 : List UInt8 := dkwX4_feed_5 ++ []
def dkwX4_feed_4 : List UInt8 := [112, 104, 100, 122, 17, 0, 255, 126, 79, 42, 89, 180, 0, 79, 4, 96, 181, 0, 79, 132, 6, 1]
abbrev dktX4_feed_4 : List UInt8 := dkwX4_feed_4 ++ dktX4_feed_5
def dkwX4_feed_3 : List UInt8 := [167, 0, 5, 21, 5, 54, 7, 42, 180, 0, 21, 42, 180, 0, 79, 21, 7, 16, 24, 16, 8, 21, 6, 7]
abbrev dktX4_feed_3 : List UInt8 := dkwX4_feed_3 ++ dktX4_feed_4
def dkwX4_feed_2 : List UInt8 := [28, 167, 0, 28, 21, 6, 16, 12, 162, 0, 7, 29, 167, 0, 17, 21, 6, 16, 16, 162, 0, 8, 21, 4]
abbrev dktX4_feed_2 : List UInt8 := dkwX4_feed_2 ++ dktX4_feed_3
def dkwX4_feed_1 : List UInt8 := [21, 6, 16, 20, 162, 0, 93, 21, 6, 7, 162, 0, 7, 27, 167, 0, 39, 21, 6, 16, 8, 162, 0, 7]
abbrev dktX4_feed_1 : List UInt8 := dkwX4_feed_1 ++ dktX4_feed_2
def dkwX4_feed_0 : List UInt8 := [42, 3, 181, 0, 1, 42, 180, 0, 79, 16, 20, 96, 17, 3, 132, 164, 0, 6, 16, 251, 172, 3, 54, 6]
abbrev dktX4_feed_0 : List UInt8 := dkwX4_feed_0 ++ dktX4_feed_1
theorem dksX4_feed_0 : cX4_feed.data.toList.drop 0 = dktX4_feed_0 := by decide +kernel
theorem dksX4_feed_1 : cX4_feed.data.toList.drop 24 = dktX4_feed_1 := dk_seg dksX4_feed_0 24 rfl rfl
theorem dksX4_feed_2 : cX4_feed.data.toList.drop 48 = dktX4_feed_2 := dk_seg dksX4_feed_1 24 rfl rfl
theorem dksX4_feed_3 : cX4_feed.data.toList.drop 72 = dktX4_feed_3 := dk_seg dksX4_feed_2 24 rfl rfl
theorem dksX4_feed_4 : cX4_feed.data.toList.drop 96 = dktX4_feed_4 := dk_seg dksX4_feed_3 24 rfl rfl
theorem dksX4_feed_5 : cX4_feed.data.toList.drop 118 = dktX4_feed_5 := dk_seg dksX4_feed_4 22 rfl rfl
theorem dX4_feed_0 : decode cX4_feed 0 = .ok (.aload_n 0, 1) := dk_42 (dk_at dksX4_feed_0 0 rfl rfl)
theorem dX4_feed_1 : decode cX4_feed 1 = .ok (.iconst 0, 1) := dk_3 (dk_at dksX4_feed_0 1 rfl rfl)
theorem dX4_feed_2 : decode cX4_feed 2 = .ok (.putfield 1, 3) := dk_181 0 1 (dk_at dksX4_feed_0 2 rfl rfl)
theorem dX4_feed_5 : decode cX4_feed 5 = .ok (.aload_n 0, 1) := dk_42 (dk_at dksX4_feed_0 5 rfl rfl)
theorem dX4_feed_6 : decode cX4_feed 6 = .ok (.getfield 79, 3) := dk_180 0 79 (dk_at dksX4_feed_0 6 rfl rfl)
theorem dX4_feed_9 : decode cX4_feed 9 = .ok (.bipush 20, 2) := dk_16 20 (dk_at dksX4_feed_0 9 rfl rfl)
theorem dX4_feed_11 : decode cX4_feed 11 = .ok (.iadd, 1) := dk_96 (dk_at dksX4_feed_0 11 rfl rfl)
theorem dX4_feed_12 : decode cX4_feed 12 = .ok (.sipush 900, 3) := dk_17 3 132 (dk_at dksX4_feed_0 12 rfl rfl)
theorem dX4_feed_15 : decode cX4_feed 15 = .ok (.if_icmp .le 6, 3) := dk_164 0 6 (dk_at dksX4_feed_0 15 rfl rfl)
theorem dX4_feed_18 : decode cX4_feed 18 = .ok (.bipush (-5), 2) := dk_16 251 (dk_at dksX4_feed_0 18 rfl rfl)
theorem dX4_feed_20 : decode cX4_feed 20 = .ok (.ireturn, 1) := dk_172 (dk_at dksX4_feed_0 20 rfl rfl)
theorem dX4_feed_21 : decode cX4_feed 21 = .ok (.iconst 0, 1) := dk_3 (dk_at dksX4_feed_0 21 rfl rfl)
theorem dX4_feed_22 : decode cX4_feed 22 = .ok (.istore 6, 2) := dk_54 6 (dk_at dksX4_feed_0 22 rfl rfl)
theorem dX4_feed_24 : decode cX4_feed 24 = .ok (.iload 6, 2) := dk_21 6 (dk_at dksX4_feed_1 0 rfl rfl)
theorem dX4_feed_26 : decode cX4_feed 26 = .ok (.bipush 20, 2) := dk_16 20 (dk_at dksX4_feed_1 2 rfl rfl)
theorem dX4_feed_28 : decode cX4_feed 28 = .ok (.if_icmp .ge 93, 3) := dk_162 0 93 (dk_at dksX4_feed_1 4 rfl rfl)
theorem dX4_feed_31 : decode cX4_feed 31 = .ok (.iload 6, 2) := dk_21 6 (dk_at dksX4_feed_1 7 rfl rfl)
theorem dX4_feed_33 : decode cX4_feed 33 = .ok (.iconst 4, 1) := dk_7 (dk_at dksX4_feed_1 9 rfl rfl)
theorem dX4_feed_34 : decode cX4_feed 34 = .ok (.if_icmp .ge 7, 3) := dk_162 0 7 (dk_at dksX4_feed_1 10 rfl rfl)
theorem dX4_feed_37 : decode cX4_feed 37 = .ok (.iload_n 1, 1) := dk_27 (dk_at dksX4_feed_1 13 rfl rfl)
theorem dX4_feed_38 : decode cX4_feed 38 = .ok (.goto 39, 3) := dk_167 0 39 (dk_at dksX4_feed_1 14 rfl rfl)
theorem dX4_feed_41 : decode cX4_feed 41 = .ok (.iload 6, 2) := dk_21 6 (dk_at dksX4_feed_1 17 rfl rfl)
theorem dX4_feed_43 : decode cX4_feed 43 = .ok (.bipush 8, 2) := dk_16 8 (dk_at dksX4_feed_1 19 rfl rfl)
theorem dX4_feed_45 : decode cX4_feed 45 = .ok (.if_icmp .ge 7, 3) := dk_162 0 7 (dk_at dksX4_feed_1 21 rfl rfl)
theorem dX4_feed_48 : decode cX4_feed 48 = .ok (.iload_n 2, 1) := dk_28 (dk_at dksX4_feed_2 0 rfl rfl)
theorem dX4_feed_49 : decode cX4_feed 49 = .ok (.goto 28, 3) := dk_167 0 28 (dk_at dksX4_feed_2 1 rfl rfl)
theorem dX4_feed_52 : decode cX4_feed 52 = .ok (.iload 6, 2) := dk_21 6 (dk_at dksX4_feed_2 4 rfl rfl)
theorem dX4_feed_54 : decode cX4_feed 54 = .ok (.bipush 12, 2) := dk_16 12 (dk_at dksX4_feed_2 6 rfl rfl)
theorem dX4_feed_56 : decode cX4_feed 56 = .ok (.if_icmp .ge 7, 3) := dk_162 0 7 (dk_at dksX4_feed_2 8 rfl rfl)
theorem dX4_feed_59 : decode cX4_feed 59 = .ok (.iload_n 3, 1) := dk_29 (dk_at dksX4_feed_2 11 rfl rfl)
theorem dX4_feed_60 : decode cX4_feed 60 = .ok (.goto 17, 3) := dk_167 0 17 (dk_at dksX4_feed_2 12 rfl rfl)
theorem dX4_feed_63 : decode cX4_feed 63 = .ok (.iload 6, 2) := dk_21 6 (dk_at dksX4_feed_2 15 rfl rfl)
theorem dX4_feed_65 : decode cX4_feed 65 = .ok (.bipush 16, 2) := dk_16 16 (dk_at dksX4_feed_2 17 rfl rfl)
theorem dX4_feed_67 : decode cX4_feed 67 = .ok (.if_icmp .ge 8, 3) := dk_162 0 8 (dk_at dksX4_feed_2 19 rfl rfl)
theorem dX4_feed_70 : decode cX4_feed 70 = .ok (.iload 4, 2) := dk_21 4 (dk_at dksX4_feed_2 22 rfl rfl)
theorem dX4_feed_72 : decode cX4_feed 72 = .ok (.goto 5, 3) := dk_167 0 5 (dk_at dksX4_feed_3 0 rfl rfl)
theorem dX4_feed_75 : decode cX4_feed 75 = .ok (.iload 5, 2) := dk_21 5 (dk_at dksX4_feed_3 3 rfl rfl)
theorem dX4_feed_77 : decode cX4_feed 77 = .ok (.istore 7, 2) := dk_54 7 (dk_at dksX4_feed_3 5 rfl rfl)
theorem dX4_feed_79 : decode cX4_feed 79 = .ok (.aload_n 0, 1) := dk_42 (dk_at dksX4_feed_3 7 rfl rfl)
theorem dX4_feed_80 : decode cX4_feed 80 = .ok (.getfield 21, 3) := dk_180 0 21 (dk_at dksX4_feed_3 8 rfl rfl)
theorem dX4_feed_83 : decode cX4_feed 83 = .ok (.aload_n 0, 1) := dk_42 (dk_at dksX4_feed_3 11 rfl rfl)
theorem dX4_feed_84 : decode cX4_feed 84 = .ok (.getfield 79, 3) := dk_180 0 79 (dk_at dksX4_feed_3 12 rfl rfl)
theorem dX4_feed_87 : decode cX4_feed 87 = .ok (.iload 7, 2) := dk_21 7 (dk_at dksX4_feed_3 15 rfl rfl)
theorem dX4_feed_89 : decode cX4_feed 89 = .ok (.bipush 24, 2) := dk_16 24 (dk_at dksX4_feed_3 17 rfl rfl)
theorem dX4_feed_91 : decode cX4_feed 91 = .ok (.bipush 8, 2) := dk_16 8 (dk_at dksX4_feed_3 19 rfl rfl)
theorem dX4_feed_93 : decode cX4_feed 93 = .ok (.iload 6, 2) := dk_21 6 (dk_at dksX4_feed_3 21 rfl rfl)
theorem dX4_feed_95 : decode cX4_feed 95 = .ok (.iconst 4, 1) := dk_7 (dk_at dksX4_feed_3 23 rfl rfl)
theorem dX4_feed_96 : decode cX4_feed 96 = .ok (.irem, 1) := dk_112 (dk_at dksX4_feed_4 0 rfl rfl)
theorem dX4_feed_97 : decode cX4_feed 97 = .ok (.imul, 1) := dk_104 (dk_at dksX4_feed_4 1 rfl rfl)
theorem dX4_feed_98 : decode cX4_feed 98 = .ok (.isub, 1) := dk_100 (dk_at dksX4_feed_4 2 rfl rfl)
theorem dX4_feed_99 : decode cX4_feed 99 = .ok (.ishr, 1) := dk_122 (dk_at dksX4_feed_4 3 rfl rfl)
theorem dX4_feed_100 : decode cX4_feed 100 = .ok (.sipush 255, 3) := dk_17 0 255 (dk_at dksX4_feed_4 4 rfl rfl)
theorem dX4_feed_103 : decode cX4_feed 103 = .ok (.iand, 1) := dk_126 (dk_at dksX4_feed_4 7 rfl rfl)
theorem dX4_feed_104 : decode cX4_feed 104 = .ok (.iastore, 1) := dk_79 (dk_at dksX4_feed_4 8 rfl rfl)
theorem dX4_feed_105 : decode cX4_feed 105 = .ok (.aload_n 0, 1) := dk_42 (dk_at dksX4_feed_4 9 rfl rfl)
theorem dX4_feed_106 : decode cX4_feed 106 = .ok (.dup, 1) := dk_89 (dk_at dksX4_feed_4 10 rfl rfl)
theorem dX4_feed_107 : decode cX4_feed 107 = .ok (.getfield 79, 3) := dk_180 0 79 (dk_at dksX4_feed_4 11 rfl rfl)
theorem dX4_feed_110 : decode cX4_feed 110 = .ok (.iconst 1, 1) := dk_4 (dk_at dksX4_feed_4 14 rfl rfl)
theorem dX4_feed_111 : decode cX4_feed 111 = .ok (.iadd, 1) := dk_96 (dk_at dksX4_feed_4 15 rfl rfl)
theorem dX4_feed_112 : decode cX4_feed 112 = .ok (.putfield 79, 3) := dk_181 0 79 (dk_at dksX4_feed_4 16 rfl rfl)
theorem dX4_feed_115 : decode cX4_feed 115 = .ok (.iinc 6 1, 3) := dk_132 6 1 (dk_at dksX4_feed_4 19 rfl rfl)
theorem dX4_feed_118 : decode cX4_feed 118 = .ok (.goto (-94), 3) := dk_167 255 162 (dk_at dksX4_feed_5 0 rfl rfl)
theorem dX4_feed_121 : decode cX4_feed 121 = .ok (.aload_n 0, 1) := dk_42 (dk_at dksX4_feed_5 3 rfl rfl)
theorem dX4_feed_122 : decode cX4_feed 122 = .ok (.getfield 79, 3) := dk_180 0 79 (dk_at dksX4_feed_5 4 rfl rfl)
theorem dX4_feed_125 : decode cX4_feed 125 = .ok (.ireturn, 1) := dk_172 (dk_at dksX4_feed_5 7 rfl rfl)
abbrev cX4_tower : ByteArray := prog_11_method_29_code
def yX4_tower : MethodName := ⟨RX4, "tower", "(I)I"⟩
def dkwX4_tower_8 : List UInt8 := [180, 0, 24, 28, 46, 79, 132, 2, 1, 167, 255, 234, 42, 180, 0, 13, 3, 46, 172]
abbrev dktX4_tower_8 : List UInt8 := dkwX4_tower_8 ++ []
def dkwX4_tower_7 : List UInt8 := [96, 46, 79, 132, 2, 1, 167, 255, 229, 3, 61, 28, 17, 4, 174, 162, 0, 21, 42, 180, 0, 13, 28, 42]
abbrev dktX4_tower_7 : List UInt8 := dkwX4_tower_7 ++ dktX4_tower_8
def dkwX4_tower_6 : List UInt8 := [172, 3, 61, 28, 16, 23, 162, 0, 27, 42, 180, 0, 24, 16, 43, 28, 96, 42, 180, 0, 24, 16, 20, 28]
abbrev dktX4_tower_6 : List UInt8 := dkwX4_tower_6 ++ dktX4_tower_7
def dkwX4_tower_5 : List UInt8 := [167, 0, 7, 42, 180, 0, 128, 181, 0, 27, 42, 180, 0, 125, 153, 0, 11, 16, 226, 42, 180, 0, 125, 100]
abbrev dktX4_tower_5 : List UInt8 := dkwX4_tower_5 ++ dktX4_tower_6
def dkwX4_tower_4 : List UInt8 := [4, 96, 79, 167, 255, 212, 42, 42, 180, 0, 125, 181, 0, 194, 42, 42, 180, 0, 125, 154, 0, 7, 2]
abbrev dktX4_tower_4 : List UInt8 := dkwX4_tower_4 ++ dktX4_tower_5
def dkwX4_tower_3 : List UInt8 := [182, 0, 191, 42, 16, 30, 182, 0, 160, 154, 0, 8, 42, 5, 182, 0, 137, 42, 180, 0, 24, 3, 92, 46]
abbrev dktX4_tower_3 : List UInt8 := dkwX4_tower_3 ++ dktX4_tower_4
def dkwX4_tower_2 : List UInt8 := [184, 0, 75, 42, 182, 0, 134, 42, 180, 0, 125, 154, 0, 43, 42, 180, 0, 107, 16, 24, 159, 0, 34, 42]
abbrev dktX4_tower_2 : List UInt8 := dkwX4_tower_2 ++ dktX4_tower_3
def dkwX4_tower_1 : List UInt8 := [181, 0, 82, 42, 3, 181, 0, 79, 42, 3, 181, 0, 100, 42, 3, 181, 0, 125, 42, 180, 0, 24]
abbrev dktX4_tower_1 : List UInt8 := dkwX4_tower_1 ++ dktX4_tower_2
def dkwX4_tower_0 : List UInt8 := [42, 3, 181, 0, 1, 27, 133, 9, 42, 180, 0, 79, 133, 184, 0, 141, 154, 0, 6, 16, 253, 172, 42, 27]
abbrev dktX4_tower_0 : List UInt8 := dkwX4_tower_0 ++ dktX4_tower_1
theorem dksX4_tower_0 : cX4_tower.data.toList.drop 0 = dktX4_tower_0 := by decide +kernel
theorem dksX4_tower_1 : cX4_tower.data.toList.drop 24 = dktX4_tower_1 := dk_seg dksX4_tower_0 24 rfl rfl
theorem dksX4_tower_2 : cX4_tower.data.toList.drop 46 = dktX4_tower_2 := dk_seg dksX4_tower_1 22 rfl rfl
theorem dksX4_tower_3 : cX4_tower.data.toList.drop 70 = dktX4_tower_3 := dk_seg dksX4_tower_2 24 rfl rfl
theorem dksX4_tower_4 : cX4_tower.data.toList.drop 94 = dktX4_tower_4 := dk_seg dksX4_tower_3 24 rfl rfl
theorem dksX4_tower_5 : cX4_tower.data.toList.drop 117 = dktX4_tower_5 := dk_seg dksX4_tower_4 23 rfl rfl
theorem dksX4_tower_6 : cX4_tower.data.toList.drop 141 = dktX4_tower_6 := dk_seg dksX4_tower_5 24 rfl rfl
theorem dksX4_tower_7 : cX4_tower.data.toList.drop 165 = dktX4_tower_7 := dk_seg dksX4_tower_6 24 rfl rfl
theorem dksX4_tower_8 : cX4_tower.data.toList.drop 189 = dktX4_tower_8 := dk_seg dksX4_tower_7 24 rfl rfl
theorem dX4_tower_0 : decode cX4_tower 0 = .ok (.aload_n 0, 1) := dk_42 (dk_at dksX4_tower_0 0 rfl rfl)
theorem dX4_tower_1 : decode cX4_tower 1 = .ok (.iconst 0, 1) := dk_3 (dk_at dksX4_tower_0 1 rfl rfl)
theorem dX4_tower_2 : decode cX4_tower 2 = .ok (.putfield 1, 3) := dk_181 0 1 (dk_at dksX4_tower_0 2 rfl rfl)
theorem dX4_tower_5 : decode cX4_tower 5 = .ok (.iload_n 1, 1) := dk_27 (dk_at dksX4_tower_0 5 rfl rfl)
theorem dX4_tower_6 : decode cX4_tower 6 = .ok (.i2l, 1) := dk_133 (dk_at dksX4_tower_0 6 rfl rfl)
theorem dX4_tower_7 : decode cX4_tower 7 = .ok (.lconst 0, 1) := dk_9 (dk_at dksX4_tower_0 7 rfl rfl)
theorem dX4_tower_8 : decode cX4_tower 8 = .ok (.aload_n 0, 1) := dk_42 (dk_at dksX4_tower_0 8 rfl rfl)
theorem dX4_tower_9 : decode cX4_tower 9 = .ok (.getfield 79, 3) := dk_180 0 79 (dk_at dksX4_tower_0 9 rfl rfl)
theorem dX4_tower_12 : decode cX4_tower 12 = .ok (.i2l, 1) := dk_133 (dk_at dksX4_tower_0 12 rfl rfl)
theorem dX4_tower_13 : decode cX4_tower 13 = .ok (.invokestatic 141, 3) := dk_184 0 141 (dk_at dksX4_tower_0 13 rfl rfl)
theorem dX4_tower_16 : decode cX4_tower 16 = .ok (.ifCond .ne 6, 3) := dk_154 0 6 (dk_at dksX4_tower_0 16 rfl rfl)
theorem dX4_tower_19 : decode cX4_tower 19 = .ok (.bipush (-3), 2) := dk_16 253 (dk_at dksX4_tower_0 19 rfl rfl)
theorem dX4_tower_21 : decode cX4_tower 21 = .ok (.ireturn, 1) := dk_172 (dk_at dksX4_tower_0 21 rfl rfl)
theorem dX4_tower_22 : decode cX4_tower 22 = .ok (.aload_n 0, 1) := dk_42 (dk_at dksX4_tower_0 22 rfl rfl)
theorem dX4_tower_23 : decode cX4_tower 23 = .ok (.iload_n 1, 1) := dk_27 (dk_at dksX4_tower_0 23 rfl rfl)
theorem dX4_tower_24 : decode cX4_tower 24 = .ok (.putfield 82, 3) := dk_181 0 82 (dk_at dksX4_tower_1 0 rfl rfl)
theorem dX4_tower_27 : decode cX4_tower 27 = .ok (.aload_n 0, 1) := dk_42 (dk_at dksX4_tower_1 3 rfl rfl)
theorem dX4_tower_28 : decode cX4_tower 28 = .ok (.iconst 0, 1) := dk_3 (dk_at dksX4_tower_1 4 rfl rfl)
theorem dX4_tower_29 : decode cX4_tower 29 = .ok (.putfield 79, 3) := dk_181 0 79 (dk_at dksX4_tower_1 5 rfl rfl)
theorem dX4_tower_32 : decode cX4_tower 32 = .ok (.aload_n 0, 1) := dk_42 (dk_at dksX4_tower_1 8 rfl rfl)
theorem dX4_tower_33 : decode cX4_tower 33 = .ok (.iconst 0, 1) := dk_3 (dk_at dksX4_tower_1 9 rfl rfl)
theorem dX4_tower_34 : decode cX4_tower 34 = .ok (.putfield 100, 3) := dk_181 0 100 (dk_at dksX4_tower_1 10 rfl rfl)
theorem dX4_tower_37 : decode cX4_tower 37 = .ok (.aload_n 0, 1) := dk_42 (dk_at dksX4_tower_1 13 rfl rfl)
theorem dX4_tower_38 : decode cX4_tower 38 = .ok (.iconst 0, 1) := dk_3 (dk_at dksX4_tower_1 14 rfl rfl)
theorem dX4_tower_39 : decode cX4_tower 39 = .ok (.putfield 125, 3) := dk_181 0 125 (dk_at dksX4_tower_1 15 rfl rfl)
theorem dX4_tower_42 : decode cX4_tower 42 = .ok (.aload_n 0, 1) := dk_42 (dk_at dksX4_tower_1 18 rfl rfl)
theorem dX4_tower_43 : decode cX4_tower 43 = .ok (.getfield 24, 3) := dk_180 0 24 (dk_at dksX4_tower_1 19 rfl rfl)
theorem dX4_tower_46 : decode cX4_tower 46 = .ok (.invokestatic 75, 3) := dk_184 0 75 (dk_at dksX4_tower_2 0 rfl rfl)
theorem dX4_tower_49 : decode cX4_tower 49 = .ok (.aload_n 0, 1) := dk_42 (dk_at dksX4_tower_2 3 rfl rfl)
theorem dX4_tower_50 : decode cX4_tower 50 = .ok (.invokevirtual 134, 3) := dk_182 0 134 (dk_at dksX4_tower_2 4 rfl rfl)
theorem dX4_tower_53 : decode cX4_tower 53 = .ok (.aload_n 0, 1) := dk_42 (dk_at dksX4_tower_2 7 rfl rfl)
theorem dX4_tower_54 : decode cX4_tower 54 = .ok (.getfield 125, 3) := dk_180 0 125 (dk_at dksX4_tower_2 8 rfl rfl)
theorem dX4_tower_57 : decode cX4_tower 57 = .ok (.ifCond .ne 43, 3) := dk_154 0 43 (dk_at dksX4_tower_2 11 rfl rfl)
theorem dX4_tower_60 : decode cX4_tower 60 = .ok (.aload_n 0, 1) := dk_42 (dk_at dksX4_tower_2 14 rfl rfl)
theorem dX4_tower_61 : decode cX4_tower 61 = .ok (.getfield 107, 3) := dk_180 0 107 (dk_at dksX4_tower_2 15 rfl rfl)
theorem dX4_tower_64 : decode cX4_tower 64 = .ok (.bipush 24, 2) := dk_16 24 (dk_at dksX4_tower_2 18 rfl rfl)
theorem dX4_tower_66 : decode cX4_tower 66 = .ok (.if_icmp .eq 34, 3) := dk_159 0 34 (dk_at dksX4_tower_2 20 rfl rfl)
theorem dX4_tower_69 : decode cX4_tower 69 = .ok (.aload_n 0, 1) := dk_42 (dk_at dksX4_tower_2 23 rfl rfl)
theorem dX4_tower_70 : decode cX4_tower 70 = .ok (.invokevirtual 191, 3) := dk_182 0 191 (dk_at dksX4_tower_3 0 rfl rfl)
theorem dX4_tower_73 : decode cX4_tower 73 = .ok (.aload_n 0, 1) := dk_42 (dk_at dksX4_tower_3 3 rfl rfl)
theorem dX4_tower_74 : decode cX4_tower 74 = .ok (.bipush 30, 2) := dk_16 30 (dk_at dksX4_tower_3 4 rfl rfl)
theorem dX4_tower_76 : decode cX4_tower 76 = .ok (.invokevirtual 160, 3) := dk_182 0 160 (dk_at dksX4_tower_3 6 rfl rfl)
theorem dX4_tower_79 : decode cX4_tower 79 = .ok (.ifCond .ne 8, 3) := dk_154 0 8 (dk_at dksX4_tower_3 9 rfl rfl)
theorem dX4_tower_82 : decode cX4_tower 82 = .ok (.aload_n 0, 1) := dk_42 (dk_at dksX4_tower_3 12 rfl rfl)
theorem dX4_tower_83 : decode cX4_tower 83 = .ok (.iconst 2, 1) := dk_5 (dk_at dksX4_tower_3 13 rfl rfl)
theorem dX4_tower_84 : decode cX4_tower 84 = .ok (.invokevirtual 137, 3) := dk_182 0 137 (dk_at dksX4_tower_3 14 rfl rfl)
theorem dX4_tower_87 : decode cX4_tower 87 = .ok (.aload_n 0, 1) := dk_42 (dk_at dksX4_tower_3 17 rfl rfl)
theorem dX4_tower_88 : decode cX4_tower 88 = .ok (.getfield 24, 3) := dk_180 0 24 (dk_at dksX4_tower_3 18 rfl rfl)
theorem dX4_tower_91 : decode cX4_tower 91 = .ok (.iconst 0, 1) := dk_3 (dk_at dksX4_tower_3 21 rfl rfl)
theorem dX4_tower_92 : decode cX4_tower 92 = .ok (.dup2, 1) := dk_92 (dk_at dksX4_tower_3 22 rfl rfl)
theorem dX4_tower_93 : decode cX4_tower 93 = .ok (.iaload, 1) := dk_46 (dk_at dksX4_tower_3 23 rfl rfl)
theorem dX4_tower_94 : decode cX4_tower 94 = .ok (.iconst 1, 1) := dk_4 (dk_at dksX4_tower_4 0 rfl rfl)
theorem dX4_tower_95 : decode cX4_tower 95 = .ok (.iadd, 1) := dk_96 (dk_at dksX4_tower_4 1 rfl rfl)
theorem dX4_tower_96 : decode cX4_tower 96 = .ok (.iastore, 1) := dk_79 (dk_at dksX4_tower_4 2 rfl rfl)
theorem dX4_tower_97 : decode cX4_tower 97 = .ok (.goto (-44), 3) := dk_167 255 212 (dk_at dksX4_tower_4 3 rfl rfl)
theorem dX4_tower_100 : decode cX4_tower 100 = .ok (.aload_n 0, 1) := dk_42 (dk_at dksX4_tower_4 6 rfl rfl)
theorem dX4_tower_101 : decode cX4_tower 101 = .ok (.aload_n 0, 1) := dk_42 (dk_at dksX4_tower_4 7 rfl rfl)
theorem dX4_tower_102 : decode cX4_tower 102 = .ok (.getfield 125, 3) := dk_180 0 125 (dk_at dksX4_tower_4 8 rfl rfl)
theorem dX4_tower_105 : decode cX4_tower 105 = .ok (.putfield 194, 3) := dk_181 0 194 (dk_at dksX4_tower_4 11 rfl rfl)
theorem dX4_tower_108 : decode cX4_tower 108 = .ok (.aload_n 0, 1) := dk_42 (dk_at dksX4_tower_4 14 rfl rfl)
theorem dX4_tower_109 : decode cX4_tower 109 = .ok (.aload_n 0, 1) := dk_42 (dk_at dksX4_tower_4 15 rfl rfl)
theorem dX4_tower_110 : decode cX4_tower 110 = .ok (.getfield 125, 3) := dk_180 0 125 (dk_at dksX4_tower_4 16 rfl rfl)
theorem dX4_tower_113 : decode cX4_tower 113 = .ok (.ifCond .ne 7, 3) := dk_154 0 7 (dk_at dksX4_tower_4 19 rfl rfl)
theorem dX4_tower_116 : decode cX4_tower 116 = .ok (.iconst (-1), 1) := dk_2 (dk_at dksX4_tower_4 22 rfl rfl)
theorem dX4_tower_117 : decode cX4_tower 117 = .ok (.goto 7, 3) := dk_167 0 7 (dk_at dksX4_tower_5 0 rfl rfl)
theorem dX4_tower_120 : decode cX4_tower 120 = .ok (.aload_n 0, 1) := dk_42 (dk_at dksX4_tower_5 3 rfl rfl)
theorem dX4_tower_121 : decode cX4_tower 121 = .ok (.getfield 128, 3) := dk_180 0 128 (dk_at dksX4_tower_5 4 rfl rfl)
theorem dX4_tower_124 : decode cX4_tower 124 = .ok (.putfield 27, 3) := dk_181 0 27 (dk_at dksX4_tower_5 7 rfl rfl)
theorem dX4_tower_127 : decode cX4_tower 127 = .ok (.aload_n 0, 1) := dk_42 (dk_at dksX4_tower_5 10 rfl rfl)
theorem dX4_tower_128 : decode cX4_tower 128 = .ok (.getfield 125, 3) := dk_180 0 125 (dk_at dksX4_tower_5 11 rfl rfl)
theorem dX4_tower_131 : decode cX4_tower 131 = .ok (.ifCond .eq 11, 3) := dk_153 0 11 (dk_at dksX4_tower_5 14 rfl rfl)
theorem dX4_tower_134 : decode cX4_tower 134 = .ok (.bipush (-30), 2) := dk_16 226 (dk_at dksX4_tower_5 17 rfl rfl)
theorem dX4_tower_136 : decode cX4_tower 136 = .ok (.aload_n 0, 1) := dk_42 (dk_at dksX4_tower_5 19 rfl rfl)
theorem dX4_tower_137 : decode cX4_tower 137 = .ok (.getfield 125, 3) := dk_180 0 125 (dk_at dksX4_tower_5 20 rfl rfl)
theorem dX4_tower_140 : decode cX4_tower 140 = .ok (.isub, 1) := dk_100 (dk_at dksX4_tower_5 23 rfl rfl)
theorem dX4_tower_141 : decode cX4_tower 141 = .ok (.ireturn, 1) := dk_172 (dk_at dksX4_tower_6 0 rfl rfl)
theorem dX4_tower_142 : decode cX4_tower 142 = .ok (.iconst 0, 1) := dk_3 (dk_at dksX4_tower_6 1 rfl rfl)
theorem dX4_tower_143 : decode cX4_tower 143 = .ok (.istore_n 2, 1) := dk_61 (dk_at dksX4_tower_6 2 rfl rfl)
theorem dX4_tower_144 : decode cX4_tower 144 = .ok (.iload_n 2, 1) := dk_28 (dk_at dksX4_tower_6 3 rfl rfl)
theorem dX4_tower_145 : decode cX4_tower 145 = .ok (.bipush 23, 2) := dk_16 23 (dk_at dksX4_tower_6 4 rfl rfl)
theorem dX4_tower_147 : decode cX4_tower 147 = .ok (.if_icmp .ge 27, 3) := dk_162 0 27 (dk_at dksX4_tower_6 6 rfl rfl)
theorem dX4_tower_150 : decode cX4_tower 150 = .ok (.aload_n 0, 1) := dk_42 (dk_at dksX4_tower_6 9 rfl rfl)
theorem dX4_tower_151 : decode cX4_tower 151 = .ok (.getfield 24, 3) := dk_180 0 24 (dk_at dksX4_tower_6 10 rfl rfl)
theorem dX4_tower_154 : decode cX4_tower 154 = .ok (.bipush 43, 2) := dk_16 43 (dk_at dksX4_tower_6 13 rfl rfl)
theorem dX4_tower_156 : decode cX4_tower 156 = .ok (.iload_n 2, 1) := dk_28 (dk_at dksX4_tower_6 15 rfl rfl)
theorem dX4_tower_157 : decode cX4_tower 157 = .ok (.iadd, 1) := dk_96 (dk_at dksX4_tower_6 16 rfl rfl)
theorem dX4_tower_158 : decode cX4_tower 158 = .ok (.aload_n 0, 1) := dk_42 (dk_at dksX4_tower_6 17 rfl rfl)
theorem dX4_tower_159 : decode cX4_tower 159 = .ok (.getfield 24, 3) := dk_180 0 24 (dk_at dksX4_tower_6 18 rfl rfl)
theorem dX4_tower_162 : decode cX4_tower 162 = .ok (.bipush 20, 2) := dk_16 20 (dk_at dksX4_tower_6 21 rfl rfl)
theorem dX4_tower_164 : decode cX4_tower 164 = .ok (.iload_n 2, 1) := dk_28 (dk_at dksX4_tower_6 23 rfl rfl)
theorem dX4_tower_165 : decode cX4_tower 165 = .ok (.iadd, 1) := dk_96 (dk_at dksX4_tower_7 0 rfl rfl)
theorem dX4_tower_166 : decode cX4_tower 166 = .ok (.iaload, 1) := dk_46 (dk_at dksX4_tower_7 1 rfl rfl)
theorem dX4_tower_167 : decode cX4_tower 167 = .ok (.iastore, 1) := dk_79 (dk_at dksX4_tower_7 2 rfl rfl)
theorem dX4_tower_168 : decode cX4_tower 168 = .ok (.iinc 2 1, 3) := dk_132 2 1 (dk_at dksX4_tower_7 3 rfl rfl)
theorem dX4_tower_171 : decode cX4_tower 171 = .ok (.goto (-27), 3) := dk_167 255 229 (dk_at dksX4_tower_7 6 rfl rfl)
theorem dX4_tower_174 : decode cX4_tower 174 = .ok (.iconst 0, 1) := dk_3 (dk_at dksX4_tower_7 9 rfl rfl)
theorem dX4_tower_175 : decode cX4_tower 175 = .ok (.istore_n 2, 1) := dk_61 (dk_at dksX4_tower_7 10 rfl rfl)
theorem dX4_tower_176 : decode cX4_tower 176 = .ok (.iload_n 2, 1) := dk_28 (dk_at dksX4_tower_7 11 rfl rfl)
theorem dX4_tower_177 : decode cX4_tower 177 = .ok (.sipush 1198, 3) := dk_17 4 174 (dk_at dksX4_tower_7 12 rfl rfl)
theorem dX4_tower_180 : decode cX4_tower 180 = .ok (.if_icmp .ge 21, 3) := dk_162 0 21 (dk_at dksX4_tower_7 15 rfl rfl)
theorem dX4_tower_183 : decode cX4_tower 183 = .ok (.aload_n 0, 1) := dk_42 (dk_at dksX4_tower_7 18 rfl rfl)
theorem dX4_tower_184 : decode cX4_tower 184 = .ok (.getfield 13, 3) := dk_180 0 13 (dk_at dksX4_tower_7 19 rfl rfl)
theorem dX4_tower_187 : decode cX4_tower 187 = .ok (.iload_n 2, 1) := dk_28 (dk_at dksX4_tower_7 22 rfl rfl)
theorem dX4_tower_188 : decode cX4_tower 188 = .ok (.aload_n 0, 1) := dk_42 (dk_at dksX4_tower_7 23 rfl rfl)
theorem dX4_tower_189 : decode cX4_tower 189 = .ok (.getfield 24, 3) := dk_180 0 24 (dk_at dksX4_tower_8 0 rfl rfl)
theorem dX4_tower_192 : decode cX4_tower 192 = .ok (.iload_n 2, 1) := dk_28 (dk_at dksX4_tower_8 3 rfl rfl)
theorem dX4_tower_193 : decode cX4_tower 193 = .ok (.iaload, 1) := dk_46 (dk_at dksX4_tower_8 4 rfl rfl)
theorem dX4_tower_194 : decode cX4_tower 194 = .ok (.iastore, 1) := dk_79 (dk_at dksX4_tower_8 5 rfl rfl)
theorem dX4_tower_195 : decode cX4_tower 195 = .ok (.iinc 2 1, 3) := dk_132 2 1 (dk_at dksX4_tower_8 6 rfl rfl)
theorem dX4_tower_198 : decode cX4_tower 198 = .ok (.goto (-22), 3) := dk_167 255 234 (dk_at dksX4_tower_8 9 rfl rfl)
theorem dX4_tower_201 : decode cX4_tower 201 = .ok (.aload_n 0, 1) := dk_42 (dk_at dksX4_tower_8 12 rfl rfl)
theorem dX4_tower_202 : decode cX4_tower 202 = .ok (.getfield 13, 3) := dk_180 0 13 (dk_at dksX4_tower_8 13 rfl rfl)
theorem dX4_tower_205 : decode cX4_tower 205 = .ok (.iconst 0, 1) := dk_3 (dk_at dksX4_tower_8 16 rfl rfl)
theorem dX4_tower_206 : decode cX4_tower 206 = .ok (.iaload, 1) := dk_46 (dk_at dksX4_tower_8 17 rfl rfl)
theorem dX4_tower_207 : decode cX4_tower 207 = .ok (.ireturn, 1) := dk_172 (dk_at dksX4_tower_8 18 rfl rfl)
abbrev cX4_within : ByteArray := prog_11_method_2_code
def yX4_within : MethodName := ⟨RX4, "within", "(JJJ)Z"⟩
def dkwX4_within_0 : List UInt8 := [30, 32, 148, 155, 0, 14, 30, 22, 4, 148, 157, 0, 7, 4, 167, 0, 4, 3, 172]
abbrev dktX4_within_0 : List UInt8 := dkwX4_within_0 ++ []
theorem dksX4_within_0 : cX4_within.data.toList.drop 0 = dktX4_within_0 := by decide +kernel
theorem dX4_within_0 : decode cX4_within 0 = .ok (.lload_n 0, 1) := dk_30 (dk_at dksX4_within_0 0 rfl rfl)
theorem dX4_within_1 : decode cX4_within 1 = .ok (.lload_n 2, 1) := dk_32 (dk_at dksX4_within_0 1 rfl rfl)
theorem dX4_within_2 : decode cX4_within 2 = .ok (.lcmp, 1) := dk_148 (dk_at dksX4_within_0 2 rfl rfl)
theorem dX4_within_3 : decode cX4_within 3 = .ok (.ifCond .lt 14, 3) := dk_155 0 14 (dk_at dksX4_within_0 3 rfl rfl)
theorem dX4_within_6 : decode cX4_within 6 = .ok (.lload_n 0, 1) := dk_30 (dk_at dksX4_within_0 6 rfl rfl)
theorem dX4_within_7 : decode cX4_within 7 = .ok (.lload 4, 2) := dk_22 4 (dk_at dksX4_within_0 7 rfl rfl)
theorem dX4_within_9 : decode cX4_within 9 = .ok (.lcmp, 1) := dk_148 (dk_at dksX4_within_0 9 rfl rfl)
theorem dX4_within_10 : decode cX4_within 10 = .ok (.ifCond .gt 7, 3) := dk_157 0 7 (dk_at dksX4_within_0 10 rfl rfl)
theorem dX4_within_13 : decode cX4_within 13 = .ok (.iconst 1, 1) := dk_4 (dk_at dksX4_within_0 13 rfl rfl)
theorem dX4_within_14 : decode cX4_within 14 = .ok (.goto 4, 3) := dk_167 0 4 (dk_at dksX4_within_0 14 rfl rfl)
theorem dX4_within_17 : decode cX4_within 17 = .ok (.iconst 0, 1) := dk_3 (dk_at dksX4_within_0 17 rfl rfl)
theorem dX4_within_18 : decode cX4_within 18 = .ok (.ireturn, 1) := dk_172 (dk_at dksX4_within_0 18 rfl rfl)
abbrev cX4_next : ByteArray := prog_11_method_10_code
def yX4_next : MethodName := ⟨RX4, "next", "()V"⟩
def dkwX4_next_12 : List UInt8 := [27, 182, 0, 93, 160, 0, 11, 42, 16, 30, 27, 96, 181, 0, 107, 132, 1, 1, 167, 255, 219, 177]
abbrev dktX4_next_12 : List UInt8 := dkwX4_next_12 ++ []
def dkwX4_next_11 : List UInt8 := [181, 0, 107, 3, 60, 27, 18, 123, 182, 0, 87, 162, 0, 34, 42, 42, 180, 0, 97, 182, 0, 103, 18, 123]
abbrev dktX4_next_11 : List UInt8 := dkwX4_next_11 ++ dktX4_next_12
def dkwX4_next_10 : List UInt8 := [167, 0, 5, 16, 23, 181, 0, 107, 167, 0, 61, 42, 89, 180, 0, 100, 4, 96, 181, 0, 100, 42, 16, 25]
abbrev dktX4_next_10 : List UInt8 := dkwX4_next_10 ++ dktX4_next_11
def dkwX4_next_9 : List UInt8 := [181, 0, 100, 167, 255, 196, 42, 42, 180, 0, 100, 42, 180, 0, 97, 100, 6, 164, 0, 8, 16, 25]
abbrev dktX4_next_9 : List UInt8 := dkwX4_next_9 ++ dktX4_next_10
def dkwX4_next_8 : List UInt8 := [42, 42, 180, 0, 100, 182, 0, 103, 96, 16, 48, 100, 181, 0, 120, 42, 89, 180, 0, 100, 4, 96]
abbrev dktX4_next_8 : List UInt8 := dkwX4_next_8 ++ dktX4_next_9
def dkwX4_next_7 : List UInt8 := [153, 0, 52, 42, 180, 0, 100, 42, 180, 0, 97, 100, 6, 162, 0, 26, 42, 16, 10, 42, 180, 0, 120, 104]
abbrev dktX4_next_7 : List UInt8 := dkwX4_next_7 ++ dktX4_next_8
def dkwX4_next_6 : List UInt8 := [184, 0, 117, 153, 0, 98, 42, 3, 181, 0, 120, 42, 42, 180, 0, 100, 182, 0, 103, 184, 0, 117]
abbrev dktX4_next_6 : List UInt8 := dkwX4_next_6 ++ dktX4_next_7
def dkwX4_next_5 : List UInt8 := [167, 255, 232, 42, 42, 182, 0, 114, 181, 0, 107, 167, 0, 170, 42, 42, 180, 0, 97, 182, 0, 103]
abbrev dktX4_next_5 : List UInt8 := dkwX4_next_5 ++ dktX4_next_6
def dkwX4_next_4 : List UInt8 := [180, 0, 100, 182, 0, 103, 184, 0, 110, 153, 0, 16, 42, 89, 180, 0, 100, 4, 96, 181, 0, 100]
abbrev dktX4_next_4 : List UInt8 := dkwX4_next_4 ++ dktX4_next_5
def dkwX4_next_3 : List UInt8 := [181, 0, 107, 167, 0, 222, 42, 42, 180, 0, 97, 182, 0, 103, 184, 0, 110, 153, 0, 41, 42, 42]
abbrev dktX4_next_3 : List UInt8 := dkwX4_next_3 ++ dktX4_next_4
def dkwX4_next_2 : List UInt8 := [42, 42, 180, 0, 97, 181, 0, 100, 42, 180, 0, 97, 42, 180, 0, 82, 161, 0, 12, 42, 16, 24]
abbrev dktX4_next_2 : List UInt8 := dkwX4_next_2 ++ dktX4_next_3
def dkwX4_next_1 : List UInt8 := [180, 0, 97, 182, 0, 103, 16, 32, 160, 0, 16, 42, 89, 180, 0, 97, 4, 96, 181, 0, 97, 167, 255, 220]
abbrev dktX4_next_1 : List UInt8 := dkwX4_next_1 ++ dktX4_next_2
def dkwX4_next_0 : List UInt8 := [42, 42, 180, 0, 100, 181, 0, 97, 42, 42, 180, 0, 97, 182, 0, 103, 16, 10, 159, 0, 16, 42, 42]
abbrev dktX4_next_0 : List UInt8 := dkwX4_next_0 ++ dktX4_next_1
theorem dksX4_next_0 : cX4_next.data.toList.drop 0 = dktX4_next_0 := by decide +kernel
theorem dksX4_next_1 : cX4_next.data.toList.drop 23 = dktX4_next_1 := dk_seg dksX4_next_0 23 rfl rfl
theorem dksX4_next_2 : cX4_next.data.toList.drop 47 = dktX4_next_2 := dk_seg dksX4_next_1 24 rfl rfl
theorem dksX4_next_3 : cX4_next.data.toList.drop 69 = dktX4_next_3 := dk_seg dksX4_next_2 22 rfl rfl
theorem dksX4_next_4 : cX4_next.data.toList.drop 91 = dktX4_next_4 := dk_seg dksX4_next_3 22 rfl rfl
theorem dksX4_next_5 : cX4_next.data.toList.drop 113 = dktX4_next_5 := dk_seg dksX4_next_4 22 rfl rfl
theorem dksX4_next_6 : cX4_next.data.toList.drop 135 = dktX4_next_6 := dk_seg dksX4_next_5 22 rfl rfl
theorem dksX4_next_7 : cX4_next.data.toList.drop 157 = dktX4_next_7 := dk_seg dksX4_next_6 22 rfl rfl
theorem dksX4_next_8 : cX4_next.data.toList.drop 181 = dktX4_next_8 := dk_seg dksX4_next_7 24 rfl rfl
theorem dksX4_next_9 : cX4_next.data.toList.drop 203 = dktX4_next_9 := dk_seg dksX4_next_8 22 rfl rfl
theorem dksX4_next_10 : cX4_next.data.toList.drop 225 = dktX4_next_10 := dk_seg dksX4_next_9 22 rfl rfl
theorem dksX4_next_11 : cX4_next.data.toList.drop 249 = dktX4_next_11 := dk_seg dksX4_next_10 24 rfl rfl
theorem dksX4_next_12 : cX4_next.data.toList.drop 273 = dktX4_next_12 := dk_seg dksX4_next_11 24 rfl rfl
theorem dX4_next_0 : decode cX4_next 0 = .ok (.aload_n 0, 1) := dk_42 (dk_at dksX4_next_0 0 rfl rfl)
theorem dX4_next_1 : decode cX4_next 1 = .ok (.aload_n 0, 1) := dk_42 (dk_at dksX4_next_0 1 rfl rfl)
theorem dX4_next_2 : decode cX4_next 2 = .ok (.getfield 100, 3) := dk_180 0 100 (dk_at dksX4_next_0 2 rfl rfl)
theorem dX4_next_5 : decode cX4_next 5 = .ok (.putfield 97, 3) := dk_181 0 97 (dk_at dksX4_next_0 5 rfl rfl)
theorem dX4_next_8 : decode cX4_next 8 = .ok (.aload_n 0, 1) := dk_42 (dk_at dksX4_next_0 8 rfl rfl)
theorem dX4_next_9 : decode cX4_next 9 = .ok (.aload_n 0, 1) := dk_42 (dk_at dksX4_next_0 9 rfl rfl)
theorem dX4_next_10 : decode cX4_next 10 = .ok (.getfield 97, 3) := dk_180 0 97 (dk_at dksX4_next_0 10 rfl rfl)
theorem dX4_next_13 : decode cX4_next 13 = .ok (.invokevirtual 103, 3) := dk_182 0 103 (dk_at dksX4_next_0 13 rfl rfl)
theorem dX4_next_16 : decode cX4_next 16 = .ok (.bipush 10, 2) := dk_16 10 (dk_at dksX4_next_0 16 rfl rfl)
theorem dX4_next_18 : decode cX4_next 18 = .ok (.if_icmp .eq 16, 3) := dk_159 0 16 (dk_at dksX4_next_0 18 rfl rfl)
theorem dX4_next_21 : decode cX4_next 21 = .ok (.aload_n 0, 1) := dk_42 (dk_at dksX4_next_0 21 rfl rfl)
theorem dX4_next_22 : decode cX4_next 22 = .ok (.aload_n 0, 1) := dk_42 (dk_at dksX4_next_0 22 rfl rfl)
theorem dX4_next_23 : decode cX4_next 23 = .ok (.getfield 97, 3) := dk_180 0 97 (dk_at dksX4_next_1 0 rfl rfl)
theorem dX4_next_26 : decode cX4_next 26 = .ok (.invokevirtual 103, 3) := dk_182 0 103 (dk_at dksX4_next_1 3 rfl rfl)
theorem dX4_next_29 : decode cX4_next 29 = .ok (.bipush 32, 2) := dk_16 32 (dk_at dksX4_next_1 6 rfl rfl)
theorem dX4_next_31 : decode cX4_next 31 = .ok (.if_icmp .ne 16, 3) := dk_160 0 16 (dk_at dksX4_next_1 8 rfl rfl)
theorem dX4_next_34 : decode cX4_next 34 = .ok (.aload_n 0, 1) := dk_42 (dk_at dksX4_next_1 11 rfl rfl)
theorem dX4_next_35 : decode cX4_next 35 = .ok (.dup, 1) := dk_89 (dk_at dksX4_next_1 12 rfl rfl)
theorem dX4_next_36 : decode cX4_next 36 = .ok (.getfield 97, 3) := dk_180 0 97 (dk_at dksX4_next_1 13 rfl rfl)
theorem dX4_next_39 : decode cX4_next 39 = .ok (.iconst 1, 1) := dk_4 (dk_at dksX4_next_1 16 rfl rfl)
theorem dX4_next_40 : decode cX4_next 40 = .ok (.iadd, 1) := dk_96 (dk_at dksX4_next_1 17 rfl rfl)
theorem dX4_next_41 : decode cX4_next 41 = .ok (.putfield 97, 3) := dk_181 0 97 (dk_at dksX4_next_1 18 rfl rfl)
theorem dX4_next_44 : decode cX4_next 44 = .ok (.goto (-36), 3) := dk_167 255 220 (dk_at dksX4_next_1 21 rfl rfl)
theorem dX4_next_47 : decode cX4_next 47 = .ok (.aload_n 0, 1) := dk_42 (dk_at dksX4_next_2 0 rfl rfl)
theorem dX4_next_48 : decode cX4_next 48 = .ok (.aload_n 0, 1) := dk_42 (dk_at dksX4_next_2 1 rfl rfl)
theorem dX4_next_49 : decode cX4_next 49 = .ok (.getfield 97, 3) := dk_180 0 97 (dk_at dksX4_next_2 2 rfl rfl)
theorem dX4_next_52 : decode cX4_next 52 = .ok (.putfield 100, 3) := dk_181 0 100 (dk_at dksX4_next_2 5 rfl rfl)
theorem dX4_next_55 : decode cX4_next 55 = .ok (.aload_n 0, 1) := dk_42 (dk_at dksX4_next_2 8 rfl rfl)
theorem dX4_next_56 : decode cX4_next 56 = .ok (.getfield 97, 3) := dk_180 0 97 (dk_at dksX4_next_2 9 rfl rfl)
theorem dX4_next_59 : decode cX4_next 59 = .ok (.aload_n 0, 1) := dk_42 (dk_at dksX4_next_2 12 rfl rfl)
theorem dX4_next_60 : decode cX4_next 60 = .ok (.getfield 82, 3) := dk_180 0 82 (dk_at dksX4_next_2 13 rfl rfl)
theorem dX4_next_63 : decode cX4_next 63 = .ok (.if_icmp .lt 12, 3) := dk_161 0 12 (dk_at dksX4_next_2 16 rfl rfl)
theorem dX4_next_66 : decode cX4_next 66 = .ok (.aload_n 0, 1) := dk_42 (dk_at dksX4_next_2 19 rfl rfl)
theorem dX4_next_67 : decode cX4_next 67 = .ok (.bipush 24, 2) := dk_16 24 (dk_at dksX4_next_2 20 rfl rfl)
theorem dX4_next_69 : decode cX4_next 69 = .ok (.putfield 107, 3) := dk_181 0 107 (dk_at dksX4_next_3 0 rfl rfl)
theorem dX4_next_72 : decode cX4_next 72 = .ok (.goto 222, 3) := dk_167 0 222 (dk_at dksX4_next_3 3 rfl rfl)
theorem dX4_next_75 : decode cX4_next 75 = .ok (.aload_n 0, 1) := dk_42 (dk_at dksX4_next_3 6 rfl rfl)
theorem dX4_next_76 : decode cX4_next 76 = .ok (.aload_n 0, 1) := dk_42 (dk_at dksX4_next_3 7 rfl rfl)
theorem dX4_next_77 : decode cX4_next 77 = .ok (.getfield 97, 3) := dk_180 0 97 (dk_at dksX4_next_3 8 rfl rfl)
theorem dX4_next_80 : decode cX4_next 80 = .ok (.invokevirtual 103, 3) := dk_182 0 103 (dk_at dksX4_next_3 11 rfl rfl)
theorem dX4_next_83 : decode cX4_next 83 = .ok (.invokestatic 110, 3) := dk_184 0 110 (dk_at dksX4_next_3 14 rfl rfl)
theorem dX4_next_86 : decode cX4_next 86 = .ok (.ifCond .eq 41, 3) := dk_153 0 41 (dk_at dksX4_next_3 17 rfl rfl)
theorem dX4_next_89 : decode cX4_next 89 = .ok (.aload_n 0, 1) := dk_42 (dk_at dksX4_next_3 20 rfl rfl)
theorem dX4_next_90 : decode cX4_next 90 = .ok (.aload_n 0, 1) := dk_42 (dk_at dksX4_next_3 21 rfl rfl)
theorem dX4_next_91 : decode cX4_next 91 = .ok (.getfield 100, 3) := dk_180 0 100 (dk_at dksX4_next_4 0 rfl rfl)
theorem dX4_next_94 : decode cX4_next 94 = .ok (.invokevirtual 103, 3) := dk_182 0 103 (dk_at dksX4_next_4 3 rfl rfl)
theorem dX4_next_97 : decode cX4_next 97 = .ok (.invokestatic 110, 3) := dk_184 0 110 (dk_at dksX4_next_4 6 rfl rfl)
theorem dX4_next_100 : decode cX4_next 100 = .ok (.ifCond .eq 16, 3) := dk_153 0 16 (dk_at dksX4_next_4 9 rfl rfl)
theorem dX4_next_103 : decode cX4_next 103 = .ok (.aload_n 0, 1) := dk_42 (dk_at dksX4_next_4 12 rfl rfl)
theorem dX4_next_104 : decode cX4_next 104 = .ok (.dup, 1) := dk_89 (dk_at dksX4_next_4 13 rfl rfl)
theorem dX4_next_105 : decode cX4_next 105 = .ok (.getfield 100, 3) := dk_180 0 100 (dk_at dksX4_next_4 14 rfl rfl)
theorem dX4_next_108 : decode cX4_next 108 = .ok (.iconst 1, 1) := dk_4 (dk_at dksX4_next_4 17 rfl rfl)
theorem dX4_next_109 : decode cX4_next 109 = .ok (.iadd, 1) := dk_96 (dk_at dksX4_next_4 18 rfl rfl)
theorem dX4_next_110 : decode cX4_next 110 = .ok (.putfield 100, 3) := dk_181 0 100 (dk_at dksX4_next_4 19 rfl rfl)
theorem dX4_next_113 : decode cX4_next 113 = .ok (.goto (-24), 3) := dk_167 255 232 (dk_at dksX4_next_5 0 rfl rfl)
theorem dX4_next_116 : decode cX4_next 116 = .ok (.aload_n 0, 1) := dk_42 (dk_at dksX4_next_5 3 rfl rfl)
theorem dX4_next_117 : decode cX4_next 117 = .ok (.aload_n 0, 1) := dk_42 (dk_at dksX4_next_5 4 rfl rfl)
theorem dX4_next_118 : decode cX4_next 118 = .ok (.invokevirtual 114, 3) := dk_182 0 114 (dk_at dksX4_next_5 5 rfl rfl)
theorem dX4_next_121 : decode cX4_next 121 = .ok (.putfield 107, 3) := dk_181 0 107 (dk_at dksX4_next_5 8 rfl rfl)
theorem dX4_next_124 : decode cX4_next 124 = .ok (.goto 170, 3) := dk_167 0 170 (dk_at dksX4_next_5 11 rfl rfl)
theorem dX4_next_127 : decode cX4_next 127 = .ok (.aload_n 0, 1) := dk_42 (dk_at dksX4_next_5 14 rfl rfl)
theorem dX4_next_128 : decode cX4_next 128 = .ok (.aload_n 0, 1) := dk_42 (dk_at dksX4_next_5 15 rfl rfl)
theorem dX4_next_129 : decode cX4_next 129 = .ok (.getfield 97, 3) := dk_180 0 97 (dk_at dksX4_next_5 16 rfl rfl)
theorem dX4_next_132 : decode cX4_next 132 = .ok (.invokevirtual 103, 3) := dk_182 0 103 (dk_at dksX4_next_5 19 rfl rfl)
theorem dX4_next_135 : decode cX4_next 135 = .ok (.invokestatic 117, 3) := dk_184 0 117 (dk_at dksX4_next_6 0 rfl rfl)
theorem dX4_next_138 : decode cX4_next 138 = .ok (.ifCond .eq 98, 3) := dk_153 0 98 (dk_at dksX4_next_6 3 rfl rfl)
theorem dX4_next_141 : decode cX4_next 141 = .ok (.aload_n 0, 1) := dk_42 (dk_at dksX4_next_6 6 rfl rfl)
theorem dX4_next_142 : decode cX4_next 142 = .ok (.iconst 0, 1) := dk_3 (dk_at dksX4_next_6 7 rfl rfl)
theorem dX4_next_143 : decode cX4_next 143 = .ok (.putfield 120, 3) := dk_181 0 120 (dk_at dksX4_next_6 8 rfl rfl)
theorem dX4_next_146 : decode cX4_next 146 = .ok (.aload_n 0, 1) := dk_42 (dk_at dksX4_next_6 11 rfl rfl)
theorem dX4_next_147 : decode cX4_next 147 = .ok (.aload_n 0, 1) := dk_42 (dk_at dksX4_next_6 12 rfl rfl)
theorem dX4_next_148 : decode cX4_next 148 = .ok (.getfield 100, 3) := dk_180 0 100 (dk_at dksX4_next_6 13 rfl rfl)
theorem dX4_next_151 : decode cX4_next 151 = .ok (.invokevirtual 103, 3) := dk_182 0 103 (dk_at dksX4_next_6 16 rfl rfl)
theorem dX4_next_154 : decode cX4_next 154 = .ok (.invokestatic 117, 3) := dk_184 0 117 (dk_at dksX4_next_6 19 rfl rfl)
theorem dX4_next_157 : decode cX4_next 157 = .ok (.ifCond .eq 52, 3) := dk_153 0 52 (dk_at dksX4_next_7 0 rfl rfl)
theorem dX4_next_160 : decode cX4_next 160 = .ok (.aload_n 0, 1) := dk_42 (dk_at dksX4_next_7 3 rfl rfl)
theorem dX4_next_161 : decode cX4_next 161 = .ok (.getfield 100, 3) := dk_180 0 100 (dk_at dksX4_next_7 4 rfl rfl)
theorem dX4_next_164 : decode cX4_next 164 = .ok (.aload_n 0, 1) := dk_42 (dk_at dksX4_next_7 7 rfl rfl)
theorem dX4_next_165 : decode cX4_next 165 = .ok (.getfield 97, 3) := dk_180 0 97 (dk_at dksX4_next_7 8 rfl rfl)
theorem dX4_next_168 : decode cX4_next 168 = .ok (.isub, 1) := dk_100 (dk_at dksX4_next_7 11 rfl rfl)
theorem dX4_next_169 : decode cX4_next 169 = .ok (.iconst 3, 1) := dk_6 (dk_at dksX4_next_7 12 rfl rfl)
theorem dX4_next_170 : decode cX4_next 170 = .ok (.if_icmp .ge 26, 3) := dk_162 0 26 (dk_at dksX4_next_7 13 rfl rfl)
theorem dX4_next_173 : decode cX4_next 173 = .ok (.aload_n 0, 1) := dk_42 (dk_at dksX4_next_7 16 rfl rfl)
theorem dX4_next_174 : decode cX4_next 174 = .ok (.bipush 10, 2) := dk_16 10 (dk_at dksX4_next_7 17 rfl rfl)
theorem dX4_next_176 : decode cX4_next 176 = .ok (.aload_n 0, 1) := dk_42 (dk_at dksX4_next_7 19 rfl rfl)
theorem dX4_next_177 : decode cX4_next 177 = .ok (.getfield 120, 3) := dk_180 0 120 (dk_at dksX4_next_7 20 rfl rfl)
theorem dX4_next_180 : decode cX4_next 180 = .ok (.imul, 1) := dk_104 (dk_at dksX4_next_7 23 rfl rfl)
theorem dX4_next_181 : decode cX4_next 181 = .ok (.aload_n 0, 1) := dk_42 (dk_at dksX4_next_8 0 rfl rfl)
theorem dX4_next_182 : decode cX4_next 182 = .ok (.aload_n 0, 1) := dk_42 (dk_at dksX4_next_8 1 rfl rfl)
theorem dX4_next_183 : decode cX4_next 183 = .ok (.getfield 100, 3) := dk_180 0 100 (dk_at dksX4_next_8 2 rfl rfl)
theorem dX4_next_186 : decode cX4_next 186 = .ok (.invokevirtual 103, 3) := dk_182 0 103 (dk_at dksX4_next_8 5 rfl rfl)
theorem dX4_next_189 : decode cX4_next 189 = .ok (.iadd, 1) := dk_96 (dk_at dksX4_next_8 8 rfl rfl)
theorem dX4_next_190 : decode cX4_next 190 = .ok (.bipush 48, 2) := dk_16 48 (dk_at dksX4_next_8 9 rfl rfl)
theorem dX4_next_192 : decode cX4_next 192 = .ok (.isub, 1) := dk_100 (dk_at dksX4_next_8 11 rfl rfl)
theorem dX4_next_193 : decode cX4_next 193 = .ok (.putfield 120, 3) := dk_181 0 120 (dk_at dksX4_next_8 12 rfl rfl)
theorem dX4_next_196 : decode cX4_next 196 = .ok (.aload_n 0, 1) := dk_42 (dk_at dksX4_next_8 15 rfl rfl)
theorem dX4_next_197 : decode cX4_next 197 = .ok (.dup, 1) := dk_89 (dk_at dksX4_next_8 16 rfl rfl)
theorem dX4_next_198 : decode cX4_next 198 = .ok (.getfield 100, 3) := dk_180 0 100 (dk_at dksX4_next_8 17 rfl rfl)
theorem dX4_next_201 : decode cX4_next 201 = .ok (.iconst 1, 1) := dk_4 (dk_at dksX4_next_8 20 rfl rfl)
theorem dX4_next_202 : decode cX4_next 202 = .ok (.iadd, 1) := dk_96 (dk_at dksX4_next_8 21 rfl rfl)
theorem dX4_next_203 : decode cX4_next 203 = .ok (.putfield 100, 3) := dk_181 0 100 (dk_at dksX4_next_9 0 rfl rfl)
theorem dX4_next_206 : decode cX4_next 206 = .ok (.goto (-60), 3) := dk_167 255 196 (dk_at dksX4_next_9 3 rfl rfl)
theorem dX4_next_209 : decode cX4_next 209 = .ok (.aload_n 0, 1) := dk_42 (dk_at dksX4_next_9 6 rfl rfl)
theorem dX4_next_210 : decode cX4_next 210 = .ok (.aload_n 0, 1) := dk_42 (dk_at dksX4_next_9 7 rfl rfl)
theorem dX4_next_211 : decode cX4_next 211 = .ok (.getfield 100, 3) := dk_180 0 100 (dk_at dksX4_next_9 8 rfl rfl)
theorem dX4_next_214 : decode cX4_next 214 = .ok (.aload_n 0, 1) := dk_42 (dk_at dksX4_next_9 11 rfl rfl)
theorem dX4_next_215 : decode cX4_next 215 = .ok (.getfield 97, 3) := dk_180 0 97 (dk_at dksX4_next_9 12 rfl rfl)
theorem dX4_next_218 : decode cX4_next 218 = .ok (.isub, 1) := dk_100 (dk_at dksX4_next_9 15 rfl rfl)
theorem dX4_next_219 : decode cX4_next 219 = .ok (.iconst 3, 1) := dk_6 (dk_at dksX4_next_9 16 rfl rfl)
theorem dX4_next_220 : decode cX4_next 220 = .ok (.if_icmp .le 8, 3) := dk_164 0 8 (dk_at dksX4_next_9 17 rfl rfl)
theorem dX4_next_223 : decode cX4_next 223 = .ok (.bipush 25, 2) := dk_16 25 (dk_at dksX4_next_9 20 rfl rfl)
theorem dX4_next_225 : decode cX4_next 225 = .ok (.goto 5, 3) := dk_167 0 5 (dk_at dksX4_next_10 0 rfl rfl)
theorem dX4_next_228 : decode cX4_next 228 = .ok (.bipush 23, 2) := dk_16 23 (dk_at dksX4_next_10 3 rfl rfl)
theorem dX4_next_230 : decode cX4_next 230 = .ok (.putfield 107, 3) := dk_181 0 107 (dk_at dksX4_next_10 5 rfl rfl)
theorem dX4_next_233 : decode cX4_next 233 = .ok (.goto 61, 3) := dk_167 0 61 (dk_at dksX4_next_10 8 rfl rfl)
theorem dX4_next_236 : decode cX4_next 236 = .ok (.aload_n 0, 1) := dk_42 (dk_at dksX4_next_10 11 rfl rfl)
theorem dX4_next_237 : decode cX4_next 237 = .ok (.dup, 1) := dk_89 (dk_at dksX4_next_10 12 rfl rfl)
theorem dX4_next_238 : decode cX4_next 238 = .ok (.getfield 100, 3) := dk_180 0 100 (dk_at dksX4_next_10 13 rfl rfl)
theorem dX4_next_241 : decode cX4_next 241 = .ok (.iconst 1, 1) := dk_4 (dk_at dksX4_next_10 16 rfl rfl)
theorem dX4_next_242 : decode cX4_next 242 = .ok (.iadd, 1) := dk_96 (dk_at dksX4_next_10 17 rfl rfl)
theorem dX4_next_243 : decode cX4_next 243 = .ok (.putfield 100, 3) := dk_181 0 100 (dk_at dksX4_next_10 18 rfl rfl)
theorem dX4_next_246 : decode cX4_next 246 = .ok (.aload_n 0, 1) := dk_42 (dk_at dksX4_next_10 21 rfl rfl)
theorem dX4_next_247 : decode cX4_next 247 = .ok (.bipush 25, 2) := dk_16 25 (dk_at dksX4_next_10 22 rfl rfl)
theorem dX4_next_249 : decode cX4_next 249 = .ok (.putfield 107, 3) := dk_181 0 107 (dk_at dksX4_next_11 0 rfl rfl)
theorem dX4_next_252 : decode cX4_next 252 = .ok (.iconst 0, 1) := dk_3 (dk_at dksX4_next_11 3 rfl rfl)
theorem dX4_next_253 : decode cX4_next 253 = .ok (.istore_n 1, 1) := dk_60 (dk_at dksX4_next_11 4 rfl rfl)
theorem dX4_next_254 : decode cX4_next 254 = .ok (.iload_n 1, 1) := dk_27 (dk_at dksX4_next_11 5 rfl rfl)
theorem dX4_next_255 : decode cX4_next 255 = .ok (.ldc 123, 2) := dk_18 123 (dk_at dksX4_next_11 6 rfl rfl)
theorem dX4_next_257 : decode cX4_next 257 = .ok (.invokevirtual 87, 3) := dk_182 0 87 (dk_at dksX4_next_11 8 rfl rfl)
theorem dX4_next_260 : decode cX4_next 260 = .ok (.if_icmp .ge 34, 3) := dk_162 0 34 (dk_at dksX4_next_11 11 rfl rfl)
theorem dX4_next_263 : decode cX4_next 263 = .ok (.aload_n 0, 1) := dk_42 (dk_at dksX4_next_11 14 rfl rfl)
theorem dX4_next_264 : decode cX4_next 264 = .ok (.aload_n 0, 1) := dk_42 (dk_at dksX4_next_11 15 rfl rfl)
theorem dX4_next_265 : decode cX4_next 265 = .ok (.getfield 97, 3) := dk_180 0 97 (dk_at dksX4_next_11 16 rfl rfl)
theorem dX4_next_268 : decode cX4_next 268 = .ok (.invokevirtual 103, 3) := dk_182 0 103 (dk_at dksX4_next_11 19 rfl rfl)
theorem dX4_next_271 : decode cX4_next 271 = .ok (.ldc 123, 2) := dk_18 123 (dk_at dksX4_next_11 22 rfl rfl)
theorem dX4_next_273 : decode cX4_next 273 = .ok (.iload_n 1, 1) := dk_27 (dk_at dksX4_next_12 0 rfl rfl)
theorem dX4_next_274 : decode cX4_next 274 = .ok (.invokevirtual 93, 3) := dk_182 0 93 (dk_at dksX4_next_12 1 rfl rfl)
theorem dX4_next_277 : decode cX4_next 277 = .ok (.if_icmp .ne 11, 3) := dk_160 0 11 (dk_at dksX4_next_12 4 rfl rfl)
theorem dX4_next_280 : decode cX4_next 280 = .ok (.aload_n 0, 1) := dk_42 (dk_at dksX4_next_12 7 rfl rfl)
theorem dX4_next_281 : decode cX4_next 281 = .ok (.bipush 30, 2) := dk_16 30 (dk_at dksX4_next_12 8 rfl rfl)
theorem dX4_next_283 : decode cX4_next 283 = .ok (.iload_n 1, 1) := dk_27 (dk_at dksX4_next_12 10 rfl rfl)
theorem dX4_next_284 : decode cX4_next 284 = .ok (.iadd, 1) := dk_96 (dk_at dksX4_next_12 11 rfl rfl)
theorem dX4_next_285 : decode cX4_next 285 = .ok (.putfield 107, 3) := dk_181 0 107 (dk_at dksX4_next_12 12 rfl rfl)
theorem dX4_next_288 : decode cX4_next 288 = .ok (.iinc 1 1, 3) := dk_132 1 1 (dk_at dksX4_next_12 15 rfl rfl)
theorem dX4_next_291 : decode cX4_next 291 = .ok (.goto (-37), 3) := dk_167 255 219 (dk_at dksX4_next_12 18 rfl rfl)
theorem dX4_next_294 : decode cX4_next 294 = .ok (.return_, 1) := dk_177 (dk_at dksX4_next_12 21 rfl rfl)
abbrev cX4_see : ByteArray := prog_11_method_6_code
def yX4_see : MethodName := ⟨RX4, "see", "(I)I"⟩
def dkwX4_see_0 : List UInt8 := [27, 42, 180, 0, 82, 162, 0, 12, 42, 180, 0, 21, 27, 46, 167, 0, 4, 2, 172]
abbrev dktX4_see_0 : List UInt8 := dkwX4_see_0 ++ []
theorem dksX4_see_0 : cX4_see.data.toList.drop 0 = dktX4_see_0 := by decide +kernel
theorem dX4_see_0 : decode cX4_see 0 = .ok (.iload_n 1, 1) := dk_27 (dk_at dksX4_see_0 0 rfl rfl)
theorem dX4_see_1 : decode cX4_see 1 = .ok (.aload_n 0, 1) := dk_42 (dk_at dksX4_see_0 1 rfl rfl)
theorem dX4_see_2 : decode cX4_see 2 = .ok (.getfield 82, 3) := dk_180 0 82 (dk_at dksX4_see_0 2 rfl rfl)
theorem dX4_see_5 : decode cX4_see 5 = .ok (.if_icmp .ge 12, 3) := dk_162 0 12 (dk_at dksX4_see_0 5 rfl rfl)
theorem dX4_see_8 : decode cX4_see 8 = .ok (.aload_n 0, 1) := dk_42 (dk_at dksX4_see_0 8 rfl rfl)
theorem dX4_see_9 : decode cX4_see 9 = .ok (.getfield 21, 3) := dk_180 0 21 (dk_at dksX4_see_0 9 rfl rfl)
theorem dX4_see_12 : decode cX4_see 12 = .ok (.iload_n 1, 1) := dk_27 (dk_at dksX4_see_0 12 rfl rfl)
theorem dX4_see_13 : decode cX4_see 13 = .ok (.iaload, 1) := dk_46 (dk_at dksX4_see_0 13 rfl rfl)
theorem dX4_see_14 : decode cX4_see 14 = .ok (.goto 4, 3) := dk_167 0 4 (dk_at dksX4_see_0 14 rfl rfl)
theorem dX4_see_17 : decode cX4_see 17 = .ok (.iconst (-1), 1) := dk_2 (dk_at dksX4_see_0 17 rfl rfl)
theorem dX4_see_18 : decode cX4_see 18 = .ok (.ireturn, 1) := dk_172 (dk_at dksX4_see_0 18 rfl rfl)
abbrev cX4_isSmall : ByteArray := prog_11_method_7_code
def yX4_isSmall : MethodName := ⟨RX4, "isSmall", "(I)Z"⟩
def dkwX4_isSmall_0 : List UInt8 := [26, 16, 97, 161, 0, 13, 26, 16, 122, 163, 0, 7, 4, 167, 0, 4, 3, 172]
abbrev dktX4_isSmall_0 : List UInt8 := dkwX4_isSmall_0 ++ []
theorem dksX4_isSmall_0 : cX4_isSmall.data.toList.drop 0 = dktX4_isSmall_0 := by decide +kernel
theorem dX4_isSmall_0 : decode cX4_isSmall 0 = .ok (.iload_n 0, 1) := dk_26 (dk_at dksX4_isSmall_0 0 rfl rfl)
theorem dX4_isSmall_1 : decode cX4_isSmall 1 = .ok (.bipush 97, 2) := dk_16 97 (dk_at dksX4_isSmall_0 1 rfl rfl)
theorem dX4_isSmall_3 : decode cX4_isSmall 3 = .ok (.if_icmp .lt 13, 3) := dk_161 0 13 (dk_at dksX4_isSmall_0 3 rfl rfl)
theorem dX4_isSmall_6 : decode cX4_isSmall 6 = .ok (.iload_n 0, 1) := dk_26 (dk_at dksX4_isSmall_0 6 rfl rfl)
theorem dX4_isSmall_7 : decode cX4_isSmall 7 = .ok (.bipush 122, 2) := dk_16 122 (dk_at dksX4_isSmall_0 7 rfl rfl)
theorem dX4_isSmall_9 : decode cX4_isSmall 9 = .ok (.if_icmp .gt 7, 3) := dk_163 0 7 (dk_at dksX4_isSmall_0 9 rfl rfl)
theorem dX4_isSmall_12 : decode cX4_isSmall 12 = .ok (.iconst 1, 1) := dk_4 (dk_at dksX4_isSmall_0 12 rfl rfl)
theorem dX4_isSmall_13 : decode cX4_isSmall 13 = .ok (.goto 4, 3) := dk_167 0 4 (dk_at dksX4_isSmall_0 13 rfl rfl)
theorem dX4_isSmall_16 : decode cX4_isSmall 16 = .ok (.iconst 0, 1) := dk_3 (dk_at dksX4_isSmall_0 16 rfl rfl)
theorem dX4_isSmall_17 : decode cX4_isSmall 17 = .ok (.ireturn, 1) := dk_172 (dk_at dksX4_isSmall_0 17 rfl rfl)
abbrev cX4_keyAt : ByteArray := prog_11_method_9_code
def yX4_keyAt : MethodName := ⟨RX4, "keyAt", "()I"⟩
def dkwX4_keyAt_5 : List UInt8 := [132, 2, 1, 132, 1, 1, 167, 255, 140, 16, 22, 172]
abbrev dktX4_keyAt_5 : List UInt8 := dkwX4_keyAt_5 ++ []
def dkwX4_keyAt_4 : List UInt8 := [160, 0, 5, 27, 172, 18, 85, 28, 182, 0, 93, 16, 32, 159, 0, 9, 132, 2, 1, 167, 255, 242]
abbrev dktX4_keyAt_4 : List UInt8 := dkwX4_keyAt_4 ++ dktX4_keyAt_5
def dkwX4_keyAt_3 : List UInt8 := [18, 85, 28, 29, 96, 182, 0, 93, 16, 32, 160, 0, 18, 42, 180, 0, 97, 29, 96, 42, 180, 0, 100]
abbrev dktX4_keyAt_3 : List UInt8 := dkwX4_keyAt_3 ++ dktX4_keyAt_4
def dkwX4_keyAt_2 : List UInt8 := [180, 0, 97, 29, 96, 46, 18, 85, 28, 29, 96, 182, 0, 93, 160, 0, 9, 132, 3, 1, 167, 255, 205]
abbrev dktX4_keyAt_2 : List UInt8 := dkwX4_keyAt_2 ++ dktX4_keyAt_3
def dkwX4_keyAt_1 : List UInt8 := [16, 32, 159, 0, 44, 42, 180, 0, 97, 29, 96, 42, 180, 0, 100, 162, 0, 31, 42, 180, 0, 21, 42]
abbrev dktX4_keyAt_1 : List UInt8 := dkwX4_keyAt_1 ++ dktX4_keyAt_2
def dkwX4_keyAt_0 : List UInt8 := [3, 60, 4, 61, 28, 18, 85, 182, 0, 87, 162, 0, 113, 3, 62, 18, 85, 28, 29, 96, 182, 0, 93]
abbrev dktX4_keyAt_0 : List UInt8 := dkwX4_keyAt_0 ++ dktX4_keyAt_1
theorem dksX4_keyAt_0 : cX4_keyAt.data.toList.drop 0 = dktX4_keyAt_0 := by decide +kernel
theorem dksX4_keyAt_1 : cX4_keyAt.data.toList.drop 23 = dktX4_keyAt_1 := dk_seg dksX4_keyAt_0 23 rfl rfl
theorem dksX4_keyAt_2 : cX4_keyAt.data.toList.drop 46 = dktX4_keyAt_2 := dk_seg dksX4_keyAt_1 23 rfl rfl
theorem dksX4_keyAt_3 : cX4_keyAt.data.toList.drop 69 = dktX4_keyAt_3 := dk_seg dksX4_keyAt_2 23 rfl rfl
theorem dksX4_keyAt_4 : cX4_keyAt.data.toList.drop 92 = dktX4_keyAt_4 := dk_seg dksX4_keyAt_3 23 rfl rfl
theorem dksX4_keyAt_5 : cX4_keyAt.data.toList.drop 114 = dktX4_keyAt_5 := dk_seg dksX4_keyAt_4 22 rfl rfl
theorem dX4_keyAt_0 : decode cX4_keyAt 0 = .ok (.iconst 0, 1) := dk_3 (dk_at dksX4_keyAt_0 0 rfl rfl)
theorem dX4_keyAt_1 : decode cX4_keyAt 1 = .ok (.istore_n 1, 1) := dk_60 (dk_at dksX4_keyAt_0 1 rfl rfl)
theorem dX4_keyAt_2 : decode cX4_keyAt 2 = .ok (.iconst 1, 1) := dk_4 (dk_at dksX4_keyAt_0 2 rfl rfl)
theorem dX4_keyAt_3 : decode cX4_keyAt 3 = .ok (.istore_n 2, 1) := dk_61 (dk_at dksX4_keyAt_0 3 rfl rfl)
theorem dX4_keyAt_4 : decode cX4_keyAt 4 = .ok (.iload_n 2, 1) := dk_28 (dk_at dksX4_keyAt_0 4 rfl rfl)
theorem dX4_keyAt_5 : decode cX4_keyAt 5 = .ok (.ldc 85, 2) := dk_18 85 (dk_at dksX4_keyAt_0 5 rfl rfl)
theorem dX4_keyAt_7 : decode cX4_keyAt 7 = .ok (.invokevirtual 87, 3) := dk_182 0 87 (dk_at dksX4_keyAt_0 7 rfl rfl)
theorem dX4_keyAt_10 : decode cX4_keyAt 10 = .ok (.if_icmp .ge 113, 3) := dk_162 0 113 (dk_at dksX4_keyAt_0 10 rfl rfl)
theorem dX4_keyAt_13 : decode cX4_keyAt 13 = .ok (.iconst 0, 1) := dk_3 (dk_at dksX4_keyAt_0 13 rfl rfl)
theorem dX4_keyAt_14 : decode cX4_keyAt 14 = .ok (.istore_n 3, 1) := dk_62 (dk_at dksX4_keyAt_0 14 rfl rfl)
theorem dX4_keyAt_15 : decode cX4_keyAt 15 = .ok (.ldc 85, 2) := dk_18 85 (dk_at dksX4_keyAt_0 15 rfl rfl)
theorem dX4_keyAt_17 : decode cX4_keyAt 17 = .ok (.iload_n 2, 1) := dk_28 (dk_at dksX4_keyAt_0 17 rfl rfl)
theorem dX4_keyAt_18 : decode cX4_keyAt 18 = .ok (.iload_n 3, 1) := dk_29 (dk_at dksX4_keyAt_0 18 rfl rfl)
theorem dX4_keyAt_19 : decode cX4_keyAt 19 = .ok (.iadd, 1) := dk_96 (dk_at dksX4_keyAt_0 19 rfl rfl)
theorem dX4_keyAt_20 : decode cX4_keyAt 20 = .ok (.invokevirtual 93, 3) := dk_182 0 93 (dk_at dksX4_keyAt_0 20 rfl rfl)
theorem dX4_keyAt_23 : decode cX4_keyAt 23 = .ok (.bipush 32, 2) := dk_16 32 (dk_at dksX4_keyAt_1 0 rfl rfl)
theorem dX4_keyAt_25 : decode cX4_keyAt 25 = .ok (.if_icmp .eq 44, 3) := dk_159 0 44 (dk_at dksX4_keyAt_1 2 rfl rfl)
theorem dX4_keyAt_28 : decode cX4_keyAt 28 = .ok (.aload_n 0, 1) := dk_42 (dk_at dksX4_keyAt_1 5 rfl rfl)
theorem dX4_keyAt_29 : decode cX4_keyAt 29 = .ok (.getfield 97, 3) := dk_180 0 97 (dk_at dksX4_keyAt_1 6 rfl rfl)
theorem dX4_keyAt_32 : decode cX4_keyAt 32 = .ok (.iload_n 3, 1) := dk_29 (dk_at dksX4_keyAt_1 9 rfl rfl)
theorem dX4_keyAt_33 : decode cX4_keyAt 33 = .ok (.iadd, 1) := dk_96 (dk_at dksX4_keyAt_1 10 rfl rfl)
theorem dX4_keyAt_34 : decode cX4_keyAt 34 = .ok (.aload_n 0, 1) := dk_42 (dk_at dksX4_keyAt_1 11 rfl rfl)
theorem dX4_keyAt_35 : decode cX4_keyAt 35 = .ok (.getfield 100, 3) := dk_180 0 100 (dk_at dksX4_keyAt_1 12 rfl rfl)
theorem dX4_keyAt_38 : decode cX4_keyAt 38 = .ok (.if_icmp .ge 31, 3) := dk_162 0 31 (dk_at dksX4_keyAt_1 15 rfl rfl)
theorem dX4_keyAt_41 : decode cX4_keyAt 41 = .ok (.aload_n 0, 1) := dk_42 (dk_at dksX4_keyAt_1 18 rfl rfl)
theorem dX4_keyAt_42 : decode cX4_keyAt 42 = .ok (.getfield 21, 3) := dk_180 0 21 (dk_at dksX4_keyAt_1 19 rfl rfl)
theorem dX4_keyAt_45 : decode cX4_keyAt 45 = .ok (.aload_n 0, 1) := dk_42 (dk_at dksX4_keyAt_1 22 rfl rfl)
theorem dX4_keyAt_46 : decode cX4_keyAt 46 = .ok (.getfield 97, 3) := dk_180 0 97 (dk_at dksX4_keyAt_2 0 rfl rfl)
theorem dX4_keyAt_49 : decode cX4_keyAt 49 = .ok (.iload_n 3, 1) := dk_29 (dk_at dksX4_keyAt_2 3 rfl rfl)
theorem dX4_keyAt_50 : decode cX4_keyAt 50 = .ok (.iadd, 1) := dk_96 (dk_at dksX4_keyAt_2 4 rfl rfl)
theorem dX4_keyAt_51 : decode cX4_keyAt 51 = .ok (.iaload, 1) := dk_46 (dk_at dksX4_keyAt_2 5 rfl rfl)
theorem dX4_keyAt_52 : decode cX4_keyAt 52 = .ok (.ldc 85, 2) := dk_18 85 (dk_at dksX4_keyAt_2 6 rfl rfl)
theorem dX4_keyAt_54 : decode cX4_keyAt 54 = .ok (.iload_n 2, 1) := dk_28 (dk_at dksX4_keyAt_2 8 rfl rfl)
theorem dX4_keyAt_55 : decode cX4_keyAt 55 = .ok (.iload_n 3, 1) := dk_29 (dk_at dksX4_keyAt_2 9 rfl rfl)
theorem dX4_keyAt_56 : decode cX4_keyAt 56 = .ok (.iadd, 1) := dk_96 (dk_at dksX4_keyAt_2 10 rfl rfl)
theorem dX4_keyAt_57 : decode cX4_keyAt 57 = .ok (.invokevirtual 93, 3) := dk_182 0 93 (dk_at dksX4_keyAt_2 11 rfl rfl)
theorem dX4_keyAt_60 : decode cX4_keyAt 60 = .ok (.if_icmp .ne 9, 3) := dk_160 0 9 (dk_at dksX4_keyAt_2 14 rfl rfl)
theorem dX4_keyAt_63 : decode cX4_keyAt 63 = .ok (.iinc 3 1, 3) := dk_132 3 1 (dk_at dksX4_keyAt_2 17 rfl rfl)
theorem dX4_keyAt_66 : decode cX4_keyAt 66 = .ok (.goto (-51), 3) := dk_167 255 205 (dk_at dksX4_keyAt_2 20 rfl rfl)
theorem dX4_keyAt_69 : decode cX4_keyAt 69 = .ok (.ldc 85, 2) := dk_18 85 (dk_at dksX4_keyAt_3 0 rfl rfl)
theorem dX4_keyAt_71 : decode cX4_keyAt 71 = .ok (.iload_n 2, 1) := dk_28 (dk_at dksX4_keyAt_3 2 rfl rfl)
theorem dX4_keyAt_72 : decode cX4_keyAt 72 = .ok (.iload_n 3, 1) := dk_29 (dk_at dksX4_keyAt_3 3 rfl rfl)
theorem dX4_keyAt_73 : decode cX4_keyAt 73 = .ok (.iadd, 1) := dk_96 (dk_at dksX4_keyAt_3 4 rfl rfl)
theorem dX4_keyAt_74 : decode cX4_keyAt 74 = .ok (.invokevirtual 93, 3) := dk_182 0 93 (dk_at dksX4_keyAt_3 5 rfl rfl)
theorem dX4_keyAt_77 : decode cX4_keyAt 77 = .ok (.bipush 32, 2) := dk_16 32 (dk_at dksX4_keyAt_3 8 rfl rfl)
theorem dX4_keyAt_79 : decode cX4_keyAt 79 = .ok (.if_icmp .ne 18, 3) := dk_160 0 18 (dk_at dksX4_keyAt_3 10 rfl rfl)
theorem dX4_keyAt_82 : decode cX4_keyAt 82 = .ok (.aload_n 0, 1) := dk_42 (dk_at dksX4_keyAt_3 13 rfl rfl)
theorem dX4_keyAt_83 : decode cX4_keyAt 83 = .ok (.getfield 97, 3) := dk_180 0 97 (dk_at dksX4_keyAt_3 14 rfl rfl)
theorem dX4_keyAt_86 : decode cX4_keyAt 86 = .ok (.iload_n 3, 1) := dk_29 (dk_at dksX4_keyAt_3 17 rfl rfl)
theorem dX4_keyAt_87 : decode cX4_keyAt 87 = .ok (.iadd, 1) := dk_96 (dk_at dksX4_keyAt_3 18 rfl rfl)
theorem dX4_keyAt_88 : decode cX4_keyAt 88 = .ok (.aload_n 0, 1) := dk_42 (dk_at dksX4_keyAt_3 19 rfl rfl)
theorem dX4_keyAt_89 : decode cX4_keyAt 89 = .ok (.getfield 100, 3) := dk_180 0 100 (dk_at dksX4_keyAt_3 20 rfl rfl)
theorem dX4_keyAt_92 : decode cX4_keyAt 92 = .ok (.if_icmp .ne 5, 3) := dk_160 0 5 (dk_at dksX4_keyAt_4 0 rfl rfl)
theorem dX4_keyAt_95 : decode cX4_keyAt 95 = .ok (.iload_n 1, 1) := dk_27 (dk_at dksX4_keyAt_4 3 rfl rfl)
theorem dX4_keyAt_96 : decode cX4_keyAt 96 = .ok (.ireturn, 1) := dk_172 (dk_at dksX4_keyAt_4 4 rfl rfl)
theorem dX4_keyAt_97 : decode cX4_keyAt 97 = .ok (.ldc 85, 2) := dk_18 85 (dk_at dksX4_keyAt_4 5 rfl rfl)
theorem dX4_keyAt_99 : decode cX4_keyAt 99 = .ok (.iload_n 2, 1) := dk_28 (dk_at dksX4_keyAt_4 7 rfl rfl)
theorem dX4_keyAt_100 : decode cX4_keyAt 100 = .ok (.invokevirtual 93, 3) := dk_182 0 93 (dk_at dksX4_keyAt_4 8 rfl rfl)
theorem dX4_keyAt_103 : decode cX4_keyAt 103 = .ok (.bipush 32, 2) := dk_16 32 (dk_at dksX4_keyAt_4 11 rfl rfl)
theorem dX4_keyAt_105 : decode cX4_keyAt 105 = .ok (.if_icmp .eq 9, 3) := dk_159 0 9 (dk_at dksX4_keyAt_4 13 rfl rfl)
theorem dX4_keyAt_108 : decode cX4_keyAt 108 = .ok (.iinc 2 1, 3) := dk_132 2 1 (dk_at dksX4_keyAt_4 16 rfl rfl)
theorem dX4_keyAt_111 : decode cX4_keyAt 111 = .ok (.goto (-14), 3) := dk_167 255 242 (dk_at dksX4_keyAt_4 19 rfl rfl)
theorem dX4_keyAt_114 : decode cX4_keyAt 114 = .ok (.iinc 2 1, 3) := dk_132 2 1 (dk_at dksX4_keyAt_5 0 rfl rfl)
theorem dX4_keyAt_117 : decode cX4_keyAt 117 = .ok (.iinc 1 1, 3) := dk_132 1 1 (dk_at dksX4_keyAt_5 3 rfl rfl)
theorem dX4_keyAt_120 : decode cX4_keyAt 120 = .ok (.goto (-116), 3) := dk_167 255 140 (dk_at dksX4_keyAt_5 6 rfl rfl)
theorem dX4_keyAt_123 : decode cX4_keyAt 123 = .ok (.bipush 22, 2) := dk_16 22 (dk_at dksX4_keyAt_5 9 rfl rfl)
theorem dX4_keyAt_125 : decode cX4_keyAt 125 = .ok (.ireturn, 1) := dk_172 (dk_at dksX4_keyAt_5 11 rfl rfl)
abbrev cX4_isDigit : ByteArray := prog_11_method_8_code
def yX4_isDigit : MethodName := ⟨RX4, "isDigit", "(I)Z"⟩
def dkwX4_isDigit_0 : List UInt8 := [26, 16, 48, 161, 0, 13, 26, 16, 57, 163, 0, 7, 4, 167, 0, 4, 3, 172]
abbrev dktX4_isDigit_0 : List UInt8 := dkwX4_isDigit_0 ++ []
theorem dksX4_isDigit_0 : cX4_isDigit.data.toList.drop 0 = dktX4_isDigit_0 := by decide +kernel
theorem dX4_isDigit_0 : decode cX4_isDigit 0 = .ok (.iload_n 0, 1) := dk_26 (dk_at dksX4_isDigit_0 0 rfl rfl)
theorem dX4_isDigit_1 : decode cX4_isDigit 1 = .ok (.bipush 48, 2) := dk_16 48 (dk_at dksX4_isDigit_0 1 rfl rfl)
theorem dX4_isDigit_3 : decode cX4_isDigit 3 = .ok (.if_icmp .lt 13, 3) := dk_161 0 13 (dk_at dksX4_isDigit_0 3 rfl rfl)
theorem dX4_isDigit_6 : decode cX4_isDigit 6 = .ok (.iload_n 0, 1) := dk_26 (dk_at dksX4_isDigit_0 6 rfl rfl)
theorem dX4_isDigit_7 : decode cX4_isDigit 7 = .ok (.bipush 57, 2) := dk_16 57 (dk_at dksX4_isDigit_0 7 rfl rfl)
theorem dX4_isDigit_9 : decode cX4_isDigit 9 = .ok (.if_icmp .gt 7, 3) := dk_163 0 7 (dk_at dksX4_isDigit_0 9 rfl rfl)
theorem dX4_isDigit_12 : decode cX4_isDigit 12 = .ok (.iconst 1, 1) := dk_4 (dk_at dksX4_isDigit_0 12 rfl rfl)
theorem dX4_isDigit_13 : decode cX4_isDigit 13 = .ok (.goto 4, 3) := dk_167 0 4 (dk_at dksX4_isDigit_0 13 rfl rfl)
theorem dX4_isDigit_16 : decode cX4_isDigit 16 = .ok (.iconst 0, 1) := dk_3 (dk_at dksX4_isDigit_0 16 rfl rfl)
theorem dX4_isDigit_17 : decode cX4_isDigit 17 = .ok (.ireturn, 1) := dk_172 (dk_at dksX4_isDigit_0 17 rfl rfl)
abbrev cX4_readLine : ByteArray := prog_11_method_28_code
def yX4_readLine : MethodName := ⟨RX4, "readLine", "()V"⟩
def dkwX4_readLine_4 : List UInt8 := [182, 0, 188, 167, 0, 16, 42, 7, 182, 0, 185, 167, 0, 8, 42, 5, 182, 0, 137, 177]
abbrev dktX4_readLine_4 : List UInt8 := dkwX4_readLine_4 ++ []
def dkwX4_readLine_3 : List UInt8 := [167, 0, 41, 42, 16, 41, 182, 0, 185, 167, 0, 32, 42, 16, 42, 182, 0, 185, 167, 0, 23, 42]
abbrev dktX4_readLine_3 : List UInt8 := dkwX4_readLine_3 ++ dktX4_readLine_4
def dkwX4_readLine_2 : List UInt8 := [42, 182, 0, 176, 167, 0, 61, 42, 182, 0, 179, 167, 0, 54, 42, 42, 180, 0, 107, 7, 100, 182, 0, 182]
abbrev dktX4_readLine_2 : List UInt8 := dkwX4_readLine_2 ++ dktX4_readLine_3
def dkwX4_readLine_1 : List UInt8 := [170, 0, 0, 0, 0, 0, 0, 124, 0, 0, 0, 0, 0, 0, 0, 11, 0, 0, 0, 64, 0, 0, 0, 71, 0, 0, 0, 124, 0, 0, 0, 124, 0, 0, 0, 78, 0, 0, 0, 78, 0, 0, 0, 78, 0, 0, 0, 91, 0, 0, 0, 100, 0, 0, 0, 109, 0, 0, 0, 124, 0, 0, 0, 116]
abbrev dktX4_readLine_1 : List UInt8 := dkwX4_readLine_1 ++ dktX4_readLine_2
def dkwX4_readLine_0 : List UInt8 := [42, 180, 0, 125, 153, 0, 4, 177, 42, 180, 0, 107]
abbrev dktX4_readLine_0 : List UInt8 := dkwX4_readLine_0 ++ dktX4_readLine_1
theorem dksX4_readLine_0 : cX4_readLine.data.toList.drop 0 = dktX4_readLine_0 := by decide +kernel
theorem dksX4_readLine_1 : cX4_readLine.data.toList.drop 12 = dktX4_readLine_1 := dk_seg dksX4_readLine_0 12 rfl rfl
theorem dksX4_readLine_2 : cX4_readLine.data.toList.drop 76 = dktX4_readLine_2 := dk_seg dksX4_readLine_1 64 rfl rfl
theorem dksX4_readLine_3 : cX4_readLine.data.toList.drop 100 = dktX4_readLine_3 := dk_seg dksX4_readLine_2 24 rfl rfl
theorem dksX4_readLine_4 : cX4_readLine.data.toList.drop 122 = dktX4_readLine_4 := dk_seg dksX4_readLine_3 22 rfl rfl
theorem dX4_readLine_0 : decode cX4_readLine 0 = .ok (.aload_n 0, 1) := dk_42 (dk_at dksX4_readLine_0 0 rfl rfl)
theorem dX4_readLine_1 : decode cX4_readLine 1 = .ok (.getfield 125, 3) := dk_180 0 125 (dk_at dksX4_readLine_0 1 rfl rfl)
theorem dX4_readLine_4 : decode cX4_readLine 4 = .ok (.ifCond .eq 4, 3) := dk_153 0 4 (dk_at dksX4_readLine_0 4 rfl rfl)
theorem dX4_readLine_7 : decode cX4_readLine 7 = .ok (.return_, 1) := dk_177 (dk_at dksX4_readLine_0 7 rfl rfl)
theorem dX4_readLine_8 : decode cX4_readLine 8 = .ok (.aload_n 0, 1) := dk_42 (dk_at dksX4_readLine_0 8 rfl rfl)
theorem dX4_readLine_9 : decode cX4_readLine 9 = .ok (.getfield 107, 3) := dk_180 0 107 (dk_at dksX4_readLine_0 9 rfl rfl)
theorem dX4_readLine_12 : decode cX4_readLine 12 = .ok (.tableswitch 124 0 11 #[64, 71, 124, 124, 78, 78, 78, 91, 100, 109, 124, 116], 64) := by decide +kernel
theorem dX4_readLine_76 : decode cX4_readLine 76 = .ok (.aload_n 0, 1) := dk_42 (dk_at dksX4_readLine_2 0 rfl rfl)
theorem dX4_readLine_77 : decode cX4_readLine 77 = .ok (.invokevirtual 176, 3) := dk_182 0 176 (dk_at dksX4_readLine_2 1 rfl rfl)
theorem dX4_readLine_80 : decode cX4_readLine 80 = .ok (.goto 61, 3) := dk_167 0 61 (dk_at dksX4_readLine_2 4 rfl rfl)
theorem dX4_readLine_83 : decode cX4_readLine 83 = .ok (.aload_n 0, 1) := dk_42 (dk_at dksX4_readLine_2 7 rfl rfl)
theorem dX4_readLine_84 : decode cX4_readLine 84 = .ok (.invokevirtual 179, 3) := dk_182 0 179 (dk_at dksX4_readLine_2 8 rfl rfl)
theorem dX4_readLine_87 : decode cX4_readLine 87 = .ok (.goto 54, 3) := dk_167 0 54 (dk_at dksX4_readLine_2 11 rfl rfl)
theorem dX4_readLine_90 : decode cX4_readLine 90 = .ok (.aload_n 0, 1) := dk_42 (dk_at dksX4_readLine_2 14 rfl rfl)
theorem dX4_readLine_91 : decode cX4_readLine 91 = .ok (.aload_n 0, 1) := dk_42 (dk_at dksX4_readLine_2 15 rfl rfl)
theorem dX4_readLine_92 : decode cX4_readLine 92 = .ok (.getfield 107, 3) := dk_180 0 107 (dk_at dksX4_readLine_2 16 rfl rfl)
theorem dX4_readLine_95 : decode cX4_readLine 95 = .ok (.iconst 4, 1) := dk_7 (dk_at dksX4_readLine_2 19 rfl rfl)
theorem dX4_readLine_96 : decode cX4_readLine 96 = .ok (.isub, 1) := dk_100 (dk_at dksX4_readLine_2 20 rfl rfl)
theorem dX4_readLine_97 : decode cX4_readLine 97 = .ok (.invokevirtual 182, 3) := dk_182 0 182 (dk_at dksX4_readLine_2 21 rfl rfl)
theorem dX4_readLine_100 : decode cX4_readLine 100 = .ok (.goto 41, 3) := dk_167 0 41 (dk_at dksX4_readLine_3 0 rfl rfl)
theorem dX4_readLine_103 : decode cX4_readLine 103 = .ok (.aload_n 0, 1) := dk_42 (dk_at dksX4_readLine_3 3 rfl rfl)
theorem dX4_readLine_104 : decode cX4_readLine 104 = .ok (.bipush 41, 2) := dk_16 41 (dk_at dksX4_readLine_3 4 rfl rfl)
theorem dX4_readLine_106 : decode cX4_readLine 106 = .ok (.invokevirtual 185, 3) := dk_182 0 185 (dk_at dksX4_readLine_3 6 rfl rfl)
theorem dX4_readLine_109 : decode cX4_readLine 109 = .ok (.goto 32, 3) := dk_167 0 32 (dk_at dksX4_readLine_3 9 rfl rfl)
theorem dX4_readLine_112 : decode cX4_readLine 112 = .ok (.aload_n 0, 1) := dk_42 (dk_at dksX4_readLine_3 12 rfl rfl)
theorem dX4_readLine_113 : decode cX4_readLine 113 = .ok (.bipush 42, 2) := dk_16 42 (dk_at dksX4_readLine_3 13 rfl rfl)
theorem dX4_readLine_115 : decode cX4_readLine 115 = .ok (.invokevirtual 185, 3) := dk_182 0 185 (dk_at dksX4_readLine_3 15 rfl rfl)
theorem dX4_readLine_118 : decode cX4_readLine 118 = .ok (.goto 23, 3) := dk_167 0 23 (dk_at dksX4_readLine_3 18 rfl rfl)
theorem dX4_readLine_121 : decode cX4_readLine 121 = .ok (.aload_n 0, 1) := dk_42 (dk_at dksX4_readLine_3 21 rfl rfl)
theorem dX4_readLine_122 : decode cX4_readLine 122 = .ok (.invokevirtual 188, 3) := dk_182 0 188 (dk_at dksX4_readLine_4 0 rfl rfl)
theorem dX4_readLine_125 : decode cX4_readLine 125 = .ok (.goto 16, 3) := dk_167 0 16 (dk_at dksX4_readLine_4 3 rfl rfl)
theorem dX4_readLine_128 : decode cX4_readLine 128 = .ok (.aload_n 0, 1) := dk_42 (dk_at dksX4_readLine_4 6 rfl rfl)
theorem dX4_readLine_129 : decode cX4_readLine 129 = .ok (.iconst 4, 1) := dk_7 (dk_at dksX4_readLine_4 7 rfl rfl)
theorem dX4_readLine_130 : decode cX4_readLine 130 = .ok (.invokevirtual 185, 3) := dk_182 0 185 (dk_at dksX4_readLine_4 8 rfl rfl)
theorem dX4_readLine_133 : decode cX4_readLine 133 = .ok (.goto 8, 3) := dk_167 0 8 (dk_at dksX4_readLine_4 11 rfl rfl)
theorem dX4_readLine_136 : decode cX4_readLine 136 = .ok (.aload_n 0, 1) := dk_42 (dk_at dksX4_readLine_4 14 rfl rfl)
theorem dX4_readLine_137 : decode cX4_readLine 137 = .ok (.iconst 2, 1) := dk_5 (dk_at dksX4_readLine_4 15 rfl rfl)
theorem dX4_readLine_138 : decode cX4_readLine 138 = .ok (.invokevirtual 137, 3) := dk_182 0 137 (dk_at dksX4_readLine_4 16 rfl rfl)
theorem dX4_readLine_141 : decode cX4_readLine 141 = .ok (.return_, 1) := dk_177 (dk_at dksX4_readLine_4 19 rfl rfl)
abbrev cX4_readStorey : ByteArray := prog_11_method_22_code
def yX4_readStorey : MethodName := ⟨RX4, "readStorey", "()V"⟩
def dkwX4_readStorey_2 : List UInt8 := [177, 42, 180, 0, 24, 16, 21, 27, 96, 28, 79, 42, 180, 0, 24, 16, 20, 92, 46, 4, 96, 79, 177]
abbrev dktX4_readStorey_2 : List UInt8 := dkwX4_readStorey_2 ++ []
def dkwX4_readStorey_1 : List UInt8 := [153, 0, 4, 177, 42, 182, 0, 134, 42, 3, 17, 3, 231, 182, 0, 169, 61, 42, 180, 0, 125, 153, 0, 4]
abbrev dktX4_readStorey_1 : List UInt8 := dkwX4_readStorey_1 ++ dktX4_readStorey_2
def dkwX4_readStorey_0 : List UInt8 := [42, 180, 0, 24, 16, 20, 46, 60, 27, 16, 8, 160, 0, 8, 42, 7, 182, 0, 137, 42, 180, 0, 125]
abbrev dktX4_readStorey_0 : List UInt8 := dkwX4_readStorey_0 ++ dktX4_readStorey_1
theorem dksX4_readStorey_0 : cX4_readStorey.data.toList.drop 0 = dktX4_readStorey_0 := by decide +kernel
theorem dksX4_readStorey_1 : cX4_readStorey.data.toList.drop 23 = dktX4_readStorey_1 := dk_seg dksX4_readStorey_0 23 rfl rfl
theorem dksX4_readStorey_2 : cX4_readStorey.data.toList.drop 47 = dktX4_readStorey_2 := dk_seg dksX4_readStorey_1 24 rfl rfl
theorem dX4_readStorey_0 : decode cX4_readStorey 0 = .ok (.aload_n 0, 1) := dk_42 (dk_at dksX4_readStorey_0 0 rfl rfl)
theorem dX4_readStorey_1 : decode cX4_readStorey 1 = .ok (.getfield 24, 3) := dk_180 0 24 (dk_at dksX4_readStorey_0 1 rfl rfl)
theorem dX4_readStorey_4 : decode cX4_readStorey 4 = .ok (.bipush 20, 2) := dk_16 20 (dk_at dksX4_readStorey_0 4 rfl rfl)
theorem dX4_readStorey_6 : decode cX4_readStorey 6 = .ok (.iaload, 1) := dk_46 (dk_at dksX4_readStorey_0 6 rfl rfl)
theorem dX4_readStorey_7 : decode cX4_readStorey 7 = .ok (.istore_n 1, 1) := dk_60 (dk_at dksX4_readStorey_0 7 rfl rfl)
theorem dX4_readStorey_8 : decode cX4_readStorey 8 = .ok (.iload_n 1, 1) := dk_27 (dk_at dksX4_readStorey_0 8 rfl rfl)
theorem dX4_readStorey_9 : decode cX4_readStorey 9 = .ok (.bipush 8, 2) := dk_16 8 (dk_at dksX4_readStorey_0 9 rfl rfl)
theorem dX4_readStorey_11 : decode cX4_readStorey 11 = .ok (.if_icmp .ne 8, 3) := dk_160 0 8 (dk_at dksX4_readStorey_0 11 rfl rfl)
theorem dX4_readStorey_14 : decode cX4_readStorey 14 = .ok (.aload_n 0, 1) := dk_42 (dk_at dksX4_readStorey_0 14 rfl rfl)
theorem dX4_readStorey_15 : decode cX4_readStorey 15 = .ok (.iconst 4, 1) := dk_7 (dk_at dksX4_readStorey_0 15 rfl rfl)
theorem dX4_readStorey_16 : decode cX4_readStorey 16 = .ok (.invokevirtual 137, 3) := dk_182 0 137 (dk_at dksX4_readStorey_0 16 rfl rfl)
theorem dX4_readStorey_19 : decode cX4_readStorey 19 = .ok (.aload_n 0, 1) := dk_42 (dk_at dksX4_readStorey_0 19 rfl rfl)
theorem dX4_readStorey_20 : decode cX4_readStorey 20 = .ok (.getfield 125, 3) := dk_180 0 125 (dk_at dksX4_readStorey_0 20 rfl rfl)
theorem dX4_readStorey_23 : decode cX4_readStorey 23 = .ok (.ifCond .eq 4, 3) := dk_153 0 4 (dk_at dksX4_readStorey_1 0 rfl rfl)
theorem dX4_readStorey_26 : decode cX4_readStorey 26 = .ok (.return_, 1) := dk_177 (dk_at dksX4_readStorey_1 3 rfl rfl)
theorem dX4_readStorey_27 : decode cX4_readStorey 27 = .ok (.aload_n 0, 1) := dk_42 (dk_at dksX4_readStorey_1 4 rfl rfl)
theorem dX4_readStorey_28 : decode cX4_readStorey 28 = .ok (.invokevirtual 134, 3) := dk_182 0 134 (dk_at dksX4_readStorey_1 5 rfl rfl)
theorem dX4_readStorey_31 : decode cX4_readStorey 31 = .ok (.aload_n 0, 1) := dk_42 (dk_at dksX4_readStorey_1 8 rfl rfl)
theorem dX4_readStorey_32 : decode cX4_readStorey 32 = .ok (.iconst 0, 1) := dk_3 (dk_at dksX4_readStorey_1 9 rfl rfl)
theorem dX4_readStorey_33 : decode cX4_readStorey 33 = .ok (.sipush 999, 3) := dk_17 3 231 (dk_at dksX4_readStorey_1 10 rfl rfl)
theorem dX4_readStorey_36 : decode cX4_readStorey 36 = .ok (.invokevirtual 169, 3) := dk_182 0 169 (dk_at dksX4_readStorey_1 13 rfl rfl)
theorem dX4_readStorey_39 : decode cX4_readStorey 39 = .ok (.istore_n 2, 1) := dk_61 (dk_at dksX4_readStorey_1 16 rfl rfl)
theorem dX4_readStorey_40 : decode cX4_readStorey 40 = .ok (.aload_n 0, 1) := dk_42 (dk_at dksX4_readStorey_1 17 rfl rfl)
theorem dX4_readStorey_41 : decode cX4_readStorey 41 = .ok (.getfield 125, 3) := dk_180 0 125 (dk_at dksX4_readStorey_1 18 rfl rfl)
theorem dX4_readStorey_44 : decode cX4_readStorey 44 = .ok (.ifCond .eq 4, 3) := dk_153 0 4 (dk_at dksX4_readStorey_1 21 rfl rfl)
theorem dX4_readStorey_47 : decode cX4_readStorey 47 = .ok (.return_, 1) := dk_177 (dk_at dksX4_readStorey_2 0 rfl rfl)
theorem dX4_readStorey_48 : decode cX4_readStorey 48 = .ok (.aload_n 0, 1) := dk_42 (dk_at dksX4_readStorey_2 1 rfl rfl)
theorem dX4_readStorey_49 : decode cX4_readStorey 49 = .ok (.getfield 24, 3) := dk_180 0 24 (dk_at dksX4_readStorey_2 2 rfl rfl)
theorem dX4_readStorey_52 : decode cX4_readStorey 52 = .ok (.bipush 21, 2) := dk_16 21 (dk_at dksX4_readStorey_2 5 rfl rfl)
theorem dX4_readStorey_54 : decode cX4_readStorey 54 = .ok (.iload_n 1, 1) := dk_27 (dk_at dksX4_readStorey_2 7 rfl rfl)
theorem dX4_readStorey_55 : decode cX4_readStorey 55 = .ok (.iadd, 1) := dk_96 (dk_at dksX4_readStorey_2 8 rfl rfl)
theorem dX4_readStorey_56 : decode cX4_readStorey 56 = .ok (.iload_n 2, 1) := dk_28 (dk_at dksX4_readStorey_2 9 rfl rfl)
theorem dX4_readStorey_57 : decode cX4_readStorey 57 = .ok (.iastore, 1) := dk_79 (dk_at dksX4_readStorey_2 10 rfl rfl)
theorem dX4_readStorey_58 : decode cX4_readStorey 58 = .ok (.aload_n 0, 1) := dk_42 (dk_at dksX4_readStorey_2 11 rfl rfl)
theorem dX4_readStorey_59 : decode cX4_readStorey 59 = .ok (.getfield 24, 3) := dk_180 0 24 (dk_at dksX4_readStorey_2 12 rfl rfl)
theorem dX4_readStorey_62 : decode cX4_readStorey 62 = .ok (.bipush 20, 2) := dk_16 20 (dk_at dksX4_readStorey_2 15 rfl rfl)
theorem dX4_readStorey_64 : decode cX4_readStorey 64 = .ok (.dup2, 1) := dk_92 (dk_at dksX4_readStorey_2 17 rfl rfl)
theorem dX4_readStorey_65 : decode cX4_readStorey 65 = .ok (.iaload, 1) := dk_46 (dk_at dksX4_readStorey_2 18 rfl rfl)
theorem dX4_readStorey_66 : decode cX4_readStorey 66 = .ok (.iconst 1, 1) := dk_4 (dk_at dksX4_readStorey_2 19 rfl rfl)
theorem dX4_readStorey_67 : decode cX4_readStorey 67 = .ok (.iadd, 1) := dk_96 (dk_at dksX4_readStorey_2 20 rfl rfl)
theorem dX4_readStorey_68 : decode cX4_readStorey 68 = .ok (.iastore, 1) := dk_79 (dk_at dksX4_readStorey_2 21 rfl rfl)
theorem dX4_readStorey_69 : decode cX4_readStorey 69 = .ok (.return_, 1) := dk_177 (dk_at dksX4_readStorey_2 22 rfl rfl)
abbrev cX4_fails : ByteArray := prog_11_method_11_code
def yX4_fails : MethodName := ⟨RX4, "fails", "(I)V"⟩
def dkwX4_fails_1 : List UInt8 := [181, 0, 125, 42, 42, 180, 0, 97, 181, 0, 128, 177]
abbrev dktX4_fails_1 : List UInt8 := dkwX4_fails_1 ++ []
def dkwX4_fails_0 : List UInt8 := [42, 180, 0, 125, 153, 0, 4, 177, 42, 42, 180, 0, 107, 16, 25, 160, 0, 7, 4, 167, 0, 4, 27]
abbrev dktX4_fails_0 : List UInt8 := dkwX4_fails_0 ++ dktX4_fails_1
theorem dksX4_fails_0 : cX4_fails.data.toList.drop 0 = dktX4_fails_0 := by decide +kernel
theorem dksX4_fails_1 : cX4_fails.data.toList.drop 23 = dktX4_fails_1 := dk_seg dksX4_fails_0 23 rfl rfl
theorem dX4_fails_0 : decode cX4_fails 0 = .ok (.aload_n 0, 1) := dk_42 (dk_at dksX4_fails_0 0 rfl rfl)
theorem dX4_fails_1 : decode cX4_fails 1 = .ok (.getfield 125, 3) := dk_180 0 125 (dk_at dksX4_fails_0 1 rfl rfl)
theorem dX4_fails_4 : decode cX4_fails 4 = .ok (.ifCond .eq 4, 3) := dk_153 0 4 (dk_at dksX4_fails_0 4 rfl rfl)
theorem dX4_fails_7 : decode cX4_fails 7 = .ok (.return_, 1) := dk_177 (dk_at dksX4_fails_0 7 rfl rfl)
theorem dX4_fails_8 : decode cX4_fails 8 = .ok (.aload_n 0, 1) := dk_42 (dk_at dksX4_fails_0 8 rfl rfl)
theorem dX4_fails_9 : decode cX4_fails 9 = .ok (.aload_n 0, 1) := dk_42 (dk_at dksX4_fails_0 9 rfl rfl)
theorem dX4_fails_10 : decode cX4_fails 10 = .ok (.getfield 107, 3) := dk_180 0 107 (dk_at dksX4_fails_0 10 rfl rfl)
theorem dX4_fails_13 : decode cX4_fails 13 = .ok (.bipush 25, 2) := dk_16 25 (dk_at dksX4_fails_0 13 rfl rfl)
theorem dX4_fails_15 : decode cX4_fails 15 = .ok (.if_icmp .ne 7, 3) := dk_160 0 7 (dk_at dksX4_fails_0 15 rfl rfl)
theorem dX4_fails_18 : decode cX4_fails 18 = .ok (.iconst 1, 1) := dk_4 (dk_at dksX4_fails_0 18 rfl rfl)
theorem dX4_fails_19 : decode cX4_fails 19 = .ok (.goto 4, 3) := dk_167 0 4 (dk_at dksX4_fails_0 19 rfl rfl)
theorem dX4_fails_22 : decode cX4_fails 22 = .ok (.iload_n 1, 1) := dk_27 (dk_at dksX4_fails_0 22 rfl rfl)
theorem dX4_fails_23 : decode cX4_fails 23 = .ok (.putfield 125, 3) := dk_181 0 125 (dk_at dksX4_fails_1 0 rfl rfl)
theorem dX4_fails_26 : decode cX4_fails 26 = .ok (.aload_n 0, 1) := dk_42 (dk_at dksX4_fails_1 3 rfl rfl)
theorem dX4_fails_27 : decode cX4_fails 27 = .ok (.aload_n 0, 1) := dk_42 (dk_at dksX4_fails_1 4 rfl rfl)
theorem dX4_fails_28 : decode cX4_fails 28 = .ok (.getfield 97, 3) := dk_180 0 97 (dk_at dksX4_fails_1 5 rfl rfl)
theorem dX4_fails_31 : decode cX4_fails 31 = .ok (.putfield 128, 3) := dk_181 0 128 (dk_at dksX4_fails_1 8 rfl rfl)
theorem dX4_fails_34 : decode cX4_fails 34 = .ok (.return_, 1) := dk_177 (dk_at dksX4_fails_1 11 rfl rfl)
abbrev cX4_takes : ByteArray := prog_11_method_14_code
def yX4_takes : MethodName := ⟨RX4, "takes", "(II)I"⟩
def dkwX4_takes_2 : List UInt8 := [154, 0, 7, 42, 182, 0, 134, 29, 172]
abbrev dktX4_takes_2 : List UInt8 := dkwX4_takes_2 ++ []
def dkwX4_takes_1 : List UInt8 := [28, 133, 184, 0, 141, 154, 0, 8, 42, 6, 182, 0, 137, 42, 180, 0, 120, 62, 42, 180, 0, 125]
abbrev dktX4_takes_1 : List UInt8 := dkwX4_takes_1 ++ dktX4_takes_2
def dkwX4_takes_0 : List UInt8 := [42, 16, 23, 182, 0, 131, 154, 0, 11, 42, 5, 182, 0, 137, 167, 0, 23, 42, 180, 0, 120, 133, 27, 133]
abbrev dktX4_takes_0 : List UInt8 := dkwX4_takes_0 ++ dktX4_takes_1
theorem dksX4_takes_0 : cX4_takes.data.toList.drop 0 = dktX4_takes_0 := by decide +kernel
theorem dksX4_takes_1 : cX4_takes.data.toList.drop 24 = dktX4_takes_1 := dk_seg dksX4_takes_0 24 rfl rfl
theorem dksX4_takes_2 : cX4_takes.data.toList.drop 46 = dktX4_takes_2 := dk_seg dksX4_takes_1 22 rfl rfl
theorem dX4_takes_0 : decode cX4_takes 0 = .ok (.aload_n 0, 1) := dk_42 (dk_at dksX4_takes_0 0 rfl rfl)
theorem dX4_takes_1 : decode cX4_takes 1 = .ok (.bipush 23, 2) := dk_16 23 (dk_at dksX4_takes_0 1 rfl rfl)
theorem dX4_takes_3 : decode cX4_takes 3 = .ok (.invokevirtual 131, 3) := dk_182 0 131 (dk_at dksX4_takes_0 3 rfl rfl)
theorem dX4_takes_6 : decode cX4_takes 6 = .ok (.ifCond .ne 11, 3) := dk_154 0 11 (dk_at dksX4_takes_0 6 rfl rfl)
theorem dX4_takes_9 : decode cX4_takes 9 = .ok (.aload_n 0, 1) := dk_42 (dk_at dksX4_takes_0 9 rfl rfl)
theorem dX4_takes_10 : decode cX4_takes 10 = .ok (.iconst 2, 1) := dk_5 (dk_at dksX4_takes_0 10 rfl rfl)
theorem dX4_takes_11 : decode cX4_takes 11 = .ok (.invokevirtual 137, 3) := dk_182 0 137 (dk_at dksX4_takes_0 11 rfl rfl)
theorem dX4_takes_14 : decode cX4_takes 14 = .ok (.goto 23, 3) := dk_167 0 23 (dk_at dksX4_takes_0 14 rfl rfl)
theorem dX4_takes_17 : decode cX4_takes 17 = .ok (.aload_n 0, 1) := dk_42 (dk_at dksX4_takes_0 17 rfl rfl)
theorem dX4_takes_18 : decode cX4_takes 18 = .ok (.getfield 120, 3) := dk_180 0 120 (dk_at dksX4_takes_0 18 rfl rfl)
theorem dX4_takes_21 : decode cX4_takes 21 = .ok (.i2l, 1) := dk_133 (dk_at dksX4_takes_0 21 rfl rfl)
theorem dX4_takes_22 : decode cX4_takes 22 = .ok (.iload_n 1, 1) := dk_27 (dk_at dksX4_takes_0 22 rfl rfl)
theorem dX4_takes_23 : decode cX4_takes 23 = .ok (.i2l, 1) := dk_133 (dk_at dksX4_takes_0 23 rfl rfl)
theorem dX4_takes_24 : decode cX4_takes 24 = .ok (.iload_n 2, 1) := dk_28 (dk_at dksX4_takes_1 0 rfl rfl)
theorem dX4_takes_25 : decode cX4_takes 25 = .ok (.i2l, 1) := dk_133 (dk_at dksX4_takes_1 1 rfl rfl)
theorem dX4_takes_26 : decode cX4_takes 26 = .ok (.invokestatic 141, 3) := dk_184 0 141 (dk_at dksX4_takes_1 2 rfl rfl)
theorem dX4_takes_29 : decode cX4_takes 29 = .ok (.ifCond .ne 8, 3) := dk_154 0 8 (dk_at dksX4_takes_1 5 rfl rfl)
theorem dX4_takes_32 : decode cX4_takes 32 = .ok (.aload_n 0, 1) := dk_42 (dk_at dksX4_takes_1 8 rfl rfl)
theorem dX4_takes_33 : decode cX4_takes 33 = .ok (.iconst 3, 1) := dk_6 (dk_at dksX4_takes_1 9 rfl rfl)
theorem dX4_takes_34 : decode cX4_takes 34 = .ok (.invokevirtual 137, 3) := dk_182 0 137 (dk_at dksX4_takes_1 10 rfl rfl)
theorem dX4_takes_37 : decode cX4_takes 37 = .ok (.aload_n 0, 1) := dk_42 (dk_at dksX4_takes_1 13 rfl rfl)
theorem dX4_takes_38 : decode cX4_takes 38 = .ok (.getfield 120, 3) := dk_180 0 120 (dk_at dksX4_takes_1 14 rfl rfl)
theorem dX4_takes_41 : decode cX4_takes 41 = .ok (.istore_n 3, 1) := dk_62 (dk_at dksX4_takes_1 17 rfl rfl)
theorem dX4_takes_42 : decode cX4_takes 42 = .ok (.aload_n 0, 1) := dk_42 (dk_at dksX4_takes_1 18 rfl rfl)
theorem dX4_takes_43 : decode cX4_takes 43 = .ok (.getfield 125, 3) := dk_180 0 125 (dk_at dksX4_takes_1 19 rfl rfl)
theorem dX4_takes_46 : decode cX4_takes 46 = .ok (.ifCond .ne 7, 3) := dk_154 0 7 (dk_at dksX4_takes_2 0 rfl rfl)
theorem dX4_takes_49 : decode cX4_takes 49 = .ok (.aload_n 0, 1) := dk_42 (dk_at dksX4_takes_2 3 rfl rfl)
theorem dX4_takes_50 : decode cX4_takes 50 = .ok (.invokevirtual 134, 3) := dk_182 0 134 (dk_at dksX4_takes_2 4 rfl rfl)
theorem dX4_takes_53 : decode cX4_takes 53 = .ok (.iload_n 3, 1) := dk_29 (dk_at dksX4_takes_2 7 rfl rfl)
theorem dX4_takes_54 : decode cX4_takes 54 = .ok (.ireturn, 1) := dk_172 (dk_at dksX4_takes_2 8 rfl rfl)
abbrev cX4_is : ByteArray := prog_11_method_12_code
def yX4_is : MethodName := ⟨RX4, "is", "(I)Z"⟩
def dkwX4_is_0 : List UInt8 := [42, 180, 0, 125, 154, 0, 15, 42, 180, 0, 107, 27, 160, 0, 7, 4, 167, 0, 4, 3, 172]
abbrev dktX4_is_0 : List UInt8 := dkwX4_is_0 ++ []
theorem dksX4_is_0 : cX4_is.data.toList.drop 0 = dktX4_is_0 := by decide +kernel
theorem dX4_is_0 : decode cX4_is 0 = .ok (.aload_n 0, 1) := dk_42 (dk_at dksX4_is_0 0 rfl rfl)
theorem dX4_is_1 : decode cX4_is 1 = .ok (.getfield 125, 3) := dk_180 0 125 (dk_at dksX4_is_0 1 rfl rfl)
theorem dX4_is_4 : decode cX4_is 4 = .ok (.ifCond .ne 15, 3) := dk_154 0 15 (dk_at dksX4_is_0 4 rfl rfl)
theorem dX4_is_7 : decode cX4_is 7 = .ok (.aload_n 0, 1) := dk_42 (dk_at dksX4_is_0 7 rfl rfl)
theorem dX4_is_8 : decode cX4_is 8 = .ok (.getfield 107, 3) := dk_180 0 107 (dk_at dksX4_is_0 8 rfl rfl)
theorem dX4_is_11 : decode cX4_is 11 = .ok (.iload_n 1, 1) := dk_27 (dk_at dksX4_is_0 11 rfl rfl)
theorem dX4_is_12 : decode cX4_is 12 = .ok (.if_icmp .ne 7, 3) := dk_160 0 7 (dk_at dksX4_is_0 12 rfl rfl)
theorem dX4_is_15 : decode cX4_is 15 = .ok (.iconst 1, 1) := dk_4 (dk_at dksX4_is_0 15 rfl rfl)
theorem dX4_is_16 : decode cX4_is 16 = .ok (.goto 4, 3) := dk_167 0 4 (dk_at dksX4_is_0 16 rfl rfl)
theorem dX4_is_19 : decode cX4_is 19 = .ok (.iconst 0, 1) := dk_3 (dk_at dksX4_is_0 19 rfl rfl)
theorem dX4_is_20 : decode cX4_is 20 = .ok (.ireturn, 1) := dk_172 (dk_at dksX4_is_0 20 rfl rfl)
abbrev cX4_readTenant : ByteArray := prog_11_method_24_code
def yX4_readTenant : MethodName := ⟨RX4, "readTenant", "()V"⟩
def dkwX4_readTenant_5 : List UInt8 := [154, 0, 13, 42, 180, 0, 24, 4, 92, 46, 4, 96, 79, 177]
abbrev dktX4_readTenant_5 : List UInt8 := dkwX4_readTenant_5 ++ []
def dkwX4_readTenant_4 : List UInt8 := [42, 180, 0, 24, 16, 14, 27, 96, 42, 3, 16, 99, 182, 0, 169, 79, 167, 255, 193, 42, 180, 0, 125]
abbrev dktX4_readTenant_4 : List UInt8 := dkwX4_readTenant_4 ++ dktX4_readTenant_5
def dkwX4_readTenant_3 : List UInt8 := [42, 5, 182, 0, 160, 153, 0, 11, 42, 27, 182, 0, 173, 167, 255, 220, 42, 6, 182, 0, 160, 153, 255, 212]
abbrev dktX4_readTenant_3 : List UInt8 := dkwX4_readTenant_3 ++ dktX4_readTenant_4
def dkwX4_readTenant_2 : List UInt8 := [79, 42, 180, 0, 125, 154, 0, 62, 42, 5, 182, 0, 131, 154, 0, 11, 42, 6, 182, 0, 131, 153, 0, 46]
abbrev dktX4_readTenant_2 : List UInt8 := dkwX4_readTenant_2 ++ dktX4_readTenant_3
def dkwX4_readTenant_1 : List UInt8 := [153, 0, 4, 177, 42, 182, 0, 134, 42, 180, 0, 24, 16, 29, 27, 96, 42, 3, 17, 3, 231, 182, 0, 169]
abbrev dktX4_readTenant_1 : List UInt8 := dkwX4_readTenant_1 ++ dktX4_readTenant_2
def dkwX4_readTenant_0 : List UInt8 := [42, 180, 0, 24, 4, 46, 60, 27, 16, 6, 160, 0, 8, 42, 7, 182, 0, 137, 42, 180, 0, 125]
abbrev dktX4_readTenant_0 : List UInt8 := dkwX4_readTenant_0 ++ dktX4_readTenant_1
theorem dksX4_readTenant_0 : cX4_readTenant.data.toList.drop 0 = dktX4_readTenant_0 := by decide +kernel
theorem dksX4_readTenant_1 : cX4_readTenant.data.toList.drop 22 = dktX4_readTenant_1 := dk_seg dksX4_readTenant_0 22 rfl rfl
theorem dksX4_readTenant_2 : cX4_readTenant.data.toList.drop 46 = dktX4_readTenant_2 := dk_seg dksX4_readTenant_1 24 rfl rfl
theorem dksX4_readTenant_3 : cX4_readTenant.data.toList.drop 70 = dktX4_readTenant_3 := dk_seg dksX4_readTenant_2 24 rfl rfl
theorem dksX4_readTenant_4 : cX4_readTenant.data.toList.drop 94 = dktX4_readTenant_4 := dk_seg dksX4_readTenant_3 24 rfl rfl
theorem dksX4_readTenant_5 : cX4_readTenant.data.toList.drop 117 = dktX4_readTenant_5 := dk_seg dksX4_readTenant_4 23 rfl rfl
theorem dX4_readTenant_0 : decode cX4_readTenant 0 = .ok (.aload_n 0, 1) := dk_42 (dk_at dksX4_readTenant_0 0 rfl rfl)
theorem dX4_readTenant_1 : decode cX4_readTenant 1 = .ok (.getfield 24, 3) := dk_180 0 24 (dk_at dksX4_readTenant_0 1 rfl rfl)
theorem dX4_readTenant_4 : decode cX4_readTenant 4 = .ok (.iconst 1, 1) := dk_4 (dk_at dksX4_readTenant_0 4 rfl rfl)
theorem dX4_readTenant_5 : decode cX4_readTenant 5 = .ok (.iaload, 1) := dk_46 (dk_at dksX4_readTenant_0 5 rfl rfl)
theorem dX4_readTenant_6 : decode cX4_readTenant 6 = .ok (.istore_n 1, 1) := dk_60 (dk_at dksX4_readTenant_0 6 rfl rfl)
theorem dX4_readTenant_7 : decode cX4_readTenant 7 = .ok (.iload_n 1, 1) := dk_27 (dk_at dksX4_readTenant_0 7 rfl rfl)
theorem dX4_readTenant_8 : decode cX4_readTenant 8 = .ok (.bipush 6, 2) := dk_16 6 (dk_at dksX4_readTenant_0 8 rfl rfl)
theorem dX4_readTenant_10 : decode cX4_readTenant 10 = .ok (.if_icmp .ne 8, 3) := dk_160 0 8 (dk_at dksX4_readTenant_0 10 rfl rfl)
theorem dX4_readTenant_13 : decode cX4_readTenant 13 = .ok (.aload_n 0, 1) := dk_42 (dk_at dksX4_readTenant_0 13 rfl rfl)
theorem dX4_readTenant_14 : decode cX4_readTenant 14 = .ok (.iconst 4, 1) := dk_7 (dk_at dksX4_readTenant_0 14 rfl rfl)
theorem dX4_readTenant_15 : decode cX4_readTenant 15 = .ok (.invokevirtual 137, 3) := dk_182 0 137 (dk_at dksX4_readTenant_0 15 rfl rfl)
theorem dX4_readTenant_18 : decode cX4_readTenant 18 = .ok (.aload_n 0, 1) := dk_42 (dk_at dksX4_readTenant_0 18 rfl rfl)
theorem dX4_readTenant_19 : decode cX4_readTenant 19 = .ok (.getfield 125, 3) := dk_180 0 125 (dk_at dksX4_readTenant_0 19 rfl rfl)
theorem dX4_readTenant_22 : decode cX4_readTenant 22 = .ok (.ifCond .eq 4, 3) := dk_153 0 4 (dk_at dksX4_readTenant_1 0 rfl rfl)
theorem dX4_readTenant_25 : decode cX4_readTenant 25 = .ok (.return_, 1) := dk_177 (dk_at dksX4_readTenant_1 3 rfl rfl)
theorem dX4_readTenant_26 : decode cX4_readTenant 26 = .ok (.aload_n 0, 1) := dk_42 (dk_at dksX4_readTenant_1 4 rfl rfl)
theorem dX4_readTenant_27 : decode cX4_readTenant 27 = .ok (.invokevirtual 134, 3) := dk_182 0 134 (dk_at dksX4_readTenant_1 5 rfl rfl)
theorem dX4_readTenant_30 : decode cX4_readTenant 30 = .ok (.aload_n 0, 1) := dk_42 (dk_at dksX4_readTenant_1 8 rfl rfl)
theorem dX4_readTenant_31 : decode cX4_readTenant 31 = .ok (.getfield 24, 3) := dk_180 0 24 (dk_at dksX4_readTenant_1 9 rfl rfl)
theorem dX4_readTenant_34 : decode cX4_readTenant 34 = .ok (.bipush 29, 2) := dk_16 29 (dk_at dksX4_readTenant_1 12 rfl rfl)
theorem dX4_readTenant_36 : decode cX4_readTenant 36 = .ok (.iload_n 1, 1) := dk_27 (dk_at dksX4_readTenant_1 14 rfl rfl)
theorem dX4_readTenant_37 : decode cX4_readTenant 37 = .ok (.iadd, 1) := dk_96 (dk_at dksX4_readTenant_1 15 rfl rfl)
theorem dX4_readTenant_38 : decode cX4_readTenant 38 = .ok (.aload_n 0, 1) := dk_42 (dk_at dksX4_readTenant_1 16 rfl rfl)
theorem dX4_readTenant_39 : decode cX4_readTenant 39 = .ok (.iconst 0, 1) := dk_3 (dk_at dksX4_readTenant_1 17 rfl rfl)
theorem dX4_readTenant_40 : decode cX4_readTenant 40 = .ok (.sipush 999, 3) := dk_17 3 231 (dk_at dksX4_readTenant_1 18 rfl rfl)
theorem dX4_readTenant_43 : decode cX4_readTenant 43 = .ok (.invokevirtual 169, 3) := dk_182 0 169 (dk_at dksX4_readTenant_1 21 rfl rfl)
theorem dX4_readTenant_46 : decode cX4_readTenant 46 = .ok (.iastore, 1) := dk_79 (dk_at dksX4_readTenant_2 0 rfl rfl)
theorem dX4_readTenant_47 : decode cX4_readTenant 47 = .ok (.aload_n 0, 1) := dk_42 (dk_at dksX4_readTenant_2 1 rfl rfl)
theorem dX4_readTenant_48 : decode cX4_readTenant 48 = .ok (.getfield 125, 3) := dk_180 0 125 (dk_at dksX4_readTenant_2 2 rfl rfl)
theorem dX4_readTenant_51 : decode cX4_readTenant 51 = .ok (.ifCond .ne 62, 3) := dk_154 0 62 (dk_at dksX4_readTenant_2 5 rfl rfl)
theorem dX4_readTenant_54 : decode cX4_readTenant 54 = .ok (.aload_n 0, 1) := dk_42 (dk_at dksX4_readTenant_2 8 rfl rfl)
theorem dX4_readTenant_55 : decode cX4_readTenant 55 = .ok (.iconst 2, 1) := dk_5 (dk_at dksX4_readTenant_2 9 rfl rfl)
theorem dX4_readTenant_56 : decode cX4_readTenant 56 = .ok (.invokevirtual 131, 3) := dk_182 0 131 (dk_at dksX4_readTenant_2 10 rfl rfl)
theorem dX4_readTenant_59 : decode cX4_readTenant 59 = .ok (.ifCond .ne 11, 3) := dk_154 0 11 (dk_at dksX4_readTenant_2 13 rfl rfl)
theorem dX4_readTenant_62 : decode cX4_readTenant 62 = .ok (.aload_n 0, 1) := dk_42 (dk_at dksX4_readTenant_2 16 rfl rfl)
theorem dX4_readTenant_63 : decode cX4_readTenant 63 = .ok (.iconst 3, 1) := dk_6 (dk_at dksX4_readTenant_2 17 rfl rfl)
theorem dX4_readTenant_64 : decode cX4_readTenant 64 = .ok (.invokevirtual 131, 3) := dk_182 0 131 (dk_at dksX4_readTenant_2 18 rfl rfl)
theorem dX4_readTenant_67 : decode cX4_readTenant 67 = .ok (.ifCond .eq 46, 3) := dk_153 0 46 (dk_at dksX4_readTenant_2 21 rfl rfl)
theorem dX4_readTenant_70 : decode cX4_readTenant 70 = .ok (.aload_n 0, 1) := dk_42 (dk_at dksX4_readTenant_3 0 rfl rfl)
theorem dX4_readTenant_71 : decode cX4_readTenant 71 = .ok (.iconst 2, 1) := dk_5 (dk_at dksX4_readTenant_3 1 rfl rfl)
theorem dX4_readTenant_72 : decode cX4_readTenant 72 = .ok (.invokevirtual 160, 3) := dk_182 0 160 (dk_at dksX4_readTenant_3 2 rfl rfl)
theorem dX4_readTenant_75 : decode cX4_readTenant 75 = .ok (.ifCond .eq 11, 3) := dk_153 0 11 (dk_at dksX4_readTenant_3 5 rfl rfl)
theorem dX4_readTenant_78 : decode cX4_readTenant 78 = .ok (.aload_n 0, 1) := dk_42 (dk_at dksX4_readTenant_3 8 rfl rfl)
theorem dX4_readTenant_79 : decode cX4_readTenant 79 = .ok (.iload_n 1, 1) := dk_27 (dk_at dksX4_readTenant_3 9 rfl rfl)
theorem dX4_readTenant_80 : decode cX4_readTenant 80 = .ok (.invokevirtual 173, 3) := dk_182 0 173 (dk_at dksX4_readTenant_3 10 rfl rfl)
theorem dX4_readTenant_83 : decode cX4_readTenant 83 = .ok (.goto (-36), 3) := dk_167 255 220 (dk_at dksX4_readTenant_3 13 rfl rfl)
theorem dX4_readTenant_86 : decode cX4_readTenant 86 = .ok (.aload_n 0, 1) := dk_42 (dk_at dksX4_readTenant_3 16 rfl rfl)
theorem dX4_readTenant_87 : decode cX4_readTenant 87 = .ok (.iconst 3, 1) := dk_6 (dk_at dksX4_readTenant_3 17 rfl rfl)
theorem dX4_readTenant_88 : decode cX4_readTenant 88 = .ok (.invokevirtual 160, 3) := dk_182 0 160 (dk_at dksX4_readTenant_3 18 rfl rfl)
theorem dX4_readTenant_91 : decode cX4_readTenant 91 = .ok (.ifCond .eq (-44), 3) := dk_153 255 212 (dk_at dksX4_readTenant_3 21 rfl rfl)
theorem dX4_readTenant_94 : decode cX4_readTenant 94 = .ok (.aload_n 0, 1) := dk_42 (dk_at dksX4_readTenant_4 0 rfl rfl)
theorem dX4_readTenant_95 : decode cX4_readTenant 95 = .ok (.getfield 24, 3) := dk_180 0 24 (dk_at dksX4_readTenant_4 1 rfl rfl)
theorem dX4_readTenant_98 : decode cX4_readTenant 98 = .ok (.bipush 14, 2) := dk_16 14 (dk_at dksX4_readTenant_4 4 rfl rfl)
theorem dX4_readTenant_100 : decode cX4_readTenant 100 = .ok (.iload_n 1, 1) := dk_27 (dk_at dksX4_readTenant_4 6 rfl rfl)
theorem dX4_readTenant_101 : decode cX4_readTenant 101 = .ok (.iadd, 1) := dk_96 (dk_at dksX4_readTenant_4 7 rfl rfl)
theorem dX4_readTenant_102 : decode cX4_readTenant 102 = .ok (.aload_n 0, 1) := dk_42 (dk_at dksX4_readTenant_4 8 rfl rfl)
theorem dX4_readTenant_103 : decode cX4_readTenant 103 = .ok (.iconst 0, 1) := dk_3 (dk_at dksX4_readTenant_4 9 rfl rfl)
theorem dX4_readTenant_104 : decode cX4_readTenant 104 = .ok (.bipush 99, 2) := dk_16 99 (dk_at dksX4_readTenant_4 10 rfl rfl)
theorem dX4_readTenant_106 : decode cX4_readTenant 106 = .ok (.invokevirtual 169, 3) := dk_182 0 169 (dk_at dksX4_readTenant_4 12 rfl rfl)
theorem dX4_readTenant_109 : decode cX4_readTenant 109 = .ok (.iastore, 1) := dk_79 (dk_at dksX4_readTenant_4 15 rfl rfl)
theorem dX4_readTenant_110 : decode cX4_readTenant 110 = .ok (.goto (-63), 3) := dk_167 255 193 (dk_at dksX4_readTenant_4 16 rfl rfl)
theorem dX4_readTenant_113 : decode cX4_readTenant 113 = .ok (.aload_n 0, 1) := dk_42 (dk_at dksX4_readTenant_4 19 rfl rfl)
theorem dX4_readTenant_114 : decode cX4_readTenant 114 = .ok (.getfield 125, 3) := dk_180 0 125 (dk_at dksX4_readTenant_4 20 rfl rfl)
theorem dX4_readTenant_117 : decode cX4_readTenant 117 = .ok (.ifCond .ne 13, 3) := dk_154 0 13 (dk_at dksX4_readTenant_5 0 rfl rfl)
theorem dX4_readTenant_120 : decode cX4_readTenant 120 = .ok (.aload_n 0, 1) := dk_42 (dk_at dksX4_readTenant_5 3 rfl rfl)
theorem dX4_readTenant_121 : decode cX4_readTenant 121 = .ok (.getfield 24, 3) := dk_180 0 24 (dk_at dksX4_readTenant_5 4 rfl rfl)
theorem dX4_readTenant_124 : decode cX4_readTenant 124 = .ok (.iconst 1, 1) := dk_4 (dk_at dksX4_readTenant_5 7 rfl rfl)
theorem dX4_readTenant_125 : decode cX4_readTenant 125 = .ok (.dup2, 1) := dk_92 (dk_at dksX4_readTenant_5 8 rfl rfl)
theorem dX4_readTenant_126 : decode cX4_readTenant 126 = .ok (.iaload, 1) := dk_46 (dk_at dksX4_readTenant_5 9 rfl rfl)
theorem dX4_readTenant_127 : decode cX4_readTenant 127 = .ok (.iconst 1, 1) := dk_4 (dk_at dksX4_readTenant_5 10 rfl rfl)
theorem dX4_readTenant_128 : decode cX4_readTenant 128 = .ok (.iadd, 1) := dk_96 (dk_at dksX4_readTenant_5 11 rfl rfl)
theorem dX4_readTenant_129 : decode cX4_readTenant 129 = .ok (.iastore, 1) := dk_79 (dk_at dksX4_readTenant_5 12 rfl rfl)
theorem dX4_readTenant_130 : decode cX4_readTenant 130 = .ok (.return_, 1) := dk_177 (dk_at dksX4_readTenant_5 13 rfl rfl)
abbrev cX4_eats : ByteArray := prog_11_method_13_code
def yX4_eats : MethodName := ⟨RX4, "eats", "(I)Z"⟩
def dkwX4_eats_0 : List UInt8 := [42, 27, 182, 0, 131, 154, 0, 5, 3, 172, 42, 182, 0, 134, 4, 172]
abbrev dktX4_eats_0 : List UInt8 := dkwX4_eats_0 ++ []
theorem dksX4_eats_0 : cX4_eats.data.toList.drop 0 = dktX4_eats_0 := by decide +kernel
theorem dX4_eats_0 : decode cX4_eats 0 = .ok (.aload_n 0, 1) := dk_42 (dk_at dksX4_eats_0 0 rfl rfl)
theorem dX4_eats_1 : decode cX4_eats 1 = .ok (.iload_n 1, 1) := dk_27 (dk_at dksX4_eats_0 1 rfl rfl)
theorem dX4_eats_2 : decode cX4_eats 2 = .ok (.invokevirtual 131, 3) := dk_182 0 131 (dk_at dksX4_eats_0 2 rfl rfl)
theorem dX4_eats_5 : decode cX4_eats 5 = .ok (.ifCond .ne 5, 3) := dk_154 0 5 (dk_at dksX4_eats_0 5 rfl rfl)
theorem dX4_eats_8 : decode cX4_eats 8 = .ok (.iconst 0, 1) := dk_3 (dk_at dksX4_eats_0 8 rfl rfl)
theorem dX4_eats_9 : decode cX4_eats 9 = .ok (.ireturn, 1) := dk_172 (dk_at dksX4_eats_0 9 rfl rfl)
theorem dX4_eats_10 : decode cX4_eats 10 = .ok (.aload_n 0, 1) := dk_42 (dk_at dksX4_eats_0 10 rfl rfl)
theorem dX4_eats_11 : decode cX4_eats 11 = .ok (.invokevirtual 134, 3) := dk_182 0 134 (dk_at dksX4_eats_0 11 rfl rfl)
theorem dX4_eats_14 : decode cX4_eats 14 = .ok (.iconst 1, 1) := dk_4 (dk_at dksX4_eats_0 14 rfl rfl)
theorem dX4_eats_15 : decode cX4_eats 15 = .ok (.ireturn, 1) := dk_172 (dk_at dksX4_eats_0 15 rfl rfl)
abbrev cX4_readOn : ByteArray := prog_11_method_23_code
def yX4_readOn : MethodName := ⟨RX4, "readOn", "(I)V"⟩
def dkwX4_readOn_3 : List UInt8 := [154, 0, 13, 42, 180, 0, 24, 16, 35, 27, 96, 28, 79, 177]
abbrev dktX4_readOn_3 : List UInt8 := dkwX4_readOn_3 ++ []
def dkwX4_readOn_2 : List UInt8 := [167, 255, 211, 42, 3, 42, 180, 0, 24, 16, 20, 46, 4, 100, 182, 0, 169, 61, 42, 180, 0, 125]
abbrev dktX4_readOn_2 : List UInt8 := dkwX4_readOn_2 ++ dktX4_readOn_3
def dkwX4_readOn_1 : List UInt8 := [180, 0, 24, 16, 35, 28, 96, 46, 42, 180, 0, 120, 160, 0, 8, 42, 6, 182, 0, 137, 132, 2, 1]
abbrev dktX4_readOn_1 : List UInt8 := dkwX4_readOn_1 ++ dktX4_readOn_2
def dkwX4_readOn_0 : List UInt8 := [3, 61, 28, 27, 162, 0, 46, 42, 180, 0, 125, 154, 0, 39, 42, 16, 23, 182, 0, 131, 153, 0, 30, 42]
abbrev dktX4_readOn_0 : List UInt8 := dkwX4_readOn_0 ++ dktX4_readOn_1
theorem dksX4_readOn_0 : cX4_readOn.data.toList.drop 0 = dktX4_readOn_0 := by decide +kernel
theorem dksX4_readOn_1 : cX4_readOn.data.toList.drop 24 = dktX4_readOn_1 := dk_seg dksX4_readOn_0 24 rfl rfl
theorem dksX4_readOn_2 : cX4_readOn.data.toList.drop 47 = dktX4_readOn_2 := dk_seg dksX4_readOn_1 23 rfl rfl
theorem dksX4_readOn_3 : cX4_readOn.data.toList.drop 69 = dktX4_readOn_3 := dk_seg dksX4_readOn_2 22 rfl rfl
theorem dX4_readOn_0 : decode cX4_readOn 0 = .ok (.iconst 0, 1) := dk_3 (dk_at dksX4_readOn_0 0 rfl rfl)
theorem dX4_readOn_1 : decode cX4_readOn 1 = .ok (.istore_n 2, 1) := dk_61 (dk_at dksX4_readOn_0 1 rfl rfl)
theorem dX4_readOn_2 : decode cX4_readOn 2 = .ok (.iload_n 2, 1) := dk_28 (dk_at dksX4_readOn_0 2 rfl rfl)
theorem dX4_readOn_3 : decode cX4_readOn 3 = .ok (.iload_n 1, 1) := dk_27 (dk_at dksX4_readOn_0 3 rfl rfl)
theorem dX4_readOn_4 : decode cX4_readOn 4 = .ok (.if_icmp .ge 46, 3) := dk_162 0 46 (dk_at dksX4_readOn_0 4 rfl rfl)
theorem dX4_readOn_7 : decode cX4_readOn 7 = .ok (.aload_n 0, 1) := dk_42 (dk_at dksX4_readOn_0 7 rfl rfl)
theorem dX4_readOn_8 : decode cX4_readOn 8 = .ok (.getfield 125, 3) := dk_180 0 125 (dk_at dksX4_readOn_0 8 rfl rfl)
theorem dX4_readOn_11 : decode cX4_readOn 11 = .ok (.ifCond .ne 39, 3) := dk_154 0 39 (dk_at dksX4_readOn_0 11 rfl rfl)
theorem dX4_readOn_14 : decode cX4_readOn 14 = .ok (.aload_n 0, 1) := dk_42 (dk_at dksX4_readOn_0 14 rfl rfl)
theorem dX4_readOn_15 : decode cX4_readOn 15 = .ok (.bipush 23, 2) := dk_16 23 (dk_at dksX4_readOn_0 15 rfl rfl)
theorem dX4_readOn_17 : decode cX4_readOn 17 = .ok (.invokevirtual 131, 3) := dk_182 0 131 (dk_at dksX4_readOn_0 17 rfl rfl)
theorem dX4_readOn_20 : decode cX4_readOn 20 = .ok (.ifCond .eq 30, 3) := dk_153 0 30 (dk_at dksX4_readOn_0 20 rfl rfl)
theorem dX4_readOn_23 : decode cX4_readOn 23 = .ok (.aload_n 0, 1) := dk_42 (dk_at dksX4_readOn_0 23 rfl rfl)
theorem dX4_readOn_24 : decode cX4_readOn 24 = .ok (.getfield 24, 3) := dk_180 0 24 (dk_at dksX4_readOn_1 0 rfl rfl)
theorem dX4_readOn_27 : decode cX4_readOn 27 = .ok (.bipush 35, 2) := dk_16 35 (dk_at dksX4_readOn_1 3 rfl rfl)
theorem dX4_readOn_29 : decode cX4_readOn 29 = .ok (.iload_n 2, 1) := dk_28 (dk_at dksX4_readOn_1 5 rfl rfl)
theorem dX4_readOn_30 : decode cX4_readOn 30 = .ok (.iadd, 1) := dk_96 (dk_at dksX4_readOn_1 6 rfl rfl)
theorem dX4_readOn_31 : decode cX4_readOn 31 = .ok (.iaload, 1) := dk_46 (dk_at dksX4_readOn_1 7 rfl rfl)
theorem dX4_readOn_32 : decode cX4_readOn 32 = .ok (.aload_n 0, 1) := dk_42 (dk_at dksX4_readOn_1 8 rfl rfl)
theorem dX4_readOn_33 : decode cX4_readOn 33 = .ok (.getfield 120, 3) := dk_180 0 120 (dk_at dksX4_readOn_1 9 rfl rfl)
theorem dX4_readOn_36 : decode cX4_readOn 36 = .ok (.if_icmp .ne 8, 3) := dk_160 0 8 (dk_at dksX4_readOn_1 12 rfl rfl)
theorem dX4_readOn_39 : decode cX4_readOn 39 = .ok (.aload_n 0, 1) := dk_42 (dk_at dksX4_readOn_1 15 rfl rfl)
theorem dX4_readOn_40 : decode cX4_readOn 40 = .ok (.iconst 3, 1) := dk_6 (dk_at dksX4_readOn_1 16 rfl rfl)
theorem dX4_readOn_41 : decode cX4_readOn 41 = .ok (.invokevirtual 137, 3) := dk_182 0 137 (dk_at dksX4_readOn_1 17 rfl rfl)
theorem dX4_readOn_44 : decode cX4_readOn 44 = .ok (.iinc 2 1, 3) := dk_132 2 1 (dk_at dksX4_readOn_1 20 rfl rfl)
theorem dX4_readOn_47 : decode cX4_readOn 47 = .ok (.goto (-45), 3) := dk_167 255 211 (dk_at dksX4_readOn_2 0 rfl rfl)
theorem dX4_readOn_50 : decode cX4_readOn 50 = .ok (.aload_n 0, 1) := dk_42 (dk_at dksX4_readOn_2 3 rfl rfl)
theorem dX4_readOn_51 : decode cX4_readOn 51 = .ok (.iconst 0, 1) := dk_3 (dk_at dksX4_readOn_2 4 rfl rfl)
theorem dX4_readOn_52 : decode cX4_readOn 52 = .ok (.aload_n 0, 1) := dk_42 (dk_at dksX4_readOn_2 5 rfl rfl)
theorem dX4_readOn_53 : decode cX4_readOn 53 = .ok (.getfield 24, 3) := dk_180 0 24 (dk_at dksX4_readOn_2 6 rfl rfl)
theorem dX4_readOn_56 : decode cX4_readOn 56 = .ok (.bipush 20, 2) := dk_16 20 (dk_at dksX4_readOn_2 9 rfl rfl)
theorem dX4_readOn_58 : decode cX4_readOn 58 = .ok (.iaload, 1) := dk_46 (dk_at dksX4_readOn_2 11 rfl rfl)
theorem dX4_readOn_59 : decode cX4_readOn 59 = .ok (.iconst 1, 1) := dk_4 (dk_at dksX4_readOn_2 12 rfl rfl)
theorem dX4_readOn_60 : decode cX4_readOn 60 = .ok (.isub, 1) := dk_100 (dk_at dksX4_readOn_2 13 rfl rfl)
theorem dX4_readOn_61 : decode cX4_readOn 61 = .ok (.invokevirtual 169, 3) := dk_182 0 169 (dk_at dksX4_readOn_2 14 rfl rfl)
theorem dX4_readOn_64 : decode cX4_readOn 64 = .ok (.istore_n 2, 1) := dk_61 (dk_at dksX4_readOn_2 17 rfl rfl)
theorem dX4_readOn_65 : decode cX4_readOn 65 = .ok (.aload_n 0, 1) := dk_42 (dk_at dksX4_readOn_2 18 rfl rfl)
theorem dX4_readOn_66 : decode cX4_readOn 66 = .ok (.getfield 125, 3) := dk_180 0 125 (dk_at dksX4_readOn_2 19 rfl rfl)
theorem dX4_readOn_69 : decode cX4_readOn 69 = .ok (.ifCond .ne 13, 3) := dk_154 0 13 (dk_at dksX4_readOn_3 0 rfl rfl)
theorem dX4_readOn_72 : decode cX4_readOn 72 = .ok (.aload_n 0, 1) := dk_42 (dk_at dksX4_readOn_3 3 rfl rfl)
theorem dX4_readOn_73 : decode cX4_readOn 73 = .ok (.getfield 24, 3) := dk_180 0 24 (dk_at dksX4_readOn_3 4 rfl rfl)
theorem dX4_readOn_76 : decode cX4_readOn 76 = .ok (.bipush 35, 2) := dk_16 35 (dk_at dksX4_readOn_3 7 rfl rfl)
theorem dX4_readOn_78 : decode cX4_readOn 78 = .ok (.iload_n 1, 1) := dk_27 (dk_at dksX4_readOn_3 9 rfl rfl)
theorem dX4_readOn_79 : decode cX4_readOn 79 = .ok (.iadd, 1) := dk_96 (dk_at dksX4_readOn_3 10 rfl rfl)
theorem dX4_readOn_80 : decode cX4_readOn 80 = .ok (.iload_n 2, 1) := dk_28 (dk_at dksX4_readOn_3 11 rfl rfl)
theorem dX4_readOn_81 : decode cX4_readOn 81 = .ok (.iastore, 1) := dk_79 (dk_at dksX4_readOn_3 12 rfl rfl)
theorem dX4_readOn_82 : decode cX4_readOn 82 = .ok (.return_, 1) := dk_177 (dk_at dksX4_readOn_3 13 rfl rfl)
abbrev cX4_readLaw : ByteArray := prog_11_method_25_code
def yX4_readLaw : MethodName := ⟨RX4, "readLaw", "(I)V"⟩
def dkwX4_readLaw_3 : List UInt8 := [27, 96, 42, 180, 0, 24, 17, 1, 41, 46, 28, 100, 79, 177]
abbrev dktX4_readLaw_3 : List UInt8 := dkwX4_readLaw_3 ++ []
def dkwX4_readLaw_2 : List UInt8 := [180, 0, 24, 8, 27, 96, 4, 79, 42, 180, 0, 24, 16, 8, 27, 96, 28, 79, 42, 180, 0, 24, 16, 11]
abbrev dktX4_readLaw_2 : List UInt8 := dkwX4_readLaw_2 ++ dktX4_readLaw_3
def dkwX4_readLaw_1 : List UInt8 := [17, 1, 41, 46, 61, 42, 27, 181, 0, 145, 42, 3, 182, 0, 157, 42, 180, 0, 125, 153, 0, 4, 177, 42]
abbrev dktX4_readLaw_1 : List UInt8 := dkwX4_readLaw_1 ++ dktX4_readLaw_2
def dkwX4_readLaw_0 : List UInt8 := [42, 182, 0, 134, 42, 16, 31, 182, 0, 160, 154, 0, 8, 42, 5, 182, 0, 137, 42, 180, 0, 24]
abbrev dktX4_readLaw_0 : List UInt8 := dkwX4_readLaw_0 ++ dktX4_readLaw_1
theorem dksX4_readLaw_0 : cX4_readLaw.data.toList.drop 0 = dktX4_readLaw_0 := by decide +kernel
theorem dksX4_readLaw_1 : cX4_readLaw.data.toList.drop 22 = dktX4_readLaw_1 := dk_seg dksX4_readLaw_0 22 rfl rfl
theorem dksX4_readLaw_2 : cX4_readLaw.data.toList.drop 46 = dktX4_readLaw_2 := dk_seg dksX4_readLaw_1 24 rfl rfl
theorem dksX4_readLaw_3 : cX4_readLaw.data.toList.drop 70 = dktX4_readLaw_3 := dk_seg dksX4_readLaw_2 24 rfl rfl
theorem dX4_readLaw_0 : decode cX4_readLaw 0 = .ok (.aload_n 0, 1) := dk_42 (dk_at dksX4_readLaw_0 0 rfl rfl)
theorem dX4_readLaw_1 : decode cX4_readLaw 1 = .ok (.invokevirtual 134, 3) := dk_182 0 134 (dk_at dksX4_readLaw_0 1 rfl rfl)
theorem dX4_readLaw_4 : decode cX4_readLaw 4 = .ok (.aload_n 0, 1) := dk_42 (dk_at dksX4_readLaw_0 4 rfl rfl)
theorem dX4_readLaw_5 : decode cX4_readLaw 5 = .ok (.bipush 31, 2) := dk_16 31 (dk_at dksX4_readLaw_0 5 rfl rfl)
theorem dX4_readLaw_7 : decode cX4_readLaw 7 = .ok (.invokevirtual 160, 3) := dk_182 0 160 (dk_at dksX4_readLaw_0 7 rfl rfl)
theorem dX4_readLaw_10 : decode cX4_readLaw 10 = .ok (.ifCond .ne 8, 3) := dk_154 0 8 (dk_at dksX4_readLaw_0 10 rfl rfl)
theorem dX4_readLaw_13 : decode cX4_readLaw 13 = .ok (.aload_n 0, 1) := dk_42 (dk_at dksX4_readLaw_0 13 rfl rfl)
theorem dX4_readLaw_14 : decode cX4_readLaw 14 = .ok (.iconst 2, 1) := dk_5 (dk_at dksX4_readLaw_0 14 rfl rfl)
theorem dX4_readLaw_15 : decode cX4_readLaw 15 = .ok (.invokevirtual 137, 3) := dk_182 0 137 (dk_at dksX4_readLaw_0 15 rfl rfl)
theorem dX4_readLaw_18 : decode cX4_readLaw 18 = .ok (.aload_n 0, 1) := dk_42 (dk_at dksX4_readLaw_0 18 rfl rfl)
theorem dX4_readLaw_19 : decode cX4_readLaw 19 = .ok (.getfield 24, 3) := dk_180 0 24 (dk_at dksX4_readLaw_0 19 rfl rfl)
theorem dX4_readLaw_22 : decode cX4_readLaw 22 = .ok (.sipush 297, 3) := dk_17 1 41 (dk_at dksX4_readLaw_1 0 rfl rfl)
theorem dX4_readLaw_25 : decode cX4_readLaw 25 = .ok (.iaload, 1) := dk_46 (dk_at dksX4_readLaw_1 3 rfl rfl)
theorem dX4_readLaw_26 : decode cX4_readLaw 26 = .ok (.istore_n 2, 1) := dk_61 (dk_at dksX4_readLaw_1 4 rfl rfl)
theorem dX4_readLaw_27 : decode cX4_readLaw 27 = .ok (.aload_n 0, 1) := dk_42 (dk_at dksX4_readLaw_1 5 rfl rfl)
theorem dX4_readLaw_28 : decode cX4_readLaw 28 = .ok (.iload_n 1, 1) := dk_27 (dk_at dksX4_readLaw_1 6 rfl rfl)
theorem dX4_readLaw_29 : decode cX4_readLaw 29 = .ok (.putfield 145, 3) := dk_181 0 145 (dk_at dksX4_readLaw_1 7 rfl rfl)
theorem dX4_readLaw_32 : decode cX4_readLaw 32 = .ok (.aload_n 0, 1) := dk_42 (dk_at dksX4_readLaw_1 10 rfl rfl)
theorem dX4_readLaw_33 : decode cX4_readLaw 33 = .ok (.iconst 0, 1) := dk_3 (dk_at dksX4_readLaw_1 11 rfl rfl)
theorem dX4_readLaw_34 : decode cX4_readLaw 34 = .ok (.invokevirtual 157, 3) := dk_182 0 157 (dk_at dksX4_readLaw_1 12 rfl rfl)
theorem dX4_readLaw_37 : decode cX4_readLaw 37 = .ok (.aload_n 0, 1) := dk_42 (dk_at dksX4_readLaw_1 15 rfl rfl)
theorem dX4_readLaw_38 : decode cX4_readLaw 38 = .ok (.getfield 125, 3) := dk_180 0 125 (dk_at dksX4_readLaw_1 16 rfl rfl)
theorem dX4_readLaw_41 : decode cX4_readLaw 41 = .ok (.ifCond .eq 4, 3) := dk_153 0 4 (dk_at dksX4_readLaw_1 19 rfl rfl)
theorem dX4_readLaw_44 : decode cX4_readLaw 44 = .ok (.return_, 1) := dk_177 (dk_at dksX4_readLaw_1 22 rfl rfl)
theorem dX4_readLaw_45 : decode cX4_readLaw 45 = .ok (.aload_n 0, 1) := dk_42 (dk_at dksX4_readLaw_1 23 rfl rfl)
theorem dX4_readLaw_46 : decode cX4_readLaw 46 = .ok (.getfield 24, 3) := dk_180 0 24 (dk_at dksX4_readLaw_2 0 rfl rfl)
theorem dX4_readLaw_49 : decode cX4_readLaw 49 = .ok (.iconst 5, 1) := dk_8 (dk_at dksX4_readLaw_2 3 rfl rfl)
theorem dX4_readLaw_50 : decode cX4_readLaw 50 = .ok (.iload_n 1, 1) := dk_27 (dk_at dksX4_readLaw_2 4 rfl rfl)
theorem dX4_readLaw_51 : decode cX4_readLaw 51 = .ok (.iadd, 1) := dk_96 (dk_at dksX4_readLaw_2 5 rfl rfl)
theorem dX4_readLaw_52 : decode cX4_readLaw 52 = .ok (.iconst 1, 1) := dk_4 (dk_at dksX4_readLaw_2 6 rfl rfl)
theorem dX4_readLaw_53 : decode cX4_readLaw 53 = .ok (.iastore, 1) := dk_79 (dk_at dksX4_readLaw_2 7 rfl rfl)
theorem dX4_readLaw_54 : decode cX4_readLaw 54 = .ok (.aload_n 0, 1) := dk_42 (dk_at dksX4_readLaw_2 8 rfl rfl)
theorem dX4_readLaw_55 : decode cX4_readLaw 55 = .ok (.getfield 24, 3) := dk_180 0 24 (dk_at dksX4_readLaw_2 9 rfl rfl)
theorem dX4_readLaw_58 : decode cX4_readLaw 58 = .ok (.bipush 8, 2) := dk_16 8 (dk_at dksX4_readLaw_2 12 rfl rfl)
theorem dX4_readLaw_60 : decode cX4_readLaw 60 = .ok (.iload_n 1, 1) := dk_27 (dk_at dksX4_readLaw_2 14 rfl rfl)
theorem dX4_readLaw_61 : decode cX4_readLaw 61 = .ok (.iadd, 1) := dk_96 (dk_at dksX4_readLaw_2 15 rfl rfl)
theorem dX4_readLaw_62 : decode cX4_readLaw 62 = .ok (.iload_n 2, 1) := dk_28 (dk_at dksX4_readLaw_2 16 rfl rfl)
theorem dX4_readLaw_63 : decode cX4_readLaw 63 = .ok (.iastore, 1) := dk_79 (dk_at dksX4_readLaw_2 17 rfl rfl)
theorem dX4_readLaw_64 : decode cX4_readLaw 64 = .ok (.aload_n 0, 1) := dk_42 (dk_at dksX4_readLaw_2 18 rfl rfl)
theorem dX4_readLaw_65 : decode cX4_readLaw 65 = .ok (.getfield 24, 3) := dk_180 0 24 (dk_at dksX4_readLaw_2 19 rfl rfl)
theorem dX4_readLaw_68 : decode cX4_readLaw 68 = .ok (.bipush 11, 2) := dk_16 11 (dk_at dksX4_readLaw_2 22 rfl rfl)
theorem dX4_readLaw_70 : decode cX4_readLaw 70 = .ok (.iload_n 1, 1) := dk_27 (dk_at dksX4_readLaw_3 0 rfl rfl)
theorem dX4_readLaw_71 : decode cX4_readLaw 71 = .ok (.iadd, 1) := dk_96 (dk_at dksX4_readLaw_3 1 rfl rfl)
theorem dX4_readLaw_72 : decode cX4_readLaw 72 = .ok (.aload_n 0, 1) := dk_42 (dk_at dksX4_readLaw_3 2 rfl rfl)
theorem dX4_readLaw_73 : decode cX4_readLaw 73 = .ok (.getfield 24, 3) := dk_180 0 24 (dk_at dksX4_readLaw_3 3 rfl rfl)
theorem dX4_readLaw_76 : decode cX4_readLaw 76 = .ok (.sipush 297, 3) := dk_17 1 41 (dk_at dksX4_readLaw_3 6 rfl rfl)
theorem dX4_readLaw_79 : decode cX4_readLaw 79 = .ok (.iaload, 1) := dk_46 (dk_at dksX4_readLaw_3 9 rfl rfl)
theorem dX4_readLaw_80 : decode cX4_readLaw 80 = .ok (.iload_n 2, 1) := dk_28 (dk_at dksX4_readLaw_3 10 rfl rfl)
theorem dX4_readLaw_81 : decode cX4_readLaw 81 = .ok (.isub, 1) := dk_100 (dk_at dksX4_readLaw_3 11 rfl rfl)
theorem dX4_readLaw_82 : decode cX4_readLaw 82 = .ok (.iastore, 1) := dk_79 (dk_at dksX4_readLaw_3 12 rfl rfl)
theorem dX4_readLaw_83 : decode cX4_readLaw 83 = .ok (.return_, 1) := dk_177 (dk_at dksX4_readLaw_3 13 rfl rfl)
abbrev cX4_readSum : ByteArray := prog_11_method_21_code
def yX4_readSum : MethodName := ⟨RX4, "readSum", "(I)V"⟩
def dkwX4_readSum_2 : List UInt8 := [182, 0, 166, 42, 28, 182, 0, 148, 167, 255, 205, 177]
abbrev dktX4_readSum_2 : List UInt8 := dkwX4_readSum_2 ++ []
def dkwX4_readSum_1 : List UInt8 := [180, 0, 107, 16, 32, 160, 0, 9, 17, 11, 184, 167, 0, 6, 17, 11, 185, 61, 42, 182, 0, 134, 42, 27]
abbrev dktX4_readSum_1 : List UInt8 := dkwX4_readSum_1 ++ dktX4_readSum_2
def dkwX4_readSum_0 : List UInt8 := [42, 27, 182, 0, 166, 42, 16, 32, 182, 0, 131, 154, 0, 12, 42, 16, 33, 182, 0, 131, 153, 0, 39, 42]
abbrev dktX4_readSum_0 : List UInt8 := dkwX4_readSum_0 ++ dktX4_readSum_1
theorem dksX4_readSum_0 : cX4_readSum.data.toList.drop 0 = dktX4_readSum_0 := by decide +kernel
theorem dksX4_readSum_1 : cX4_readSum.data.toList.drop 24 = dktX4_readSum_1 := dk_seg dksX4_readSum_0 24 rfl rfl
theorem dksX4_readSum_2 : cX4_readSum.data.toList.drop 48 = dktX4_readSum_2 := dk_seg dksX4_readSum_1 24 rfl rfl
theorem dX4_readSum_0 : decode cX4_readSum 0 = .ok (.aload_n 0, 1) := dk_42 (dk_at dksX4_readSum_0 0 rfl rfl)
theorem dX4_readSum_1 : decode cX4_readSum 1 = .ok (.iload_n 1, 1) := dk_27 (dk_at dksX4_readSum_0 1 rfl rfl)
theorem dX4_readSum_2 : decode cX4_readSum 2 = .ok (.invokevirtual 166, 3) := dk_182 0 166 (dk_at dksX4_readSum_0 2 rfl rfl)
theorem dX4_readSum_5 : decode cX4_readSum 5 = .ok (.aload_n 0, 1) := dk_42 (dk_at dksX4_readSum_0 5 rfl rfl)
theorem dX4_readSum_6 : decode cX4_readSum 6 = .ok (.bipush 32, 2) := dk_16 32 (dk_at dksX4_readSum_0 6 rfl rfl)
theorem dX4_readSum_8 : decode cX4_readSum 8 = .ok (.invokevirtual 131, 3) := dk_182 0 131 (dk_at dksX4_readSum_0 8 rfl rfl)
theorem dX4_readSum_11 : decode cX4_readSum 11 = .ok (.ifCond .ne 12, 3) := dk_154 0 12 (dk_at dksX4_readSum_0 11 rfl rfl)
theorem dX4_readSum_14 : decode cX4_readSum 14 = .ok (.aload_n 0, 1) := dk_42 (dk_at dksX4_readSum_0 14 rfl rfl)
theorem dX4_readSum_15 : decode cX4_readSum 15 = .ok (.bipush 33, 2) := dk_16 33 (dk_at dksX4_readSum_0 15 rfl rfl)
theorem dX4_readSum_17 : decode cX4_readSum 17 = .ok (.invokevirtual 131, 3) := dk_182 0 131 (dk_at dksX4_readSum_0 17 rfl rfl)
theorem dX4_readSum_20 : decode cX4_readSum 20 = .ok (.ifCond .eq 39, 3) := dk_153 0 39 (dk_at dksX4_readSum_0 20 rfl rfl)
theorem dX4_readSum_23 : decode cX4_readSum 23 = .ok (.aload_n 0, 1) := dk_42 (dk_at dksX4_readSum_0 23 rfl rfl)
theorem dX4_readSum_24 : decode cX4_readSum 24 = .ok (.getfield 107, 3) := dk_180 0 107 (dk_at dksX4_readSum_1 0 rfl rfl)
theorem dX4_readSum_27 : decode cX4_readSum 27 = .ok (.bipush 32, 2) := dk_16 32 (dk_at dksX4_readSum_1 3 rfl rfl)
theorem dX4_readSum_29 : decode cX4_readSum 29 = .ok (.if_icmp .ne 9, 3) := dk_160 0 9 (dk_at dksX4_readSum_1 5 rfl rfl)
theorem dX4_readSum_32 : decode cX4_readSum 32 = .ok (.sipush 3000, 3) := dk_17 11 184 (dk_at dksX4_readSum_1 8 rfl rfl)
theorem dX4_readSum_35 : decode cX4_readSum 35 = .ok (.goto 6, 3) := dk_167 0 6 (dk_at dksX4_readSum_1 11 rfl rfl)
theorem dX4_readSum_38 : decode cX4_readSum 38 = .ok (.sipush 3001, 3) := dk_17 11 185 (dk_at dksX4_readSum_1 14 rfl rfl)
theorem dX4_readSum_41 : decode cX4_readSum 41 = .ok (.istore_n 2, 1) := dk_61 (dk_at dksX4_readSum_1 17 rfl rfl)
theorem dX4_readSum_42 : decode cX4_readSum 42 = .ok (.aload_n 0, 1) := dk_42 (dk_at dksX4_readSum_1 18 rfl rfl)
theorem dX4_readSum_43 : decode cX4_readSum 43 = .ok (.invokevirtual 134, 3) := dk_182 0 134 (dk_at dksX4_readSum_1 19 rfl rfl)
theorem dX4_readSum_46 : decode cX4_readSum 46 = .ok (.aload_n 0, 1) := dk_42 (dk_at dksX4_readSum_1 22 rfl rfl)
theorem dX4_readSum_47 : decode cX4_readSum 47 = .ok (.iload_n 1, 1) := dk_27 (dk_at dksX4_readSum_1 23 rfl rfl)
theorem dX4_readSum_48 : decode cX4_readSum 48 = .ok (.invokevirtual 166, 3) := dk_182 0 166 (dk_at dksX4_readSum_2 0 rfl rfl)
theorem dX4_readSum_51 : decode cX4_readSum 51 = .ok (.aload_n 0, 1) := dk_42 (dk_at dksX4_readSum_2 3 rfl rfl)
theorem dX4_readSum_52 : decode cX4_readSum 52 = .ok (.iload_n 2, 1) := dk_28 (dk_at dksX4_readSum_2 4 rfl rfl)
theorem dX4_readSum_53 : decode cX4_readSum 53 = .ok (.invokevirtual 148, 3) := dk_182 0 148 (dk_at dksX4_readSum_2 5 rfl rfl)
theorem dX4_readSum_56 : decode cX4_readSum 56 = .ok (.goto (-51), 3) := dk_167 255 205 (dk_at dksX4_readSum_2 8 rfl rfl)
theorem dX4_readSum_59 : decode cX4_readSum 59 = .ok (.return_, 1) := dk_177 (dk_at dksX4_readSum_2 11 rfl rfl)
abbrev cX4_readTerm : ByteArray := prog_11_method_20_code
def yX4_readTerm : MethodName := ⟨RX4, "readTerm", "(I)V"⟩
def dkwX4_readTerm_1 : List UInt8 := [182, 0, 148, 167, 255, 235, 177]
abbrev dktX4_readTerm_1 : List UInt8 := dkwX4_readTerm_1 ++ []
def dkwX4_readTerm_0 : List UInt8 := [42, 27, 182, 0, 163, 42, 16, 34, 182, 0, 160, 153, 0, 18, 42, 27, 182, 0, 163, 42, 17, 11, 186]
abbrev dktX4_readTerm_0 : List UInt8 := dkwX4_readTerm_0 ++ dktX4_readTerm_1
theorem dksX4_readTerm_0 : cX4_readTerm.data.toList.drop 0 = dktX4_readTerm_0 := by decide +kernel
theorem dksX4_readTerm_1 : cX4_readTerm.data.toList.drop 23 = dktX4_readTerm_1 := dk_seg dksX4_readTerm_0 23 rfl rfl
theorem dX4_readTerm_0 : decode cX4_readTerm 0 = .ok (.aload_n 0, 1) := dk_42 (dk_at dksX4_readTerm_0 0 rfl rfl)
theorem dX4_readTerm_1 : decode cX4_readTerm 1 = .ok (.iload_n 1, 1) := dk_27 (dk_at dksX4_readTerm_0 1 rfl rfl)
theorem dX4_readTerm_2 : decode cX4_readTerm 2 = .ok (.invokevirtual 163, 3) := dk_182 0 163 (dk_at dksX4_readTerm_0 2 rfl rfl)
theorem dX4_readTerm_5 : decode cX4_readTerm 5 = .ok (.aload_n 0, 1) := dk_42 (dk_at dksX4_readTerm_0 5 rfl rfl)
theorem dX4_readTerm_6 : decode cX4_readTerm 6 = .ok (.bipush 34, 2) := dk_16 34 (dk_at dksX4_readTerm_0 6 rfl rfl)
theorem dX4_readTerm_8 : decode cX4_readTerm 8 = .ok (.invokevirtual 160, 3) := dk_182 0 160 (dk_at dksX4_readTerm_0 8 rfl rfl)
theorem dX4_readTerm_11 : decode cX4_readTerm 11 = .ok (.ifCond .eq 18, 3) := dk_153 0 18 (dk_at dksX4_readTerm_0 11 rfl rfl)
theorem dX4_readTerm_14 : decode cX4_readTerm 14 = .ok (.aload_n 0, 1) := dk_42 (dk_at dksX4_readTerm_0 14 rfl rfl)
theorem dX4_readTerm_15 : decode cX4_readTerm 15 = .ok (.iload_n 1, 1) := dk_27 (dk_at dksX4_readTerm_0 15 rfl rfl)
theorem dX4_readTerm_16 : decode cX4_readTerm 16 = .ok (.invokevirtual 163, 3) := dk_182 0 163 (dk_at dksX4_readTerm_0 16 rfl rfl)
theorem dX4_readTerm_19 : decode cX4_readTerm 19 = .ok (.aload_n 0, 1) := dk_42 (dk_at dksX4_readTerm_0 19 rfl rfl)
theorem dX4_readTerm_20 : decode cX4_readTerm 20 = .ok (.sipush 3002, 3) := dk_17 11 186 (dk_at dksX4_readTerm_0 20 rfl rfl)
theorem dX4_readTerm_23 : decode cX4_readTerm 23 = .ok (.invokevirtual 148, 3) := dk_182 0 148 (dk_at dksX4_readTerm_1 0 rfl rfl)
theorem dX4_readTerm_26 : decode cX4_readTerm 26 = .ok (.goto (-21), 3) := dk_167 255 235 (dk_at dksX4_readTerm_1 3 rfl rfl)
theorem dX4_readTerm_29 : decode cX4_readTerm 29 = .ok (.return_, 1) := dk_177 (dk_at dksX4_readTerm_1 6 rfl rfl)
abbrev cX4_readAtom : ByteArray := prog_11_method_19_code
def yX4_readAtom : MethodName := ⟨RX4, "readAtom", "(I)V"⟩
def dkwX4_readAtom_4 : List UInt8 := [182, 0, 160, 154, 0, 16, 42, 5, 182, 0, 137, 167, 0, 8, 42, 5, 182, 0, 137, 177]
abbrev dktX4_readAtom_4 : List UInt8 := dkwX4_readAtom_4 ++ []
def dkwX4_readAtom_3 : List UInt8 := [153, 0, 36, 42, 27, 182, 0, 154, 154, 0, 4, 177, 42, 27, 4, 96, 182, 0, 157, 42, 16, 36]
abbrev dktX4_readAtom_3 : List UInt8 := dkwX4_readAtom_3 ++ dktX4_readAtom_4
def dkwX4_readAtom_2 : List UInt8 := [42, 180, 0, 107, 182, 0, 151, 96, 182, 0, 148, 42, 182, 0, 134, 167, 0, 50, 42, 16, 35, 182, 0, 131]
abbrev dktX4_readAtom_2 : List UInt8 := dkwX4_readAtom_2 ++ dktX4_readAtom_3
def dkwX4_readAtom_1 : List UInt8 := [42, 180, 0, 125, 154, 0, 38, 42, 42, 180, 0, 107, 182, 0, 151, 2, 159, 0, 26, 42, 17, 3, 232, 42]
abbrev dktX4_readAtom_1 : List UInt8 := dkwX4_readAtom_1 ++ dktX4_readAtom_2
def dkwX4_readAtom_0 : List UInt8 := [42, 16, 23, 182, 0, 131, 153, 0, 18, 42, 42, 180, 0, 120, 182, 0, 148, 42, 182, 0, 134, 167, 0, 92]
abbrev dktX4_readAtom_0 : List UInt8 := dkwX4_readAtom_0 ++ dktX4_readAtom_1
theorem dksX4_readAtom_0 : cX4_readAtom.data.toList.drop 0 = dktX4_readAtom_0 := by decide +kernel
theorem dksX4_readAtom_1 : cX4_readAtom.data.toList.drop 24 = dktX4_readAtom_1 := dk_seg dksX4_readAtom_0 24 rfl rfl
theorem dksX4_readAtom_2 : cX4_readAtom.data.toList.drop 48 = dktX4_readAtom_2 := dk_seg dksX4_readAtom_1 24 rfl rfl
theorem dksX4_readAtom_3 : cX4_readAtom.data.toList.drop 72 = dktX4_readAtom_3 := dk_seg dksX4_readAtom_2 24 rfl rfl
theorem dksX4_readAtom_4 : cX4_readAtom.data.toList.drop 94 = dktX4_readAtom_4 := dk_seg dksX4_readAtom_3 22 rfl rfl
theorem dX4_readAtom_0 : decode cX4_readAtom 0 = .ok (.aload_n 0, 1) := dk_42 (dk_at dksX4_readAtom_0 0 rfl rfl)
theorem dX4_readAtom_1 : decode cX4_readAtom 1 = .ok (.bipush 23, 2) := dk_16 23 (dk_at dksX4_readAtom_0 1 rfl rfl)
theorem dX4_readAtom_3 : decode cX4_readAtom 3 = .ok (.invokevirtual 131, 3) := dk_182 0 131 (dk_at dksX4_readAtom_0 3 rfl rfl)
theorem dX4_readAtom_6 : decode cX4_readAtom 6 = .ok (.ifCond .eq 18, 3) := dk_153 0 18 (dk_at dksX4_readAtom_0 6 rfl rfl)
theorem dX4_readAtom_9 : decode cX4_readAtom 9 = .ok (.aload_n 0, 1) := dk_42 (dk_at dksX4_readAtom_0 9 rfl rfl)
theorem dX4_readAtom_10 : decode cX4_readAtom 10 = .ok (.aload_n 0, 1) := dk_42 (dk_at dksX4_readAtom_0 10 rfl rfl)
theorem dX4_readAtom_11 : decode cX4_readAtom 11 = .ok (.getfield 120, 3) := dk_180 0 120 (dk_at dksX4_readAtom_0 11 rfl rfl)
theorem dX4_readAtom_14 : decode cX4_readAtom 14 = .ok (.invokevirtual 148, 3) := dk_182 0 148 (dk_at dksX4_readAtom_0 14 rfl rfl)
theorem dX4_readAtom_17 : decode cX4_readAtom 17 = .ok (.aload_n 0, 1) := dk_42 (dk_at dksX4_readAtom_0 17 rfl rfl)
theorem dX4_readAtom_18 : decode cX4_readAtom 18 = .ok (.invokevirtual 134, 3) := dk_182 0 134 (dk_at dksX4_readAtom_0 18 rfl rfl)
theorem dX4_readAtom_21 : decode cX4_readAtom 21 = .ok (.goto 92, 3) := dk_167 0 92 (dk_at dksX4_readAtom_0 21 rfl rfl)
theorem dX4_readAtom_24 : decode cX4_readAtom 24 = .ok (.aload_n 0, 1) := dk_42 (dk_at dksX4_readAtom_1 0 rfl rfl)
theorem dX4_readAtom_25 : decode cX4_readAtom 25 = .ok (.getfield 125, 3) := dk_180 0 125 (dk_at dksX4_readAtom_1 1 rfl rfl)
theorem dX4_readAtom_28 : decode cX4_readAtom 28 = .ok (.ifCond .ne 38, 3) := dk_154 0 38 (dk_at dksX4_readAtom_1 4 rfl rfl)
theorem dX4_readAtom_31 : decode cX4_readAtom 31 = .ok (.aload_n 0, 1) := dk_42 (dk_at dksX4_readAtom_1 7 rfl rfl)
theorem dX4_readAtom_32 : decode cX4_readAtom 32 = .ok (.aload_n 0, 1) := dk_42 (dk_at dksX4_readAtom_1 8 rfl rfl)
theorem dX4_readAtom_33 : decode cX4_readAtom 33 = .ok (.getfield 107, 3) := dk_180 0 107 (dk_at dksX4_readAtom_1 9 rfl rfl)
theorem dX4_readAtom_36 : decode cX4_readAtom 36 = .ok (.invokevirtual 151, 3) := dk_182 0 151 (dk_at dksX4_readAtom_1 12 rfl rfl)
theorem dX4_readAtom_39 : decode cX4_readAtom 39 = .ok (.iconst (-1), 1) := dk_2 (dk_at dksX4_readAtom_1 15 rfl rfl)
theorem dX4_readAtom_40 : decode cX4_readAtom 40 = .ok (.if_icmp .eq 26, 3) := dk_159 0 26 (dk_at dksX4_readAtom_1 16 rfl rfl)
theorem dX4_readAtom_43 : decode cX4_readAtom 43 = .ok (.aload_n 0, 1) := dk_42 (dk_at dksX4_readAtom_1 19 rfl rfl)
theorem dX4_readAtom_44 : decode cX4_readAtom 44 = .ok (.sipush 1000, 3) := dk_17 3 232 (dk_at dksX4_readAtom_1 20 rfl rfl)
theorem dX4_readAtom_47 : decode cX4_readAtom 47 = .ok (.aload_n 0, 1) := dk_42 (dk_at dksX4_readAtom_1 23 rfl rfl)
theorem dX4_readAtom_48 : decode cX4_readAtom 48 = .ok (.aload_n 0, 1) := dk_42 (dk_at dksX4_readAtom_2 0 rfl rfl)
theorem dX4_readAtom_49 : decode cX4_readAtom 49 = .ok (.getfield 107, 3) := dk_180 0 107 (dk_at dksX4_readAtom_2 1 rfl rfl)
theorem dX4_readAtom_52 : decode cX4_readAtom 52 = .ok (.invokevirtual 151, 3) := dk_182 0 151 (dk_at dksX4_readAtom_2 4 rfl rfl)
theorem dX4_readAtom_55 : decode cX4_readAtom 55 = .ok (.iadd, 1) := dk_96 (dk_at dksX4_readAtom_2 7 rfl rfl)
theorem dX4_readAtom_56 : decode cX4_readAtom 56 = .ok (.invokevirtual 148, 3) := dk_182 0 148 (dk_at dksX4_readAtom_2 8 rfl rfl)
theorem dX4_readAtom_59 : decode cX4_readAtom 59 = .ok (.aload_n 0, 1) := dk_42 (dk_at dksX4_readAtom_2 11 rfl rfl)
theorem dX4_readAtom_60 : decode cX4_readAtom 60 = .ok (.invokevirtual 134, 3) := dk_182 0 134 (dk_at dksX4_readAtom_2 12 rfl rfl)
theorem dX4_readAtom_63 : decode cX4_readAtom 63 = .ok (.goto 50, 3) := dk_167 0 50 (dk_at dksX4_readAtom_2 15 rfl rfl)
theorem dX4_readAtom_66 : decode cX4_readAtom 66 = .ok (.aload_n 0, 1) := dk_42 (dk_at dksX4_readAtom_2 18 rfl rfl)
theorem dX4_readAtom_67 : decode cX4_readAtom 67 = .ok (.bipush 35, 2) := dk_16 35 (dk_at dksX4_readAtom_2 19 rfl rfl)
theorem dX4_readAtom_69 : decode cX4_readAtom 69 = .ok (.invokevirtual 131, 3) := dk_182 0 131 (dk_at dksX4_readAtom_2 21 rfl rfl)
theorem dX4_readAtom_72 : decode cX4_readAtom 72 = .ok (.ifCond .eq 36, 3) := dk_153 0 36 (dk_at dksX4_readAtom_3 0 rfl rfl)
theorem dX4_readAtom_75 : decode cX4_readAtom 75 = .ok (.aload_n 0, 1) := dk_42 (dk_at dksX4_readAtom_3 3 rfl rfl)
theorem dX4_readAtom_76 : decode cX4_readAtom 76 = .ok (.iload_n 1, 1) := dk_27 (dk_at dksX4_readAtom_3 4 rfl rfl)
theorem dX4_readAtom_77 : decode cX4_readAtom 77 = .ok (.invokevirtual 154, 3) := dk_182 0 154 (dk_at dksX4_readAtom_3 5 rfl rfl)
theorem dX4_readAtom_80 : decode cX4_readAtom 80 = .ok (.ifCond .ne 4, 3) := dk_154 0 4 (dk_at dksX4_readAtom_3 8 rfl rfl)
theorem dX4_readAtom_83 : decode cX4_readAtom 83 = .ok (.return_, 1) := dk_177 (dk_at dksX4_readAtom_3 11 rfl rfl)
theorem dX4_readAtom_84 : decode cX4_readAtom 84 = .ok (.aload_n 0, 1) := dk_42 (dk_at dksX4_readAtom_3 12 rfl rfl)
theorem dX4_readAtom_85 : decode cX4_readAtom 85 = .ok (.iload_n 1, 1) := dk_27 (dk_at dksX4_readAtom_3 13 rfl rfl)
theorem dX4_readAtom_86 : decode cX4_readAtom 86 = .ok (.iconst 1, 1) := dk_4 (dk_at dksX4_readAtom_3 14 rfl rfl)
theorem dX4_readAtom_87 : decode cX4_readAtom 87 = .ok (.iadd, 1) := dk_96 (dk_at dksX4_readAtom_3 15 rfl rfl)
theorem dX4_readAtom_88 : decode cX4_readAtom 88 = .ok (.invokevirtual 157, 3) := dk_182 0 157 (dk_at dksX4_readAtom_3 16 rfl rfl)
theorem dX4_readAtom_91 : decode cX4_readAtom 91 = .ok (.aload_n 0, 1) := dk_42 (dk_at dksX4_readAtom_3 19 rfl rfl)
theorem dX4_readAtom_92 : decode cX4_readAtom 92 = .ok (.bipush 36, 2) := dk_16 36 (dk_at dksX4_readAtom_3 20 rfl rfl)
theorem dX4_readAtom_94 : decode cX4_readAtom 94 = .ok (.invokevirtual 160, 3) := dk_182 0 160 (dk_at dksX4_readAtom_4 0 rfl rfl)
theorem dX4_readAtom_97 : decode cX4_readAtom 97 = .ok (.ifCond .ne 16, 3) := dk_154 0 16 (dk_at dksX4_readAtom_4 3 rfl rfl)
theorem dX4_readAtom_100 : decode cX4_readAtom 100 = .ok (.aload_n 0, 1) := dk_42 (dk_at dksX4_readAtom_4 6 rfl rfl)
theorem dX4_readAtom_101 : decode cX4_readAtom 101 = .ok (.iconst 2, 1) := dk_5 (dk_at dksX4_readAtom_4 7 rfl rfl)
theorem dX4_readAtom_102 : decode cX4_readAtom 102 = .ok (.invokevirtual 137, 3) := dk_182 0 137 (dk_at dksX4_readAtom_4 8 rfl rfl)
theorem dX4_readAtom_105 : decode cX4_readAtom 105 = .ok (.goto 8, 3) := dk_167 0 8 (dk_at dksX4_readAtom_4 11 rfl rfl)
theorem dX4_readAtom_108 : decode cX4_readAtom 108 = .ok (.aload_n 0, 1) := dk_42 (dk_at dksX4_readAtom_4 14 rfl rfl)
theorem dX4_readAtom_109 : decode cX4_readAtom 109 = .ok (.iconst 2, 1) := dk_5 (dk_at dksX4_readAtom_4 15 rfl rfl)
theorem dX4_readAtom_110 : decode cX4_readAtom 110 = .ok (.invokevirtual 137, 3) := dk_182 0 137 (dk_at dksX4_readAtom_4 16 rfl rfl)
theorem dX4_readAtom_113 : decode cX4_readAtom 113 = .ok (.return_, 1) := dk_177 (dk_at dksX4_readAtom_4 19 rfl rfl)
abbrev cX4_codes : ByteArray := prog_11_method_17_code
def yX4_codes : MethodName := ⟨RX4, "codes", "(I)V"⟩
def dkwX4_codes_1 : List UInt8 := [27, 79, 42, 180, 0, 24, 17, 1, 41, 92, 46, 4, 96, 79, 177]
abbrev dktX4_codes_1 : List UInt8 := dkwX4_codes_1 ++ []
def dkwX4_codes_0 : List UInt8 := [42, 180, 0, 125, 153, 0, 4, 177, 42, 180, 0, 24, 17, 1, 42, 42, 180, 0, 24, 17, 1, 41, 46, 96]
abbrev dktX4_codes_0 : List UInt8 := dkwX4_codes_0 ++ dktX4_codes_1
theorem dksX4_codes_0 : cX4_codes.data.toList.drop 0 = dktX4_codes_0 := by decide +kernel
theorem dksX4_codes_1 : cX4_codes.data.toList.drop 24 = dktX4_codes_1 := dk_seg dksX4_codes_0 24 rfl rfl
theorem dX4_codes_0 : decode cX4_codes 0 = .ok (.aload_n 0, 1) := dk_42 (dk_at dksX4_codes_0 0 rfl rfl)
theorem dX4_codes_1 : decode cX4_codes 1 = .ok (.getfield 125, 3) := dk_180 0 125 (dk_at dksX4_codes_0 1 rfl rfl)
theorem dX4_codes_4 : decode cX4_codes 4 = .ok (.ifCond .eq 4, 3) := dk_153 0 4 (dk_at dksX4_codes_0 4 rfl rfl)
theorem dX4_codes_7 : decode cX4_codes 7 = .ok (.return_, 1) := dk_177 (dk_at dksX4_codes_0 7 rfl rfl)
theorem dX4_codes_8 : decode cX4_codes 8 = .ok (.aload_n 0, 1) := dk_42 (dk_at dksX4_codes_0 8 rfl rfl)
theorem dX4_codes_9 : decode cX4_codes 9 = .ok (.getfield 24, 3) := dk_180 0 24 (dk_at dksX4_codes_0 9 rfl rfl)
theorem dX4_codes_12 : decode cX4_codes 12 = .ok (.sipush 298, 3) := dk_17 1 42 (dk_at dksX4_codes_0 12 rfl rfl)
theorem dX4_codes_15 : decode cX4_codes 15 = .ok (.aload_n 0, 1) := dk_42 (dk_at dksX4_codes_0 15 rfl rfl)
theorem dX4_codes_16 : decode cX4_codes 16 = .ok (.getfield 24, 3) := dk_180 0 24 (dk_at dksX4_codes_0 16 rfl rfl)
theorem dX4_codes_19 : decode cX4_codes 19 = .ok (.sipush 297, 3) := dk_17 1 41 (dk_at dksX4_codes_0 19 rfl rfl)
theorem dX4_codes_22 : decode cX4_codes 22 = .ok (.iaload, 1) := dk_46 (dk_at dksX4_codes_0 22 rfl rfl)
theorem dX4_codes_23 : decode cX4_codes 23 = .ok (.iadd, 1) := dk_96 (dk_at dksX4_codes_0 23 rfl rfl)
theorem dX4_codes_24 : decode cX4_codes 24 = .ok (.iload_n 1, 1) := dk_27 (dk_at dksX4_codes_1 0 rfl rfl)
theorem dX4_codes_25 : decode cX4_codes 25 = .ok (.iastore, 1) := dk_79 (dk_at dksX4_codes_1 1 rfl rfl)
theorem dX4_codes_26 : decode cX4_codes 26 = .ok (.aload_n 0, 1) := dk_42 (dk_at dksX4_codes_1 2 rfl rfl)
theorem dX4_codes_27 : decode cX4_codes 27 = .ok (.getfield 24, 3) := dk_180 0 24 (dk_at dksX4_codes_1 3 rfl rfl)
theorem dX4_codes_30 : decode cX4_codes 30 = .ok (.sipush 297, 3) := dk_17 1 41 (dk_at dksX4_codes_1 6 rfl rfl)
theorem dX4_codes_33 : decode cX4_codes 33 = .ok (.dup2, 1) := dk_92 (dk_at dksX4_codes_1 9 rfl rfl)
theorem dX4_codes_34 : decode cX4_codes 34 = .ok (.iaload, 1) := dk_46 (dk_at dksX4_codes_1 10 rfl rfl)
theorem dX4_codes_35 : decode cX4_codes 35 = .ok (.iconst 1, 1) := dk_4 (dk_at dksX4_codes_1 11 rfl rfl)
theorem dX4_codes_36 : decode cX4_codes 36 = .ok (.iadd, 1) := dk_96 (dk_at dksX4_codes_1 12 rfl rfl)
theorem dX4_codes_37 : decode cX4_codes 37 = .ok (.iastore, 1) := dk_79 (dk_at dksX4_codes_1 13 rfl rfl)
theorem dX4_codes_38 : decode cX4_codes 38 = .ok (.return_, 1) := dk_177 (dk_at dksX4_codes_1 14 rfl rfl)
abbrev cX4_wordOf : ByteArray := prog_11_method_16_code
def yX4_wordOf : MethodName := ⟨RX4, "wordOf", "(I)I"⟩
def dkwX4_wordOf_5 : List UInt8 := [167, 0, 4, 2, 172]
abbrev dktX4_wordOf_5 : List UInt8 := dkwX4_wordOf_5 ++ []
def dkwX4_wordOf_4 : List UInt8 := [167, 0, 26, 27, 16, 16, 160, 0, 8, 16, 8, 167, 0, 15, 27, 16, 17, 160, 0, 8, 16, 9]
abbrev dktX4_wordOf_4 : List UInt8 := dkwX4_wordOf_4 ++ dktX4_wordOf_5
def dkwX4_wordOf_3 : List UInt8 := [16, 6, 172, 42, 180, 0, 145, 4, 160, 0, 7, 2, 167, 0, 36, 27, 6, 160, 0, 8, 16, 7]
abbrev dktX4_wordOf_3 : List UInt8 := dkwX4_wordOf_3 ++ dktX4_wordOf_4
def dkwX4_wordOf_2 : List UInt8 := [16, 14, 160, 0, 7, 7, 167, 0, 4, 2, 172, 27, 16, 15, 160, 0, 5, 8, 172, 27, 154, 0, 6]
abbrev dktX4_wordOf_2 : List UInt8 := dkwX4_wordOf_2 ++ dktX4_wordOf_3
def dkwX4_wordOf_1 : List UInt8 := [167, 0, 34, 27, 16, 13, 160, 0, 7, 5, 167, 0, 24, 27, 16, 7, 160, 0, 7, 6, 167, 0, 14, 27]
abbrev dktX4_wordOf_1 : List UInt8 := dkwX4_wordOf_1 ++ dktX4_wordOf_2
def dkwX4_wordOf_0 : List UInt8 := [27, 16, 8, 160, 0, 5, 3, 172, 42, 180, 0, 145, 154, 0, 45, 27, 16, 12, 160, 0, 7, 4]
abbrev dktX4_wordOf_0 : List UInt8 := dkwX4_wordOf_0 ++ dktX4_wordOf_1
theorem dksX4_wordOf_0 : cX4_wordOf.data.toList.drop 0 = dktX4_wordOf_0 := by decide +kernel
theorem dksX4_wordOf_1 : cX4_wordOf.data.toList.drop 22 = dktX4_wordOf_1 := dk_seg dksX4_wordOf_0 22 rfl rfl
theorem dksX4_wordOf_2 : cX4_wordOf.data.toList.drop 46 = dktX4_wordOf_2 := dk_seg dksX4_wordOf_1 24 rfl rfl
theorem dksX4_wordOf_3 : cX4_wordOf.data.toList.drop 69 = dktX4_wordOf_3 := dk_seg dksX4_wordOf_2 23 rfl rfl
theorem dksX4_wordOf_4 : cX4_wordOf.data.toList.drop 91 = dktX4_wordOf_4 := dk_seg dksX4_wordOf_3 22 rfl rfl
theorem dksX4_wordOf_5 : cX4_wordOf.data.toList.drop 113 = dktX4_wordOf_5 := dk_seg dksX4_wordOf_4 22 rfl rfl
theorem dX4_wordOf_0 : decode cX4_wordOf 0 = .ok (.iload_n 1, 1) := dk_27 (dk_at dksX4_wordOf_0 0 rfl rfl)
theorem dX4_wordOf_1 : decode cX4_wordOf 1 = .ok (.bipush 8, 2) := dk_16 8 (dk_at dksX4_wordOf_0 1 rfl rfl)
theorem dX4_wordOf_3 : decode cX4_wordOf 3 = .ok (.if_icmp .ne 5, 3) := dk_160 0 5 (dk_at dksX4_wordOf_0 3 rfl rfl)
theorem dX4_wordOf_6 : decode cX4_wordOf 6 = .ok (.iconst 0, 1) := dk_3 (dk_at dksX4_wordOf_0 6 rfl rfl)
theorem dX4_wordOf_7 : decode cX4_wordOf 7 = .ok (.ireturn, 1) := dk_172 (dk_at dksX4_wordOf_0 7 rfl rfl)
theorem dX4_wordOf_8 : decode cX4_wordOf 8 = .ok (.aload_n 0, 1) := dk_42 (dk_at dksX4_wordOf_0 8 rfl rfl)
theorem dX4_wordOf_9 : decode cX4_wordOf 9 = .ok (.getfield 145, 3) := dk_180 0 145 (dk_at dksX4_wordOf_0 9 rfl rfl)
theorem dX4_wordOf_12 : decode cX4_wordOf 12 = .ok (.ifCond .ne 45, 3) := dk_154 0 45 (dk_at dksX4_wordOf_0 12 rfl rfl)
theorem dX4_wordOf_15 : decode cX4_wordOf 15 = .ok (.iload_n 1, 1) := dk_27 (dk_at dksX4_wordOf_0 15 rfl rfl)
theorem dX4_wordOf_16 : decode cX4_wordOf 16 = .ok (.bipush 12, 2) := dk_16 12 (dk_at dksX4_wordOf_0 16 rfl rfl)
theorem dX4_wordOf_18 : decode cX4_wordOf 18 = .ok (.if_icmp .ne 7, 3) := dk_160 0 7 (dk_at dksX4_wordOf_0 18 rfl rfl)
theorem dX4_wordOf_21 : decode cX4_wordOf 21 = .ok (.iconst 1, 1) := dk_4 (dk_at dksX4_wordOf_0 21 rfl rfl)
theorem dX4_wordOf_22 : decode cX4_wordOf 22 = .ok (.goto 34, 3) := dk_167 0 34 (dk_at dksX4_wordOf_1 0 rfl rfl)
theorem dX4_wordOf_25 : decode cX4_wordOf 25 = .ok (.iload_n 1, 1) := dk_27 (dk_at dksX4_wordOf_1 3 rfl rfl)
theorem dX4_wordOf_26 : decode cX4_wordOf 26 = .ok (.bipush 13, 2) := dk_16 13 (dk_at dksX4_wordOf_1 4 rfl rfl)
theorem dX4_wordOf_28 : decode cX4_wordOf 28 = .ok (.if_icmp .ne 7, 3) := dk_160 0 7 (dk_at dksX4_wordOf_1 6 rfl rfl)
theorem dX4_wordOf_31 : decode cX4_wordOf 31 = .ok (.iconst 2, 1) := dk_5 (dk_at dksX4_wordOf_1 9 rfl rfl)
theorem dX4_wordOf_32 : decode cX4_wordOf 32 = .ok (.goto 24, 3) := dk_167 0 24 (dk_at dksX4_wordOf_1 10 rfl rfl)
theorem dX4_wordOf_35 : decode cX4_wordOf 35 = .ok (.iload_n 1, 1) := dk_27 (dk_at dksX4_wordOf_1 13 rfl rfl)
theorem dX4_wordOf_36 : decode cX4_wordOf 36 = .ok (.bipush 7, 2) := dk_16 7 (dk_at dksX4_wordOf_1 14 rfl rfl)
theorem dX4_wordOf_38 : decode cX4_wordOf 38 = .ok (.if_icmp .ne 7, 3) := dk_160 0 7 (dk_at dksX4_wordOf_1 16 rfl rfl)
theorem dX4_wordOf_41 : decode cX4_wordOf 41 = .ok (.iconst 3, 1) := dk_6 (dk_at dksX4_wordOf_1 19 rfl rfl)
theorem dX4_wordOf_42 : decode cX4_wordOf 42 = .ok (.goto 14, 3) := dk_167 0 14 (dk_at dksX4_wordOf_1 20 rfl rfl)
theorem dX4_wordOf_45 : decode cX4_wordOf 45 = .ok (.iload_n 1, 1) := dk_27 (dk_at dksX4_wordOf_1 23 rfl rfl)
theorem dX4_wordOf_46 : decode cX4_wordOf 46 = .ok (.bipush 14, 2) := dk_16 14 (dk_at dksX4_wordOf_2 0 rfl rfl)
theorem dX4_wordOf_48 : decode cX4_wordOf 48 = .ok (.if_icmp .ne 7, 3) := dk_160 0 7 (dk_at dksX4_wordOf_2 2 rfl rfl)
theorem dX4_wordOf_51 : decode cX4_wordOf 51 = .ok (.iconst 4, 1) := dk_7 (dk_at dksX4_wordOf_2 5 rfl rfl)
theorem dX4_wordOf_52 : decode cX4_wordOf 52 = .ok (.goto 4, 3) := dk_167 0 4 (dk_at dksX4_wordOf_2 6 rfl rfl)
theorem dX4_wordOf_55 : decode cX4_wordOf 55 = .ok (.iconst (-1), 1) := dk_2 (dk_at dksX4_wordOf_2 9 rfl rfl)
theorem dX4_wordOf_56 : decode cX4_wordOf 56 = .ok (.ireturn, 1) := dk_172 (dk_at dksX4_wordOf_2 10 rfl rfl)
theorem dX4_wordOf_57 : decode cX4_wordOf 57 = .ok (.iload_n 1, 1) := dk_27 (dk_at dksX4_wordOf_2 11 rfl rfl)
theorem dX4_wordOf_58 : decode cX4_wordOf 58 = .ok (.bipush 15, 2) := dk_16 15 (dk_at dksX4_wordOf_2 12 rfl rfl)
theorem dX4_wordOf_60 : decode cX4_wordOf 60 = .ok (.if_icmp .ne 5, 3) := dk_160 0 5 (dk_at dksX4_wordOf_2 14 rfl rfl)
theorem dX4_wordOf_63 : decode cX4_wordOf 63 = .ok (.iconst 5, 1) := dk_8 (dk_at dksX4_wordOf_2 17 rfl rfl)
theorem dX4_wordOf_64 : decode cX4_wordOf 64 = .ok (.ireturn, 1) := dk_172 (dk_at dksX4_wordOf_2 18 rfl rfl)
theorem dX4_wordOf_65 : decode cX4_wordOf 65 = .ok (.iload_n 1, 1) := dk_27 (dk_at dksX4_wordOf_2 19 rfl rfl)
theorem dX4_wordOf_66 : decode cX4_wordOf 66 = .ok (.ifCond .ne 6, 3) := dk_154 0 6 (dk_at dksX4_wordOf_2 20 rfl rfl)
theorem dX4_wordOf_69 : decode cX4_wordOf 69 = .ok (.bipush 6, 2) := dk_16 6 (dk_at dksX4_wordOf_3 0 rfl rfl)
theorem dX4_wordOf_71 : decode cX4_wordOf 71 = .ok (.ireturn, 1) := dk_172 (dk_at dksX4_wordOf_3 2 rfl rfl)
theorem dX4_wordOf_72 : decode cX4_wordOf 72 = .ok (.aload_n 0, 1) := dk_42 (dk_at dksX4_wordOf_3 3 rfl rfl)
theorem dX4_wordOf_73 : decode cX4_wordOf 73 = .ok (.getfield 145, 3) := dk_180 0 145 (dk_at dksX4_wordOf_3 4 rfl rfl)
theorem dX4_wordOf_76 : decode cX4_wordOf 76 = .ok (.iconst 1, 1) := dk_4 (dk_at dksX4_wordOf_3 7 rfl rfl)
theorem dX4_wordOf_77 : decode cX4_wordOf 77 = .ok (.if_icmp .ne 7, 3) := dk_160 0 7 (dk_at dksX4_wordOf_3 8 rfl rfl)
theorem dX4_wordOf_80 : decode cX4_wordOf 80 = .ok (.iconst (-1), 1) := dk_2 (dk_at dksX4_wordOf_3 11 rfl rfl)
theorem dX4_wordOf_81 : decode cX4_wordOf 81 = .ok (.goto 36, 3) := dk_167 0 36 (dk_at dksX4_wordOf_3 12 rfl rfl)
theorem dX4_wordOf_84 : decode cX4_wordOf 84 = .ok (.iload_n 1, 1) := dk_27 (dk_at dksX4_wordOf_3 15 rfl rfl)
theorem dX4_wordOf_85 : decode cX4_wordOf 85 = .ok (.iconst 3, 1) := dk_6 (dk_at dksX4_wordOf_3 16 rfl rfl)
theorem dX4_wordOf_86 : decode cX4_wordOf 86 = .ok (.if_icmp .ne 8, 3) := dk_160 0 8 (dk_at dksX4_wordOf_3 17 rfl rfl)
theorem dX4_wordOf_89 : decode cX4_wordOf 89 = .ok (.bipush 7, 2) := dk_16 7 (dk_at dksX4_wordOf_3 20 rfl rfl)
theorem dX4_wordOf_91 : decode cX4_wordOf 91 = .ok (.goto 26, 3) := dk_167 0 26 (dk_at dksX4_wordOf_4 0 rfl rfl)
theorem dX4_wordOf_94 : decode cX4_wordOf 94 = .ok (.iload_n 1, 1) := dk_27 (dk_at dksX4_wordOf_4 3 rfl rfl)
theorem dX4_wordOf_95 : decode cX4_wordOf 95 = .ok (.bipush 16, 2) := dk_16 16 (dk_at dksX4_wordOf_4 4 rfl rfl)
theorem dX4_wordOf_97 : decode cX4_wordOf 97 = .ok (.if_icmp .ne 8, 3) := dk_160 0 8 (dk_at dksX4_wordOf_4 6 rfl rfl)
theorem dX4_wordOf_100 : decode cX4_wordOf 100 = .ok (.bipush 8, 2) := dk_16 8 (dk_at dksX4_wordOf_4 9 rfl rfl)
theorem dX4_wordOf_102 : decode cX4_wordOf 102 = .ok (.goto 15, 3) := dk_167 0 15 (dk_at dksX4_wordOf_4 11 rfl rfl)
theorem dX4_wordOf_105 : decode cX4_wordOf 105 = .ok (.iload_n 1, 1) := dk_27 (dk_at dksX4_wordOf_4 14 rfl rfl)
theorem dX4_wordOf_106 : decode cX4_wordOf 106 = .ok (.bipush 17, 2) := dk_16 17 (dk_at dksX4_wordOf_4 15 rfl rfl)
theorem dX4_wordOf_108 : decode cX4_wordOf 108 = .ok (.if_icmp .ne 8, 3) := dk_160 0 8 (dk_at dksX4_wordOf_4 17 rfl rfl)
theorem dX4_wordOf_111 : decode cX4_wordOf 111 = .ok (.bipush 9, 2) := dk_16 9 (dk_at dksX4_wordOf_4 20 rfl rfl)
theorem dX4_wordOf_113 : decode cX4_wordOf 113 = .ok (.goto 4, 3) := dk_167 0 4 (dk_at dksX4_wordOf_5 0 rfl rfl)
theorem dX4_wordOf_116 : decode cX4_wordOf 116 = .ok (.iconst (-1), 1) := dk_2 (dk_at dksX4_wordOf_5 3 rfl rfl)
theorem dX4_wordOf_117 : decode cX4_wordOf 117 = .ok (.ireturn, 1) := dk_172 (dk_at dksX4_wordOf_5 4 rfl rfl)
abbrev cX4_goesIn : ByteArray := prog_11_method_18_code
def yX4_goesIn : MethodName := ⟨RX4, "goesIn", "(I)Z"⟩
def dkwX4_goesIn_1 : List UInt8 := [180, 0, 125, 154, 0, 7, 4, 167, 0, 4, 3, 172]
abbrev dktX4_goesIn_1 : List UInt8 := dkwX4_goesIn_1 ++ []
def dkwX4_goesIn_0 : List UInt8 := [27, 16, 6, 160, 0, 8, 42, 7, 182, 0, 137, 42, 180, 0, 125, 154, 0, 7, 42, 182, 0, 134, 42]
abbrev dktX4_goesIn_0 : List UInt8 := dkwX4_goesIn_0 ++ dktX4_goesIn_1
theorem dksX4_goesIn_0 : cX4_goesIn.data.toList.drop 0 = dktX4_goesIn_0 := by decide +kernel
theorem dksX4_goesIn_1 : cX4_goesIn.data.toList.drop 23 = dktX4_goesIn_1 := dk_seg dksX4_goesIn_0 23 rfl rfl
theorem dX4_goesIn_0 : decode cX4_goesIn 0 = .ok (.iload_n 1, 1) := dk_27 (dk_at dksX4_goesIn_0 0 rfl rfl)
theorem dX4_goesIn_1 : decode cX4_goesIn 1 = .ok (.bipush 6, 2) := dk_16 6 (dk_at dksX4_goesIn_0 1 rfl rfl)
theorem dX4_goesIn_3 : decode cX4_goesIn 3 = .ok (.if_icmp .ne 8, 3) := dk_160 0 8 (dk_at dksX4_goesIn_0 3 rfl rfl)
theorem dX4_goesIn_6 : decode cX4_goesIn 6 = .ok (.aload_n 0, 1) := dk_42 (dk_at dksX4_goesIn_0 6 rfl rfl)
theorem dX4_goesIn_7 : decode cX4_goesIn 7 = .ok (.iconst 4, 1) := dk_7 (dk_at dksX4_goesIn_0 7 rfl rfl)
theorem dX4_goesIn_8 : decode cX4_goesIn 8 = .ok (.invokevirtual 137, 3) := dk_182 0 137 (dk_at dksX4_goesIn_0 8 rfl rfl)
theorem dX4_goesIn_11 : decode cX4_goesIn 11 = .ok (.aload_n 0, 1) := dk_42 (dk_at dksX4_goesIn_0 11 rfl rfl)
theorem dX4_goesIn_12 : decode cX4_goesIn 12 = .ok (.getfield 125, 3) := dk_180 0 125 (dk_at dksX4_goesIn_0 12 rfl rfl)
theorem dX4_goesIn_15 : decode cX4_goesIn 15 = .ok (.ifCond .ne 7, 3) := dk_154 0 7 (dk_at dksX4_goesIn_0 15 rfl rfl)
theorem dX4_goesIn_18 : decode cX4_goesIn 18 = .ok (.aload_n 0, 1) := dk_42 (dk_at dksX4_goesIn_0 18 rfl rfl)
theorem dX4_goesIn_19 : decode cX4_goesIn 19 = .ok (.invokevirtual 134, 3) := dk_182 0 134 (dk_at dksX4_goesIn_0 19 rfl rfl)
theorem dX4_goesIn_22 : decode cX4_goesIn 22 = .ok (.aload_n 0, 1) := dk_42 (dk_at dksX4_goesIn_0 22 rfl rfl)
theorem dX4_goesIn_23 : decode cX4_goesIn 23 = .ok (.getfield 125, 3) := dk_180 0 125 (dk_at dksX4_goesIn_1 0 rfl rfl)
theorem dX4_goesIn_26 : decode cX4_goesIn 26 = .ok (.ifCond .ne 7, 3) := dk_154 0 7 (dk_at dksX4_goesIn_1 3 rfl rfl)
theorem dX4_goesIn_29 : decode cX4_goesIn 29 = .ok (.iconst 1, 1) := dk_4 (dk_at dksX4_goesIn_1 6 rfl rfl)
theorem dX4_goesIn_30 : decode cX4_goesIn 30 = .ok (.goto 4, 3) := dk_167 0 4 (dk_at dksX4_goesIn_1 7 rfl rfl)
theorem dX4_goesIn_33 : decode cX4_goesIn 33 = .ok (.iconst 0, 1) := dk_3 (dk_at dksX4_goesIn_1 10 rfl rfl)
theorem dX4_goesIn_34 : decode cX4_goesIn 34 = .ok (.ireturn, 1) := dk_172 (dk_at dksX4_goesIn_1 11 rfl rfl)
abbrev cX4_readOne : ByteArray := prog_11_method_27_code
def yX4_readOne : MethodName := ⟨RX4, "readOne", "(I)V"⟩
def dkwX4_readOne_1 : List UInt8 := [27, 28, 79, 177]
abbrev dktX4_readOne_1 : List UInt8 := dkwX4_readOne_1 ++ []
def dkwX4_readOne_0 : List UInt8 := [42, 182, 0, 134, 42, 3, 17, 3, 231, 182, 0, 169, 61, 42, 180, 0, 125, 154, 0, 10, 42, 180, 0, 24]
abbrev dktX4_readOne_0 : List UInt8 := dkwX4_readOne_0 ++ dktX4_readOne_1
theorem dksX4_readOne_0 : cX4_readOne.data.toList.drop 0 = dktX4_readOne_0 := by decide +kernel
theorem dksX4_readOne_1 : cX4_readOne.data.toList.drop 24 = dktX4_readOne_1 := dk_seg dksX4_readOne_0 24 rfl rfl
theorem dX4_readOne_0 : decode cX4_readOne 0 = .ok (.aload_n 0, 1) := dk_42 (dk_at dksX4_readOne_0 0 rfl rfl)
theorem dX4_readOne_1 : decode cX4_readOne 1 = .ok (.invokevirtual 134, 3) := dk_182 0 134 (dk_at dksX4_readOne_0 1 rfl rfl)
theorem dX4_readOne_4 : decode cX4_readOne 4 = .ok (.aload_n 0, 1) := dk_42 (dk_at dksX4_readOne_0 4 rfl rfl)
theorem dX4_readOne_5 : decode cX4_readOne 5 = .ok (.iconst 0, 1) := dk_3 (dk_at dksX4_readOne_0 5 rfl rfl)
theorem dX4_readOne_6 : decode cX4_readOne 6 = .ok (.sipush 999, 3) := dk_17 3 231 (dk_at dksX4_readOne_0 6 rfl rfl)
theorem dX4_readOne_9 : decode cX4_readOne 9 = .ok (.invokevirtual 169, 3) := dk_182 0 169 (dk_at dksX4_readOne_0 9 rfl rfl)
theorem dX4_readOne_12 : decode cX4_readOne 12 = .ok (.istore_n 2, 1) := dk_61 (dk_at dksX4_readOne_0 12 rfl rfl)
theorem dX4_readOne_13 : decode cX4_readOne 13 = .ok (.aload_n 0, 1) := dk_42 (dk_at dksX4_readOne_0 13 rfl rfl)
theorem dX4_readOne_14 : decode cX4_readOne 14 = .ok (.getfield 125, 3) := dk_180 0 125 (dk_at dksX4_readOne_0 14 rfl rfl)
theorem dX4_readOne_17 : decode cX4_readOne 17 = .ok (.ifCond .ne 10, 3) := dk_154 0 10 (dk_at dksX4_readOne_0 17 rfl rfl)
theorem dX4_readOne_20 : decode cX4_readOne 20 = .ok (.aload_n 0, 1) := dk_42 (dk_at dksX4_readOne_0 20 rfl rfl)
theorem dX4_readOne_21 : decode cX4_readOne 21 = .ok (.getfield 24, 3) := dk_180 0 24 (dk_at dksX4_readOne_0 21 rfl rfl)
theorem dX4_readOne_24 : decode cX4_readOne 24 = .ok (.iload_n 1, 1) := dk_27 (dk_at dksX4_readOne_1 0 rfl rfl)
theorem dX4_readOne_25 : decode cX4_readOne 25 = .ok (.iload_n 2, 1) := dk_28 (dk_at dksX4_readOne_1 1 rfl rfl)
theorem dX4_readOne_26 : decode cX4_readOne 26 = .ok (.iastore, 1) := dk_79 (dk_at dksX4_readOne_1 2 rfl rfl)
theorem dX4_readOne_27 : decode cX4_readOne 27 = .ok (.return_, 1) := dk_177 (dk_at dksX4_readOne_1 3 rfl rfl)
abbrev cX4_readBuild : ByteArray := prog_11_method_26_code
def yX4_readBuild : MethodName := ⟨RX4, "readBuild", "()V"⟩
def dkwX4_readBuild_2 : List UInt8 := [5, 27, 79, 42, 180, 0, 24, 6, 28, 79, 177]
abbrev dktX4_readBuild_2 : List UInt8 := dkwX4_readBuild_2 ++ []
def dkwX4_readBuild_1 : List UInt8 := [182, 0, 137, 42, 3, 17, 3, 231, 182, 0, 169, 61, 42, 180, 0, 125, 153, 0, 4, 177, 42, 180, 0, 24]
abbrev dktX4_readBuild_1 : List UInt8 := dkwX4_readBuild_1 ++ dktX4_readBuild_2
def dkwX4_readBuild_0 : List UInt8 := [42, 182, 0, 134, 42, 3, 17, 3, 231, 182, 0, 169, 60, 42, 16, 10, 182, 0, 160, 154, 0, 8, 42, 5]
abbrev dktX4_readBuild_0 : List UInt8 := dkwX4_readBuild_0 ++ dktX4_readBuild_1
theorem dksX4_readBuild_0 : cX4_readBuild.data.toList.drop 0 = dktX4_readBuild_0 := by decide +kernel
theorem dksX4_readBuild_1 : cX4_readBuild.data.toList.drop 24 = dktX4_readBuild_1 := dk_seg dksX4_readBuild_0 24 rfl rfl
theorem dksX4_readBuild_2 : cX4_readBuild.data.toList.drop 48 = dktX4_readBuild_2 := dk_seg dksX4_readBuild_1 24 rfl rfl
theorem dX4_readBuild_0 : decode cX4_readBuild 0 = .ok (.aload_n 0, 1) := dk_42 (dk_at dksX4_readBuild_0 0 rfl rfl)
theorem dX4_readBuild_1 : decode cX4_readBuild 1 = .ok (.invokevirtual 134, 3) := dk_182 0 134 (dk_at dksX4_readBuild_0 1 rfl rfl)
theorem dX4_readBuild_4 : decode cX4_readBuild 4 = .ok (.aload_n 0, 1) := dk_42 (dk_at dksX4_readBuild_0 4 rfl rfl)
theorem dX4_readBuild_5 : decode cX4_readBuild 5 = .ok (.iconst 0, 1) := dk_3 (dk_at dksX4_readBuild_0 5 rfl rfl)
theorem dX4_readBuild_6 : decode cX4_readBuild 6 = .ok (.sipush 999, 3) := dk_17 3 231 (dk_at dksX4_readBuild_0 6 rfl rfl)
theorem dX4_readBuild_9 : decode cX4_readBuild 9 = .ok (.invokevirtual 169, 3) := dk_182 0 169 (dk_at dksX4_readBuild_0 9 rfl rfl)
theorem dX4_readBuild_12 : decode cX4_readBuild 12 = .ok (.istore_n 1, 1) := dk_60 (dk_at dksX4_readBuild_0 12 rfl rfl)
theorem dX4_readBuild_13 : decode cX4_readBuild 13 = .ok (.aload_n 0, 1) := dk_42 (dk_at dksX4_readBuild_0 13 rfl rfl)
theorem dX4_readBuild_14 : decode cX4_readBuild 14 = .ok (.bipush 10, 2) := dk_16 10 (dk_at dksX4_readBuild_0 14 rfl rfl)
theorem dX4_readBuild_16 : decode cX4_readBuild 16 = .ok (.invokevirtual 160, 3) := dk_182 0 160 (dk_at dksX4_readBuild_0 16 rfl rfl)
theorem dX4_readBuild_19 : decode cX4_readBuild 19 = .ok (.ifCond .ne 8, 3) := dk_154 0 8 (dk_at dksX4_readBuild_0 19 rfl rfl)
theorem dX4_readBuild_22 : decode cX4_readBuild 22 = .ok (.aload_n 0, 1) := dk_42 (dk_at dksX4_readBuild_0 22 rfl rfl)
theorem dX4_readBuild_23 : decode cX4_readBuild 23 = .ok (.iconst 2, 1) := dk_5 (dk_at dksX4_readBuild_0 23 rfl rfl)
theorem dX4_readBuild_24 : decode cX4_readBuild 24 = .ok (.invokevirtual 137, 3) := dk_182 0 137 (dk_at dksX4_readBuild_1 0 rfl rfl)
theorem dX4_readBuild_27 : decode cX4_readBuild 27 = .ok (.aload_n 0, 1) := dk_42 (dk_at dksX4_readBuild_1 3 rfl rfl)
theorem dX4_readBuild_28 : decode cX4_readBuild 28 = .ok (.iconst 0, 1) := dk_3 (dk_at dksX4_readBuild_1 4 rfl rfl)
theorem dX4_readBuild_29 : decode cX4_readBuild 29 = .ok (.sipush 999, 3) := dk_17 3 231 (dk_at dksX4_readBuild_1 5 rfl rfl)
theorem dX4_readBuild_32 : decode cX4_readBuild 32 = .ok (.invokevirtual 169, 3) := dk_182 0 169 (dk_at dksX4_readBuild_1 8 rfl rfl)
theorem dX4_readBuild_35 : decode cX4_readBuild 35 = .ok (.istore_n 2, 1) := dk_61 (dk_at dksX4_readBuild_1 11 rfl rfl)
theorem dX4_readBuild_36 : decode cX4_readBuild 36 = .ok (.aload_n 0, 1) := dk_42 (dk_at dksX4_readBuild_1 12 rfl rfl)
theorem dX4_readBuild_37 : decode cX4_readBuild 37 = .ok (.getfield 125, 3) := dk_180 0 125 (dk_at dksX4_readBuild_1 13 rfl rfl)
theorem dX4_readBuild_40 : decode cX4_readBuild 40 = .ok (.ifCond .eq 4, 3) := dk_153 0 4 (dk_at dksX4_readBuild_1 16 rfl rfl)
theorem dX4_readBuild_43 : decode cX4_readBuild 43 = .ok (.return_, 1) := dk_177 (dk_at dksX4_readBuild_1 19 rfl rfl)
theorem dX4_readBuild_44 : decode cX4_readBuild 44 = .ok (.aload_n 0, 1) := dk_42 (dk_at dksX4_readBuild_1 20 rfl rfl)
theorem dX4_readBuild_45 : decode cX4_readBuild 45 = .ok (.getfield 24, 3) := dk_180 0 24 (dk_at dksX4_readBuild_1 21 rfl rfl)
theorem dX4_readBuild_48 : decode cX4_readBuild 48 = .ok (.iconst 2, 1) := dk_5 (dk_at dksX4_readBuild_2 0 rfl rfl)
theorem dX4_readBuild_49 : decode cX4_readBuild 49 = .ok (.iload_n 1, 1) := dk_27 (dk_at dksX4_readBuild_2 1 rfl rfl)
theorem dX4_readBuild_50 : decode cX4_readBuild 50 = .ok (.iastore, 1) := dk_79 (dk_at dksX4_readBuild_2 2 rfl rfl)
theorem dX4_readBuild_51 : decode cX4_readBuild 51 = .ok (.aload_n 0, 1) := dk_42 (dk_at dksX4_readBuild_2 3 rfl rfl)
theorem dX4_readBuild_52 : decode cX4_readBuild 52 = .ok (.getfield 24, 3) := dk_180 0 24 (dk_at dksX4_readBuild_2 4 rfl rfl)
theorem dX4_readBuild_55 : decode cX4_readBuild 55 = .ok (.iconst 3, 1) := dk_6 (dk_at dksX4_readBuild_2 7 rfl rfl)
theorem dX4_readBuild_56 : decode cX4_readBuild 56 = .ok (.iload_n 2, 1) := dk_28 (dk_at dksX4_readBuild_2 8 rfl rfl)
theorem dX4_readBuild_57 : decode cX4_readBuild 57 = .ok (.iastore, 1) := dk_79 (dk_at dksX4_readBuild_2 9 rfl rfl)
theorem dX4_readBuild_58 : decode cX4_readBuild 58 = .ok (.return_, 1) := dk_177 (dk_at dksX4_readBuild_2 10 rfl rfl)
abbrev cX4_fault : ByteArray := prog_11_method_30_code
def yX4_fault : MethodName := ⟨RX4, "fault", "(I)I"⟩
def dkwX4_fault_1 : List UInt8 := [180, 0, 27, 167, 0, 4, 2, 172]
abbrev dktX4_fault_1 : List UInt8 := dkwX4_fault_1 ++ []
def dkwX4_fault_0 : List UInt8 := [42, 3, 181, 0, 1, 27, 154, 0, 10, 42, 180, 0, 194, 167, 0, 16, 27, 4, 160, 0, 10, 42]
abbrev dktX4_fault_0 : List UInt8 := dkwX4_fault_0 ++ dktX4_fault_1
theorem dksX4_fault_0 : cX4_fault.data.toList.drop 0 = dktX4_fault_0 := by decide +kernel
theorem dksX4_fault_1 : cX4_fault.data.toList.drop 22 = dktX4_fault_1 := dk_seg dksX4_fault_0 22 rfl rfl
theorem dX4_fault_0 : decode cX4_fault 0 = .ok (.aload_n 0, 1) := dk_42 (dk_at dksX4_fault_0 0 rfl rfl)
theorem dX4_fault_1 : decode cX4_fault 1 = .ok (.iconst 0, 1) := dk_3 (dk_at dksX4_fault_0 1 rfl rfl)
theorem dX4_fault_2 : decode cX4_fault 2 = .ok (.putfield 1, 3) := dk_181 0 1 (dk_at dksX4_fault_0 2 rfl rfl)
theorem dX4_fault_5 : decode cX4_fault 5 = .ok (.iload_n 1, 1) := dk_27 (dk_at dksX4_fault_0 5 rfl rfl)
theorem dX4_fault_6 : decode cX4_fault 6 = .ok (.ifCond .ne 10, 3) := dk_154 0 10 (dk_at dksX4_fault_0 6 rfl rfl)
theorem dX4_fault_9 : decode cX4_fault 9 = .ok (.aload_n 0, 1) := dk_42 (dk_at dksX4_fault_0 9 rfl rfl)
theorem dX4_fault_10 : decode cX4_fault 10 = .ok (.getfield 194, 3) := dk_180 0 194 (dk_at dksX4_fault_0 10 rfl rfl)
theorem dX4_fault_13 : decode cX4_fault 13 = .ok (.goto 16, 3) := dk_167 0 16 (dk_at dksX4_fault_0 13 rfl rfl)
theorem dX4_fault_16 : decode cX4_fault 16 = .ok (.iload_n 1, 1) := dk_27 (dk_at dksX4_fault_0 16 rfl rfl)
theorem dX4_fault_17 : decode cX4_fault 17 = .ok (.iconst 1, 1) := dk_4 (dk_at dksX4_fault_0 17 rfl rfl)
theorem dX4_fault_18 : decode cX4_fault 18 = .ok (.if_icmp .ne 10, 3) := dk_160 0 10 (dk_at dksX4_fault_0 18 rfl rfl)
theorem dX4_fault_21 : decode cX4_fault 21 = .ok (.aload_n 0, 1) := dk_42 (dk_at dksX4_fault_0 21 rfl rfl)
theorem dX4_fault_22 : decode cX4_fault 22 = .ok (.getfield 27, 3) := dk_180 0 27 (dk_at dksX4_fault_1 0 rfl rfl)
theorem dX4_fault_25 : decode cX4_fault 25 = .ok (.goto 4, 3) := dk_167 0 4 (dk_at dksX4_fault_1 3 rfl rfl)
theorem dX4_fault_28 : decode cX4_fault 28 = .ok (.iconst (-1), 1) := dk_2 (dk_at dksX4_fault_1 6 rfl rfl)
theorem dX4_fault_29 : decode cX4_fault 29 = .ok (.ireturn, 1) := dk_172 (dk_at dksX4_fault_1 7 rfl rfl)
abbrev cX4_storey : ByteArray := prog_11_method_44_code
def yX4_storey : MethodName := ⟨RX4, "storey", "(II)I"⟩
def dkwX4_storey_3 : List UInt8 := [153, 0, 7, 4, 167, 0, 4, 3, 172]
abbrev dktX4_storey_3 : List UInt8 := dkwX4_storey_3 ++ []
def dkwX4_storey_2 : List UInt8 := [160, 0, 11, 42, 27, 182, 0, 226, 167, 0, 22, 27, 42, 180, 0, 13, 16, 41, 46, 184, 0, 205]
abbrev dktX4_storey_2 : List UInt8 := dkwX4_storey_2 ++ dktX4_storey_3
def dkwX4_storey_1 : List UInt8 := [154, 0, 6, 16, 254, 172, 28, 154, 0, 15, 42, 180, 0, 13, 16, 21, 27, 96, 46, 167, 0, 35, 28, 4]
abbrev dktX4_storey_1 : List UInt8 := dkwX4_storey_1 ++ dktX4_storey_2
def dkwX4_storey_0 : List UInt8 := [42, 3, 181, 0, 1, 42, 27, 133, 182, 0, 220, 153, 0, 15, 28, 133, 9, 20, 0, 224, 184, 0, 141]
abbrev dktX4_storey_0 : List UInt8 := dkwX4_storey_0 ++ dktX4_storey_1
theorem dksX4_storey_0 : cX4_storey.data.toList.drop 0 = dktX4_storey_0 := by decide +kernel
theorem dksX4_storey_1 : cX4_storey.data.toList.drop 23 = dktX4_storey_1 := dk_seg dksX4_storey_0 23 rfl rfl
theorem dksX4_storey_2 : cX4_storey.data.toList.drop 47 = dktX4_storey_2 := dk_seg dksX4_storey_1 24 rfl rfl
theorem dksX4_storey_3 : cX4_storey.data.toList.drop 69 = dktX4_storey_3 := dk_seg dksX4_storey_2 22 rfl rfl
theorem dX4_storey_0 : decode cX4_storey 0 = .ok (.aload_n 0, 1) := dk_42 (dk_at dksX4_storey_0 0 rfl rfl)
theorem dX4_storey_1 : decode cX4_storey 1 = .ok (.iconst 0, 1) := dk_3 (dk_at dksX4_storey_0 1 rfl rfl)
theorem dX4_storey_2 : decode cX4_storey 2 = .ok (.putfield 1, 3) := dk_181 0 1 (dk_at dksX4_storey_0 2 rfl rfl)
theorem dX4_storey_5 : decode cX4_storey 5 = .ok (.aload_n 0, 1) := dk_42 (dk_at dksX4_storey_0 5 rfl rfl)
theorem dX4_storey_6 : decode cX4_storey 6 = .ok (.iload_n 1, 1) := dk_27 (dk_at dksX4_storey_0 6 rfl rfl)
theorem dX4_storey_7 : decode cX4_storey 7 = .ok (.i2l, 1) := dk_133 (dk_at dksX4_storey_0 7 rfl rfl)
theorem dX4_storey_8 : decode cX4_storey 8 = .ok (.invokevirtual 220, 3) := dk_182 0 220 (dk_at dksX4_storey_0 8 rfl rfl)
theorem dX4_storey_11 : decode cX4_storey 11 = .ok (.ifCond .eq 15, 3) := dk_153 0 15 (dk_at dksX4_storey_0 11 rfl rfl)
theorem dX4_storey_14 : decode cX4_storey 14 = .ok (.iload_n 2, 1) := dk_28 (dk_at dksX4_storey_0 14 rfl rfl)
theorem dX4_storey_15 : decode cX4_storey 15 = .ok (.i2l, 1) := dk_133 (dk_at dksX4_storey_0 15 rfl rfl)
theorem dX4_storey_16 : decode cX4_storey 16 = .ok (.lconst 0, 1) := dk_9 (dk_at dksX4_storey_0 16 rfl rfl)
theorem dX4_storey_17 : decode cX4_storey 17 = .ok (.ldc2_w 224, 3) := dk_20 0 224 (dk_at dksX4_storey_0 17 rfl rfl)
theorem dX4_storey_20 : decode cX4_storey 20 = .ok (.invokestatic 141, 3) := dk_184 0 141 (dk_at dksX4_storey_0 20 rfl rfl)
theorem dX4_storey_23 : decode cX4_storey 23 = .ok (.ifCond .ne 6, 3) := dk_154 0 6 (dk_at dksX4_storey_1 0 rfl rfl)
theorem dX4_storey_26 : decode cX4_storey 26 = .ok (.bipush (-2), 2) := dk_16 254 (dk_at dksX4_storey_1 3 rfl rfl)
theorem dX4_storey_28 : decode cX4_storey 28 = .ok (.ireturn, 1) := dk_172 (dk_at dksX4_storey_1 5 rfl rfl)
theorem dX4_storey_29 : decode cX4_storey 29 = .ok (.iload_n 2, 1) := dk_28 (dk_at dksX4_storey_1 6 rfl rfl)
theorem dX4_storey_30 : decode cX4_storey 30 = .ok (.ifCond .ne 15, 3) := dk_154 0 15 (dk_at dksX4_storey_1 7 rfl rfl)
theorem dX4_storey_33 : decode cX4_storey 33 = .ok (.aload_n 0, 1) := dk_42 (dk_at dksX4_storey_1 10 rfl rfl)
theorem dX4_storey_34 : decode cX4_storey 34 = .ok (.getfield 13, 3) := dk_180 0 13 (dk_at dksX4_storey_1 11 rfl rfl)
theorem dX4_storey_37 : decode cX4_storey 37 = .ok (.bipush 21, 2) := dk_16 21 (dk_at dksX4_storey_1 14 rfl rfl)
theorem dX4_storey_39 : decode cX4_storey 39 = .ok (.iload_n 1, 1) := dk_27 (dk_at dksX4_storey_1 16 rfl rfl)
theorem dX4_storey_40 : decode cX4_storey 40 = .ok (.iadd, 1) := dk_96 (dk_at dksX4_storey_1 17 rfl rfl)
theorem dX4_storey_41 : decode cX4_storey 41 = .ok (.iaload, 1) := dk_46 (dk_at dksX4_storey_1 18 rfl rfl)
theorem dX4_storey_42 : decode cX4_storey 42 = .ok (.goto 35, 3) := dk_167 0 35 (dk_at dksX4_storey_1 19 rfl rfl)
theorem dX4_storey_45 : decode cX4_storey 45 = .ok (.iload_n 2, 1) := dk_28 (dk_at dksX4_storey_1 22 rfl rfl)
theorem dX4_storey_46 : decode cX4_storey 46 = .ok (.iconst 1, 1) := dk_4 (dk_at dksX4_storey_1 23 rfl rfl)
theorem dX4_storey_47 : decode cX4_storey 47 = .ok (.if_icmp .ne 11, 3) := dk_160 0 11 (dk_at dksX4_storey_2 0 rfl rfl)
theorem dX4_storey_50 : decode cX4_storey 50 = .ok (.aload_n 0, 1) := dk_42 (dk_at dksX4_storey_2 3 rfl rfl)
theorem dX4_storey_51 : decode cX4_storey 51 = .ok (.iload_n 1, 1) := dk_27 (dk_at dksX4_storey_2 4 rfl rfl)
theorem dX4_storey_52 : decode cX4_storey 52 = .ok (.invokevirtual 226, 3) := dk_182 0 226 (dk_at dksX4_storey_2 5 rfl rfl)
theorem dX4_storey_55 : decode cX4_storey 55 = .ok (.goto 22, 3) := dk_167 0 22 (dk_at dksX4_storey_2 8 rfl rfl)
theorem dX4_storey_58 : decode cX4_storey 58 = .ok (.iload_n 1, 1) := dk_27 (dk_at dksX4_storey_2 11 rfl rfl)
theorem dX4_storey_59 : decode cX4_storey 59 = .ok (.aload_n 0, 1) := dk_42 (dk_at dksX4_storey_2 12 rfl rfl)
theorem dX4_storey_60 : decode cX4_storey 60 = .ok (.getfield 13, 3) := dk_180 0 13 (dk_at dksX4_storey_2 13 rfl rfl)
theorem dX4_storey_63 : decode cX4_storey 63 = .ok (.bipush 41, 2) := dk_16 41 (dk_at dksX4_storey_2 16 rfl rfl)
theorem dX4_storey_65 : decode cX4_storey 65 = .ok (.iaload, 1) := dk_46 (dk_at dksX4_storey_2 18 rfl rfl)
theorem dX4_storey_66 : decode cX4_storey 66 = .ok (.invokestatic 205, 3) := dk_184 0 205 (dk_at dksX4_storey_2 19 rfl rfl)
theorem dX4_storey_69 : decode cX4_storey 69 = .ok (.ifCond .eq 7, 3) := dk_153 0 7 (dk_at dksX4_storey_3 0 rfl rfl)
theorem dX4_storey_72 : decode cX4_storey 72 = .ok (.iconst 1, 1) := dk_4 (dk_at dksX4_storey_3 3 rfl rfl)
theorem dX4_storey_73 : decode cX4_storey 73 = .ok (.goto 4, 3) := dk_167 0 4 (dk_at dksX4_storey_3 4 rfl rfl)
theorem dX4_storey_76 : decode cX4_storey 76 = .ok (.iconst 0, 1) := dk_3 (dk_at dksX4_storey_3 7 rfl rfl)
theorem dX4_storey_77 : decode cX4_storey 77 = .ok (.ireturn, 1) := dk_172 (dk_at dksX4_storey_3 8 rfl rfl)
abbrev cX4_isStorey : ByteArray := prog_11_method_31_code
def yX4_isStorey : MethodName := ⟨RX4, "isStorey", "(J)Z"⟩
def dkwX4_isStorey_0 : List UInt8 := [31, 9, 42, 180, 0, 13, 16, 20, 46, 4, 100, 133, 184, 0, 141, 172]
abbrev dktX4_isStorey_0 : List UInt8 := dkwX4_isStorey_0 ++ []
theorem dksX4_isStorey_0 : cX4_isStorey.data.toList.drop 0 = dktX4_isStorey_0 := by decide +kernel
theorem dX4_isStorey_0 : decode cX4_isStorey 0 = .ok (.lload_n 1, 1) := dk_31 (dk_at dksX4_isStorey_0 0 rfl rfl)
theorem dX4_isStorey_1 : decode cX4_isStorey 1 = .ok (.lconst 0, 1) := dk_9 (dk_at dksX4_isStorey_0 1 rfl rfl)
theorem dX4_isStorey_2 : decode cX4_isStorey 2 = .ok (.aload_n 0, 1) := dk_42 (dk_at dksX4_isStorey_0 2 rfl rfl)
theorem dX4_isStorey_3 : decode cX4_isStorey 3 = .ok (.getfield 13, 3) := dk_180 0 13 (dk_at dksX4_isStorey_0 3 rfl rfl)
theorem dX4_isStorey_6 : decode cX4_isStorey 6 = .ok (.bipush 20, 2) := dk_16 20 (dk_at dksX4_isStorey_0 6 rfl rfl)
theorem dX4_isStorey_8 : decode cX4_isStorey 8 = .ok (.iaload, 1) := dk_46 (dk_at dksX4_isStorey_0 8 rfl rfl)
theorem dX4_isStorey_9 : decode cX4_isStorey 9 = .ok (.iconst 1, 1) := dk_4 (dk_at dksX4_isStorey_0 9 rfl rfl)
theorem dX4_isStorey_10 : decode cX4_isStorey 10 = .ok (.isub, 1) := dk_100 (dk_at dksX4_isStorey_0 10 rfl rfl)
theorem dX4_isStorey_11 : decode cX4_isStorey 11 = .ok (.i2l, 1) := dk_133 (dk_at dksX4_isStorey_0 11 rfl rfl)
theorem dX4_isStorey_12 : decode cX4_isStorey 12 = .ok (.invokestatic 141, 3) := dk_184 0 141 (dk_at dksX4_isStorey_0 12 rfl rfl)
theorem dX4_isStorey_15 : decode cX4_isStorey 15 = .ok (.ireturn, 1) := dk_172 (dk_at dksX4_isStorey_0 15 rfl rfl)
abbrev cX4_livesOn : ByteArray := prog_11_method_33_code
def yX4_livesOn : MethodName := ⟨RX4, "livesOn", "(I)I"⟩
def dkwX4_livesOn_1 : List UInt8 := [160, 0, 5, 28, 172, 132, 2, 1, 167, 255, 228, 2, 172]
abbrev dktX4_livesOn_1 : List UInt8 := dkwX4_livesOn_1 ++ []
def dkwX4_livesOn_0 : List UInt8 := [3, 61, 28, 42, 180, 0, 13, 4, 46, 162, 0, 24, 42, 180, 0, 13, 16, 35, 28, 96, 46, 27]
abbrev dktX4_livesOn_0 : List UInt8 := dkwX4_livesOn_0 ++ dktX4_livesOn_1
theorem dksX4_livesOn_0 : cX4_livesOn.data.toList.drop 0 = dktX4_livesOn_0 := by decide +kernel
theorem dksX4_livesOn_1 : cX4_livesOn.data.toList.drop 22 = dktX4_livesOn_1 := dk_seg dksX4_livesOn_0 22 rfl rfl
theorem dX4_livesOn_0 : decode cX4_livesOn 0 = .ok (.iconst 0, 1) := dk_3 (dk_at dksX4_livesOn_0 0 rfl rfl)
theorem dX4_livesOn_1 : decode cX4_livesOn 1 = .ok (.istore_n 2, 1) := dk_61 (dk_at dksX4_livesOn_0 1 rfl rfl)
theorem dX4_livesOn_2 : decode cX4_livesOn 2 = .ok (.iload_n 2, 1) := dk_28 (dk_at dksX4_livesOn_0 2 rfl rfl)
theorem dX4_livesOn_3 : decode cX4_livesOn 3 = .ok (.aload_n 0, 1) := dk_42 (dk_at dksX4_livesOn_0 3 rfl rfl)
theorem dX4_livesOn_4 : decode cX4_livesOn 4 = .ok (.getfield 13, 3) := dk_180 0 13 (dk_at dksX4_livesOn_0 4 rfl rfl)
theorem dX4_livesOn_7 : decode cX4_livesOn 7 = .ok (.iconst 1, 1) := dk_4 (dk_at dksX4_livesOn_0 7 rfl rfl)
theorem dX4_livesOn_8 : decode cX4_livesOn 8 = .ok (.iaload, 1) := dk_46 (dk_at dksX4_livesOn_0 8 rfl rfl)
theorem dX4_livesOn_9 : decode cX4_livesOn 9 = .ok (.if_icmp .ge 24, 3) := dk_162 0 24 (dk_at dksX4_livesOn_0 9 rfl rfl)
theorem dX4_livesOn_12 : decode cX4_livesOn 12 = .ok (.aload_n 0, 1) := dk_42 (dk_at dksX4_livesOn_0 12 rfl rfl)
theorem dX4_livesOn_13 : decode cX4_livesOn 13 = .ok (.getfield 13, 3) := dk_180 0 13 (dk_at dksX4_livesOn_0 13 rfl rfl)
theorem dX4_livesOn_16 : decode cX4_livesOn 16 = .ok (.bipush 35, 2) := dk_16 35 (dk_at dksX4_livesOn_0 16 rfl rfl)
theorem dX4_livesOn_18 : decode cX4_livesOn 18 = .ok (.iload_n 2, 1) := dk_28 (dk_at dksX4_livesOn_0 18 rfl rfl)
theorem dX4_livesOn_19 : decode cX4_livesOn 19 = .ok (.iadd, 1) := dk_96 (dk_at dksX4_livesOn_0 19 rfl rfl)
theorem dX4_livesOn_20 : decode cX4_livesOn 20 = .ok (.iaload, 1) := dk_46 (dk_at dksX4_livesOn_0 20 rfl rfl)
theorem dX4_livesOn_21 : decode cX4_livesOn 21 = .ok (.iload_n 1, 1) := dk_27 (dk_at dksX4_livesOn_0 21 rfl rfl)
theorem dX4_livesOn_22 : decode cX4_livesOn 22 = .ok (.if_icmp .ne 5, 3) := dk_160 0 5 (dk_at dksX4_livesOn_1 0 rfl rfl)
theorem dX4_livesOn_25 : decode cX4_livesOn 25 = .ok (.iload_n 2, 1) := dk_28 (dk_at dksX4_livesOn_1 3 rfl rfl)
theorem dX4_livesOn_26 : decode cX4_livesOn 26 = .ok (.ireturn, 1) := dk_172 (dk_at dksX4_livesOn_1 4 rfl rfl)
theorem dX4_livesOn_27 : decode cX4_livesOn 27 = .ok (.iinc 2 1, 3) := dk_132 2 1 (dk_at dksX4_livesOn_1 5 rfl rfl)
theorem dX4_livesOn_30 : decode cX4_livesOn 30 = .ok (.goto (-28), 3) := dk_167 255 228 (dk_at dksX4_livesOn_1 8 rfl rfl)
theorem dX4_livesOn_33 : decode cX4_livesOn 33 = .ok (.iconst (-1), 1) := dk_2 (dk_at dksX4_livesOn_1 11 rfl rfl)
theorem dX4_livesOn_34 : decode cX4_livesOn 34 = .ok (.ireturn, 1) := dk_172 (dk_at dksX4_livesOn_1 12 rfl rfl)
abbrev cX4_isBuried : ByteArray := prog_11_method_35_code
def yX4_isBuried : MethodName := ⟨RX4, "isBuried", "(II)Z"⟩
def dkwX4_isBuried_0 : List UInt8 := [17, 0, 144, 26, 4, 96, 104, 27, 100, 157, 0, 7, 4, 167, 0, 4, 3, 172]
abbrev dktX4_isBuried_0 : List UInt8 := dkwX4_isBuried_0 ++ []
theorem dksX4_isBuried_0 : cX4_isBuried.data.toList.drop 0 = dktX4_isBuried_0 := by decide +kernel
theorem dX4_isBuried_0 : decode cX4_isBuried 0 = .ok (.sipush 144, 3) := dk_17 0 144 (dk_at dksX4_isBuried_0 0 rfl rfl)
theorem dX4_isBuried_3 : decode cX4_isBuried 3 = .ok (.iload_n 0, 1) := dk_26 (dk_at dksX4_isBuried_0 3 rfl rfl)
theorem dX4_isBuried_4 : decode cX4_isBuried 4 = .ok (.iconst 1, 1) := dk_4 (dk_at dksX4_isBuried_0 4 rfl rfl)
theorem dX4_isBuried_5 : decode cX4_isBuried 5 = .ok (.iadd, 1) := dk_96 (dk_at dksX4_isBuried_0 5 rfl rfl)
theorem dX4_isBuried_6 : decode cX4_isBuried 6 = .ok (.imul, 1) := dk_104 (dk_at dksX4_isBuried_0 6 rfl rfl)
theorem dX4_isBuried_7 : decode cX4_isBuried 7 = .ok (.iload_n 1, 1) := dk_27 (dk_at dksX4_isBuried_0 7 rfl rfl)
theorem dX4_isBuried_8 : decode cX4_isBuried 8 = .ok (.isub, 1) := dk_100 (dk_at dksX4_isBuried_0 8 rfl rfl)
theorem dX4_isBuried_9 : decode cX4_isBuried 9 = .ok (.ifCond .gt 7, 3) := dk_157 0 7 (dk_at dksX4_isBuried_0 9 rfl rfl)
theorem dX4_isBuried_12 : decode cX4_isBuried 12 = .ok (.iconst 1, 1) := dk_4 (dk_at dksX4_isBuried_0 12 rfl rfl)
theorem dX4_isBuried_13 : decode cX4_isBuried 13 = .ok (.goto 4, 3) := dk_167 0 4 (dk_at dksX4_isBuried_0 13 rfl rfl)
theorem dX4_isBuried_16 : decode cX4_isBuried 16 = .ok (.iconst 0, 1) := dk_3 (dk_at dksX4_isBuried_0 16 rfl rfl)
theorem dX4_isBuried_17 : decode cX4_isBuried 17 = .ok (.ireturn, 1) := dk_172 (dk_at dksX4_isBuried_0 17 rfl rfl)
abbrev cX4_tenant : ByteArray := prog_11_method_45_code
def yX4_tenant : MethodName := ⟨RX4, "tenant", "(II)I"⟩
def dkwX4_tenant_2 : List UInt8 := [46, 167, 0, 22, 28, 5, 160, 0, 15, 42, 180, 0, 13, 16, 35, 27, 96, 46, 167, 0, 5, 16, 248, 172]
abbrev dktX4_tenant_2 : List UInt8 := dkwX4_tenant_2 ++ []
def dkwX4_tenant_1 : List UInt8 := [180, 0, 13, 16, 29, 27, 96, 46, 167, 0, 39, 28, 4, 160, 0, 15, 42, 180, 0, 13, 16, 14, 27, 96]
abbrev dktX4_tenant_1 : List UInt8 := dkwX4_tenant_1 ++ dktX4_tenant_2
def dkwX4_tenant_0 : List UInt8 := [42, 3, 181, 0, 1, 42, 27, 133, 182, 0, 229, 154, 0, 6, 16, 248, 172, 28, 154, 0, 15, 42]
abbrev dktX4_tenant_0 : List UInt8 := dkwX4_tenant_0 ++ dktX4_tenant_1
theorem dksX4_tenant_0 : cX4_tenant.data.toList.drop 0 = dktX4_tenant_0 := by decide +kernel
theorem dksX4_tenant_1 : cX4_tenant.data.toList.drop 22 = dktX4_tenant_1 := dk_seg dksX4_tenant_0 22 rfl rfl
theorem dksX4_tenant_2 : cX4_tenant.data.toList.drop 46 = dktX4_tenant_2 := dk_seg dksX4_tenant_1 24 rfl rfl
theorem dX4_tenant_0 : decode cX4_tenant 0 = .ok (.aload_n 0, 1) := dk_42 (dk_at dksX4_tenant_0 0 rfl rfl)
theorem dX4_tenant_1 : decode cX4_tenant 1 = .ok (.iconst 0, 1) := dk_3 (dk_at dksX4_tenant_0 1 rfl rfl)
theorem dX4_tenant_2 : decode cX4_tenant 2 = .ok (.putfield 1, 3) := dk_181 0 1 (dk_at dksX4_tenant_0 2 rfl rfl)
theorem dX4_tenant_5 : decode cX4_tenant 5 = .ok (.aload_n 0, 1) := dk_42 (dk_at dksX4_tenant_0 5 rfl rfl)
theorem dX4_tenant_6 : decode cX4_tenant 6 = .ok (.iload_n 1, 1) := dk_27 (dk_at dksX4_tenant_0 6 rfl rfl)
theorem dX4_tenant_7 : decode cX4_tenant 7 = .ok (.i2l, 1) := dk_133 (dk_at dksX4_tenant_0 7 rfl rfl)
theorem dX4_tenant_8 : decode cX4_tenant 8 = .ok (.invokevirtual 229, 3) := dk_182 0 229 (dk_at dksX4_tenant_0 8 rfl rfl)
theorem dX4_tenant_11 : decode cX4_tenant 11 = .ok (.ifCond .ne 6, 3) := dk_154 0 6 (dk_at dksX4_tenant_0 11 rfl rfl)
theorem dX4_tenant_14 : decode cX4_tenant 14 = .ok (.bipush (-8), 2) := dk_16 248 (dk_at dksX4_tenant_0 14 rfl rfl)
theorem dX4_tenant_16 : decode cX4_tenant 16 = .ok (.ireturn, 1) := dk_172 (dk_at dksX4_tenant_0 16 rfl rfl)
theorem dX4_tenant_17 : decode cX4_tenant 17 = .ok (.iload_n 2, 1) := dk_28 (dk_at dksX4_tenant_0 17 rfl rfl)
theorem dX4_tenant_18 : decode cX4_tenant 18 = .ok (.ifCond .ne 15, 3) := dk_154 0 15 (dk_at dksX4_tenant_0 18 rfl rfl)
theorem dX4_tenant_21 : decode cX4_tenant 21 = .ok (.aload_n 0, 1) := dk_42 (dk_at dksX4_tenant_0 21 rfl rfl)
theorem dX4_tenant_22 : decode cX4_tenant 22 = .ok (.getfield 13, 3) := dk_180 0 13 (dk_at dksX4_tenant_1 0 rfl rfl)
theorem dX4_tenant_25 : decode cX4_tenant 25 = .ok (.bipush 29, 2) := dk_16 29 (dk_at dksX4_tenant_1 3 rfl rfl)
theorem dX4_tenant_27 : decode cX4_tenant 27 = .ok (.iload_n 1, 1) := dk_27 (dk_at dksX4_tenant_1 5 rfl rfl)
theorem dX4_tenant_28 : decode cX4_tenant 28 = .ok (.iadd, 1) := dk_96 (dk_at dksX4_tenant_1 6 rfl rfl)
theorem dX4_tenant_29 : decode cX4_tenant 29 = .ok (.iaload, 1) := dk_46 (dk_at dksX4_tenant_1 7 rfl rfl)
theorem dX4_tenant_30 : decode cX4_tenant 30 = .ok (.goto 39, 3) := dk_167 0 39 (dk_at dksX4_tenant_1 8 rfl rfl)
theorem dX4_tenant_33 : decode cX4_tenant 33 = .ok (.iload_n 2, 1) := dk_28 (dk_at dksX4_tenant_1 11 rfl rfl)
theorem dX4_tenant_34 : decode cX4_tenant 34 = .ok (.iconst 1, 1) := dk_4 (dk_at dksX4_tenant_1 12 rfl rfl)
theorem dX4_tenant_35 : decode cX4_tenant 35 = .ok (.if_icmp .ne 15, 3) := dk_160 0 15 (dk_at dksX4_tenant_1 13 rfl rfl)
theorem dX4_tenant_38 : decode cX4_tenant 38 = .ok (.aload_n 0, 1) := dk_42 (dk_at dksX4_tenant_1 16 rfl rfl)
theorem dX4_tenant_39 : decode cX4_tenant 39 = .ok (.getfield 13, 3) := dk_180 0 13 (dk_at dksX4_tenant_1 17 rfl rfl)
theorem dX4_tenant_42 : decode cX4_tenant 42 = .ok (.bipush 14, 2) := dk_16 14 (dk_at dksX4_tenant_1 20 rfl rfl)
theorem dX4_tenant_44 : decode cX4_tenant 44 = .ok (.iload_n 1, 1) := dk_27 (dk_at dksX4_tenant_1 22 rfl rfl)
theorem dX4_tenant_45 : decode cX4_tenant 45 = .ok (.iadd, 1) := dk_96 (dk_at dksX4_tenant_1 23 rfl rfl)
theorem dX4_tenant_46 : decode cX4_tenant 46 = .ok (.iaload, 1) := dk_46 (dk_at dksX4_tenant_2 0 rfl rfl)
theorem dX4_tenant_47 : decode cX4_tenant 47 = .ok (.goto 22, 3) := dk_167 0 22 (dk_at dksX4_tenant_2 1 rfl rfl)
theorem dX4_tenant_50 : decode cX4_tenant 50 = .ok (.iload_n 2, 1) := dk_28 (dk_at dksX4_tenant_2 4 rfl rfl)
theorem dX4_tenant_51 : decode cX4_tenant 51 = .ok (.iconst 2, 1) := dk_5 (dk_at dksX4_tenant_2 5 rfl rfl)
theorem dX4_tenant_52 : decode cX4_tenant 52 = .ok (.if_icmp .ne 15, 3) := dk_160 0 15 (dk_at dksX4_tenant_2 6 rfl rfl)
theorem dX4_tenant_55 : decode cX4_tenant 55 = .ok (.aload_n 0, 1) := dk_42 (dk_at dksX4_tenant_2 9 rfl rfl)
theorem dX4_tenant_56 : decode cX4_tenant 56 = .ok (.getfield 13, 3) := dk_180 0 13 (dk_at dksX4_tenant_2 10 rfl rfl)
theorem dX4_tenant_59 : decode cX4_tenant 59 = .ok (.bipush 35, 2) := dk_16 35 (dk_at dksX4_tenant_2 13 rfl rfl)
theorem dX4_tenant_61 : decode cX4_tenant 61 = .ok (.iload_n 1, 1) := dk_27 (dk_at dksX4_tenant_2 15 rfl rfl)
theorem dX4_tenant_62 : decode cX4_tenant 62 = .ok (.iadd, 1) := dk_96 (dk_at dksX4_tenant_2 16 rfl rfl)
theorem dX4_tenant_63 : decode cX4_tenant 63 = .ok (.iaload, 1) := dk_46 (dk_at dksX4_tenant_2 17 rfl rfl)
theorem dX4_tenant_64 : decode cX4_tenant 64 = .ok (.goto 5, 3) := dk_167 0 5 (dk_at dksX4_tenant_2 18 rfl rfl)
theorem dX4_tenant_67 : decode cX4_tenant 67 = .ok (.bipush (-8), 2) := dk_16 248 (dk_at dksX4_tenant_2 21 rfl rfl)
theorem dX4_tenant_69 : decode cX4_tenant 69 = .ok (.ireturn, 1) := dk_172 (dk_at dksX4_tenant_2 23 rfl rfl)
abbrev cX4_isTenant : ByteArray := prog_11_method_32_code
def yX4_isTenant : MethodName := ⟨RX4, "isTenant", "(J)Z"⟩
def dkwX4_isTenant_0 : List UInt8 := [31, 9, 42, 180, 0, 13, 4, 46, 4, 100, 133, 184, 0, 141, 172]
abbrev dktX4_isTenant_0 : List UInt8 := dkwX4_isTenant_0 ++ []
theorem dksX4_isTenant_0 : cX4_isTenant.data.toList.drop 0 = dktX4_isTenant_0 := by decide +kernel
theorem dX4_isTenant_0 : decode cX4_isTenant 0 = .ok (.lload_n 1, 1) := dk_31 (dk_at dksX4_isTenant_0 0 rfl rfl)
theorem dX4_isTenant_1 : decode cX4_isTenant 1 = .ok (.lconst 0, 1) := dk_9 (dk_at dksX4_isTenant_0 1 rfl rfl)
theorem dX4_isTenant_2 : decode cX4_isTenant 2 = .ok (.aload_n 0, 1) := dk_42 (dk_at dksX4_isTenant_0 2 rfl rfl)
theorem dX4_isTenant_3 : decode cX4_isTenant 3 = .ok (.getfield 13, 3) := dk_180 0 13 (dk_at dksX4_isTenant_0 3 rfl rfl)
theorem dX4_isTenant_6 : decode cX4_isTenant 6 = .ok (.iconst 1, 1) := dk_4 (dk_at dksX4_isTenant_0 6 rfl rfl)
theorem dX4_isTenant_7 : decode cX4_isTenant 7 = .ok (.iaload, 1) := dk_46 (dk_at dksX4_isTenant_0 7 rfl rfl)
theorem dX4_isTenant_8 : decode cX4_isTenant 8 = .ok (.iconst 1, 1) := dk_4 (dk_at dksX4_isTenant_0 8 rfl rfl)
theorem dX4_isTenant_9 : decode cX4_isTenant 9 = .ok (.isub, 1) := dk_100 (dk_at dksX4_isTenant_0 9 rfl rfl)
theorem dX4_isTenant_10 : decode cX4_isTenant 10 = .ok (.i2l, 1) := dk_133 (dk_at dksX4_isTenant_0 10 rfl rfl)
theorem dX4_isTenant_11 : decode cX4_isTenant 11 = .ok (.invokestatic 141, 3) := dk_184 0 141 (dk_at dksX4_isTenant_0 11 rfl rfl)
theorem dX4_isTenant_14 : decode cX4_isTenant 14 = .ok (.ireturn, 1) := dk_172 (dk_at dksX4_isTenant_0 14 rfl rfl)
abbrev cX4_weight : ByteArray := prog_11_method_46_code
def yX4_weight : MethodName := ⟨RX4, "weight", "()I"⟩
def dkwX4_weight_0 : List UInt8 := [42, 3, 181, 0, 1, 42, 2, 182, 0, 232, 172]
abbrev dktX4_weight_0 : List UInt8 := dkwX4_weight_0 ++ []
theorem dksX4_weight_0 : cX4_weight.data.toList.drop 0 = dktX4_weight_0 := by decide +kernel
theorem dX4_weight_0 : decode cX4_weight 0 = .ok (.aload_n 0, 1) := dk_42 (dk_at dksX4_weight_0 0 rfl rfl)
theorem dX4_weight_1 : decode cX4_weight 1 = .ok (.iconst 0, 1) := dk_3 (dk_at dksX4_weight_0 1 rfl rfl)
theorem dX4_weight_2 : decode cX4_weight 2 = .ok (.putfield 1, 3) := dk_181 0 1 (dk_at dksX4_weight_0 2 rfl rfl)
theorem dX4_weight_5 : decode cX4_weight 5 = .ok (.aload_n 0, 1) := dk_42 (dk_at dksX4_weight_0 5 rfl rfl)
theorem dX4_weight_6 : decode cX4_weight 6 = .ok (.iconst (-1), 1) := dk_2 (dk_at dksX4_weight_0 6 rfl rfl)
theorem dX4_weight_7 : decode cX4_weight 7 = .ok (.invokevirtual 232, 3) := dk_182 0 232 (dk_at dksX4_weight_0 7 rfl rfl)
theorem dX4_weight_10 : decode cX4_weight 10 = .ok (.ireturn, 1) := dk_172 (dk_at dksX4_weight_0 10 rfl rfl)
abbrev cX4_weightOf : ByteArray := prog_11_method_36_code
def yX4_weightOf : MethodName := ⟨RX4, "weightOf", "(I)I"⟩
def dkwX4_weightOf_3 : List UInt8 := [180, 0, 13, 16, 29, 29, 96, 46, 96, 61, 132, 3, 1, 167, 255, 209, 28, 172]
abbrev dktX4_weightOf_3 : List UInt8 := dkwX4_weightOf_3 ++ []
def dkwX4_weightOf_2 : List UInt8 := [180, 0, 13, 16, 35, 29, 96, 46, 2, 159, 0, 8, 29, 27, 160, 0, 7, 3, 167, 0, 12, 42]
abbrev dktX4_weightOf_2 : List UInt8 := dkwX4_weightOf_2 ++ dktX4_weightOf_3
def dkwX4_weightOf_1 : List UInt8 := [46, 96, 61, 132, 3, 1, 167, 255, 230, 3, 62, 29, 42, 180, 0, 13, 4, 46, 162, 0, 43, 28, 42]
abbrev dktX4_weightOf_1 : List UInt8 := dkwX4_weightOf_1 ++ dktX4_weightOf_2
def dkwX4_weightOf_0 : List UInt8 := [3, 61, 3, 62, 29, 42, 180, 0, 13, 16, 20, 46, 162, 0, 21, 28, 42, 180, 0, 13, 16, 21, 29, 96]
abbrev dktX4_weightOf_0 : List UInt8 := dkwX4_weightOf_0 ++ dktX4_weightOf_1
theorem dksX4_weightOf_0 : cX4_weightOf.data.toList.drop 0 = dktX4_weightOf_0 := by decide +kernel
theorem dksX4_weightOf_1 : cX4_weightOf.data.toList.drop 24 = dktX4_weightOf_1 := dk_seg dksX4_weightOf_0 24 rfl rfl
theorem dksX4_weightOf_2 : cX4_weightOf.data.toList.drop 47 = dktX4_weightOf_2 := dk_seg dksX4_weightOf_1 23 rfl rfl
theorem dksX4_weightOf_3 : cX4_weightOf.data.toList.drop 69 = dktX4_weightOf_3 := dk_seg dksX4_weightOf_2 22 rfl rfl
theorem dX4_weightOf_0 : decode cX4_weightOf 0 = .ok (.iconst 0, 1) := dk_3 (dk_at dksX4_weightOf_0 0 rfl rfl)
theorem dX4_weightOf_1 : decode cX4_weightOf 1 = .ok (.istore_n 2, 1) := dk_61 (dk_at dksX4_weightOf_0 1 rfl rfl)
theorem dX4_weightOf_2 : decode cX4_weightOf 2 = .ok (.iconst 0, 1) := dk_3 (dk_at dksX4_weightOf_0 2 rfl rfl)
theorem dX4_weightOf_3 : decode cX4_weightOf 3 = .ok (.istore_n 3, 1) := dk_62 (dk_at dksX4_weightOf_0 3 rfl rfl)
theorem dX4_weightOf_4 : decode cX4_weightOf 4 = .ok (.iload_n 3, 1) := dk_29 (dk_at dksX4_weightOf_0 4 rfl rfl)
theorem dX4_weightOf_5 : decode cX4_weightOf 5 = .ok (.aload_n 0, 1) := dk_42 (dk_at dksX4_weightOf_0 5 rfl rfl)
theorem dX4_weightOf_6 : decode cX4_weightOf 6 = .ok (.getfield 13, 3) := dk_180 0 13 (dk_at dksX4_weightOf_0 6 rfl rfl)
theorem dX4_weightOf_9 : decode cX4_weightOf 9 = .ok (.bipush 20, 2) := dk_16 20 (dk_at dksX4_weightOf_0 9 rfl rfl)
theorem dX4_weightOf_11 : decode cX4_weightOf 11 = .ok (.iaload, 1) := dk_46 (dk_at dksX4_weightOf_0 11 rfl rfl)
theorem dX4_weightOf_12 : decode cX4_weightOf 12 = .ok (.if_icmp .ge 21, 3) := dk_162 0 21 (dk_at dksX4_weightOf_0 12 rfl rfl)
theorem dX4_weightOf_15 : decode cX4_weightOf 15 = .ok (.iload_n 2, 1) := dk_28 (dk_at dksX4_weightOf_0 15 rfl rfl)
theorem dX4_weightOf_16 : decode cX4_weightOf 16 = .ok (.aload_n 0, 1) := dk_42 (dk_at dksX4_weightOf_0 16 rfl rfl)
theorem dX4_weightOf_17 : decode cX4_weightOf 17 = .ok (.getfield 13, 3) := dk_180 0 13 (dk_at dksX4_weightOf_0 17 rfl rfl)
theorem dX4_weightOf_20 : decode cX4_weightOf 20 = .ok (.bipush 21, 2) := dk_16 21 (dk_at dksX4_weightOf_0 20 rfl rfl)
theorem dX4_weightOf_22 : decode cX4_weightOf 22 = .ok (.iload_n 3, 1) := dk_29 (dk_at dksX4_weightOf_0 22 rfl rfl)
theorem dX4_weightOf_23 : decode cX4_weightOf 23 = .ok (.iadd, 1) := dk_96 (dk_at dksX4_weightOf_0 23 rfl rfl)
theorem dX4_weightOf_24 : decode cX4_weightOf 24 = .ok (.iaload, 1) := dk_46 (dk_at dksX4_weightOf_1 0 rfl rfl)
theorem dX4_weightOf_25 : decode cX4_weightOf 25 = .ok (.iadd, 1) := dk_96 (dk_at dksX4_weightOf_1 1 rfl rfl)
theorem dX4_weightOf_26 : decode cX4_weightOf 26 = .ok (.istore_n 2, 1) := dk_61 (dk_at dksX4_weightOf_1 2 rfl rfl)
theorem dX4_weightOf_27 : decode cX4_weightOf 27 = .ok (.iinc 3 1, 3) := dk_132 3 1 (dk_at dksX4_weightOf_1 3 rfl rfl)
theorem dX4_weightOf_30 : decode cX4_weightOf 30 = .ok (.goto (-26), 3) := dk_167 255 230 (dk_at dksX4_weightOf_1 6 rfl rfl)
theorem dX4_weightOf_33 : decode cX4_weightOf 33 = .ok (.iconst 0, 1) := dk_3 (dk_at dksX4_weightOf_1 9 rfl rfl)
theorem dX4_weightOf_34 : decode cX4_weightOf 34 = .ok (.istore_n 3, 1) := dk_62 (dk_at dksX4_weightOf_1 10 rfl rfl)
theorem dX4_weightOf_35 : decode cX4_weightOf 35 = .ok (.iload_n 3, 1) := dk_29 (dk_at dksX4_weightOf_1 11 rfl rfl)
theorem dX4_weightOf_36 : decode cX4_weightOf 36 = .ok (.aload_n 0, 1) := dk_42 (dk_at dksX4_weightOf_1 12 rfl rfl)
theorem dX4_weightOf_37 : decode cX4_weightOf 37 = .ok (.getfield 13, 3) := dk_180 0 13 (dk_at dksX4_weightOf_1 13 rfl rfl)
theorem dX4_weightOf_40 : decode cX4_weightOf 40 = .ok (.iconst 1, 1) := dk_4 (dk_at dksX4_weightOf_1 16 rfl rfl)
theorem dX4_weightOf_41 : decode cX4_weightOf 41 = .ok (.iaload, 1) := dk_46 (dk_at dksX4_weightOf_1 17 rfl rfl)
theorem dX4_weightOf_42 : decode cX4_weightOf 42 = .ok (.if_icmp .ge 43, 3) := dk_162 0 43 (dk_at dksX4_weightOf_1 18 rfl rfl)
theorem dX4_weightOf_45 : decode cX4_weightOf 45 = .ok (.iload_n 2, 1) := dk_28 (dk_at dksX4_weightOf_1 21 rfl rfl)
theorem dX4_weightOf_46 : decode cX4_weightOf 46 = .ok (.aload_n 0, 1) := dk_42 (dk_at dksX4_weightOf_1 22 rfl rfl)
theorem dX4_weightOf_47 : decode cX4_weightOf 47 = .ok (.getfield 13, 3) := dk_180 0 13 (dk_at dksX4_weightOf_2 0 rfl rfl)
theorem dX4_weightOf_50 : decode cX4_weightOf 50 = .ok (.bipush 35, 2) := dk_16 35 (dk_at dksX4_weightOf_2 3 rfl rfl)
theorem dX4_weightOf_52 : decode cX4_weightOf 52 = .ok (.iload_n 3, 1) := dk_29 (dk_at dksX4_weightOf_2 5 rfl rfl)
theorem dX4_weightOf_53 : decode cX4_weightOf 53 = .ok (.iadd, 1) := dk_96 (dk_at dksX4_weightOf_2 6 rfl rfl)
theorem dX4_weightOf_54 : decode cX4_weightOf 54 = .ok (.iaload, 1) := dk_46 (dk_at dksX4_weightOf_2 7 rfl rfl)
theorem dX4_weightOf_55 : decode cX4_weightOf 55 = .ok (.iconst (-1), 1) := dk_2 (dk_at dksX4_weightOf_2 8 rfl rfl)
theorem dX4_weightOf_56 : decode cX4_weightOf 56 = .ok (.if_icmp .eq 8, 3) := dk_159 0 8 (dk_at dksX4_weightOf_2 9 rfl rfl)
theorem dX4_weightOf_59 : decode cX4_weightOf 59 = .ok (.iload_n 3, 1) := dk_29 (dk_at dksX4_weightOf_2 12 rfl rfl)
theorem dX4_weightOf_60 : decode cX4_weightOf 60 = .ok (.iload_n 1, 1) := dk_27 (dk_at dksX4_weightOf_2 13 rfl rfl)
theorem dX4_weightOf_61 : decode cX4_weightOf 61 = .ok (.if_icmp .ne 7, 3) := dk_160 0 7 (dk_at dksX4_weightOf_2 14 rfl rfl)
theorem dX4_weightOf_64 : decode cX4_weightOf 64 = .ok (.iconst 0, 1) := dk_3 (dk_at dksX4_weightOf_2 17 rfl rfl)
theorem dX4_weightOf_65 : decode cX4_weightOf 65 = .ok (.goto 12, 3) := dk_167 0 12 (dk_at dksX4_weightOf_2 18 rfl rfl)
theorem dX4_weightOf_68 : decode cX4_weightOf 68 = .ok (.aload_n 0, 1) := dk_42 (dk_at dksX4_weightOf_2 21 rfl rfl)
theorem dX4_weightOf_69 : decode cX4_weightOf 69 = .ok (.getfield 13, 3) := dk_180 0 13 (dk_at dksX4_weightOf_3 0 rfl rfl)
theorem dX4_weightOf_72 : decode cX4_weightOf 72 = .ok (.bipush 29, 2) := dk_16 29 (dk_at dksX4_weightOf_3 3 rfl rfl)
theorem dX4_weightOf_74 : decode cX4_weightOf 74 = .ok (.iload_n 3, 1) := dk_29 (dk_at dksX4_weightOf_3 5 rfl rfl)
theorem dX4_weightOf_75 : decode cX4_weightOf 75 = .ok (.iadd, 1) := dk_96 (dk_at dksX4_weightOf_3 6 rfl rfl)
theorem dX4_weightOf_76 : decode cX4_weightOf 76 = .ok (.iaload, 1) := dk_46 (dk_at dksX4_weightOf_3 7 rfl rfl)
theorem dX4_weightOf_77 : decode cX4_weightOf 77 = .ok (.iadd, 1) := dk_96 (dk_at dksX4_weightOf_3 8 rfl rfl)
theorem dX4_weightOf_78 : decode cX4_weightOf 78 = .ok (.istore_n 2, 1) := dk_61 (dk_at dksX4_weightOf_3 9 rfl rfl)
theorem dX4_weightOf_79 : decode cX4_weightOf 79 = .ok (.iinc 3 1, 3) := dk_132 3 1 (dk_at dksX4_weightOf_3 10 rfl rfl)
theorem dX4_weightOf_82 : decode cX4_weightOf 82 = .ok (.goto (-47), 3) := dk_167 255 209 (dk_at dksX4_weightOf_3 13 rfl rfl)
theorem dX4_weightOf_85 : decode cX4_weightOf 85 = .ok (.iload_n 2, 1) := dk_28 (dk_at dksX4_weightOf_3 16 rfl rfl)
theorem dX4_weightOf_86 : decode cX4_weightOf 86 = .ok (.ireturn, 1) := dk_172 (dk_at dksX4_weightOf_3 17 rfl rfl)
abbrev cX4_sinks : ByteArray := prog_11_method_47_code
def yX4_sinks : MethodName := ⟨RX4, "sinks", "()I"⟩
def dkwX4_sinks_1 : List UInt8 := [46, 42, 180, 0, 13, 16, 42, 46, 182, 0, 235, 172]
abbrev dktX4_sinks_1 : List UInt8 := dkwX4_sinks_1 ++ []
def dkwX4_sinks_0 : List UInt8 := [42, 3, 181, 0, 1, 42, 42, 2, 182, 0, 232, 42, 180, 0, 13, 16, 20, 46, 42, 180, 0, 13, 16, 41]
abbrev dktX4_sinks_0 : List UInt8 := dkwX4_sinks_0 ++ dktX4_sinks_1
theorem dksX4_sinks_0 : cX4_sinks.data.toList.drop 0 = dktX4_sinks_0 := by decide +kernel
theorem dksX4_sinks_1 : cX4_sinks.data.toList.drop 24 = dktX4_sinks_1 := dk_seg dksX4_sinks_0 24 rfl rfl
theorem dX4_sinks_0 : decode cX4_sinks 0 = .ok (.aload_n 0, 1) := dk_42 (dk_at dksX4_sinks_0 0 rfl rfl)
theorem dX4_sinks_1 : decode cX4_sinks 1 = .ok (.iconst 0, 1) := dk_3 (dk_at dksX4_sinks_0 1 rfl rfl)
theorem dX4_sinks_2 : decode cX4_sinks 2 = .ok (.putfield 1, 3) := dk_181 0 1 (dk_at dksX4_sinks_0 2 rfl rfl)
theorem dX4_sinks_5 : decode cX4_sinks 5 = .ok (.aload_n 0, 1) := dk_42 (dk_at dksX4_sinks_0 5 rfl rfl)
theorem dX4_sinks_6 : decode cX4_sinks 6 = .ok (.aload_n 0, 1) := dk_42 (dk_at dksX4_sinks_0 6 rfl rfl)
theorem dX4_sinks_7 : decode cX4_sinks 7 = .ok (.iconst (-1), 1) := dk_2 (dk_at dksX4_sinks_0 7 rfl rfl)
theorem dX4_sinks_8 : decode cX4_sinks 8 = .ok (.invokevirtual 232, 3) := dk_182 0 232 (dk_at dksX4_sinks_0 8 rfl rfl)
theorem dX4_sinks_11 : decode cX4_sinks 11 = .ok (.aload_n 0, 1) := dk_42 (dk_at dksX4_sinks_0 11 rfl rfl)
theorem dX4_sinks_12 : decode cX4_sinks 12 = .ok (.getfield 13, 3) := dk_180 0 13 (dk_at dksX4_sinks_0 12 rfl rfl)
theorem dX4_sinks_15 : decode cX4_sinks 15 = .ok (.bipush 20, 2) := dk_16 20 (dk_at dksX4_sinks_0 15 rfl rfl)
theorem dX4_sinks_17 : decode cX4_sinks 17 = .ok (.iaload, 1) := dk_46 (dk_at dksX4_sinks_0 17 rfl rfl)
theorem dX4_sinks_18 : decode cX4_sinks 18 = .ok (.aload_n 0, 1) := dk_42 (dk_at dksX4_sinks_0 18 rfl rfl)
theorem dX4_sinks_19 : decode cX4_sinks 19 = .ok (.getfield 13, 3) := dk_180 0 13 (dk_at dksX4_sinks_0 19 rfl rfl)
theorem dX4_sinks_22 : decode cX4_sinks 22 = .ok (.bipush 41, 2) := dk_16 41 (dk_at dksX4_sinks_0 22 rfl rfl)
theorem dX4_sinks_24 : decode cX4_sinks 24 = .ok (.iaload, 1) := dk_46 (dk_at dksX4_sinks_1 0 rfl rfl)
theorem dX4_sinks_25 : decode cX4_sinks 25 = .ok (.aload_n 0, 1) := dk_42 (dk_at dksX4_sinks_1 1 rfl rfl)
theorem dX4_sinks_26 : decode cX4_sinks 26 = .ok (.getfield 13, 3) := dk_180 0 13 (dk_at dksX4_sinks_1 2 rfl rfl)
theorem dX4_sinks_29 : decode cX4_sinks 29 = .ok (.bipush 42, 2) := dk_16 42 (dk_at dksX4_sinks_1 5 rfl rfl)
theorem dX4_sinks_31 : decode cX4_sinks 31 = .ok (.iaload, 1) := dk_46 (dk_at dksX4_sinks_1 7 rfl rfl)
theorem dX4_sinks_32 : decode cX4_sinks 32 = .ok (.invokevirtual 235, 3) := dk_182 0 235 (dk_at dksX4_sinks_1 8 rfl rfl)
theorem dX4_sinks_35 : decode cX4_sinks 35 = .ok (.ireturn, 1) := dk_172 (dk_at dksX4_sinks_1 11 rfl rfl)
abbrev cX4_sinksBy : ByteArray := prog_11_method_39_code
def yX4_sinksBy : MethodName := ⟨RX4, "sinksBy", "(IIII)I"⟩
def dkwX4_sinksBy_5 : List UInt8 := [156, 0, 7, 3, 167, 0, 19, 21, 6, 17, 0, 144, 164, 0, 9, 17, 0, 144, 167, 0, 5, 21, 6, 172]
abbrev dktX4_sinksBy_5 : List UInt8 := dkwX4_sinksBy_5 ++ []
def dkwX4_sinksBy_4 : List UInt8 := [42, 180, 0, 33, 6, 29, 79, 42, 180, 0, 33, 7, 21, 5, 79, 42, 3, 182, 0, 209, 54, 6, 21, 6]
abbrev dktX4_sinksBy_4 : List UInt8 := dkwX4_sinksBy_4 ++ dktX4_sinksBy_5
def dkwX4_sinksBy_3 : List UInt8 := [180, 0, 33, 3, 21, 4, 16, 12, 112, 79, 42, 180, 0, 33, 4, 27, 79, 42, 180, 0, 33, 5, 28, 79]
abbrev dktX4_sinksBy_3 : List UInt8 := dkwX4_sinksBy_3 ++ dktX4_sinksBy_4
def dkwX4_sinksBy_2 : List UInt8 := [29, 184, 0, 205, 153, 0, 7, 4, 167, 0, 4, 3, 96, 54, 5, 132, 6, 1, 167, 255, 228, 42]
abbrev dktX4_sinksBy_2 : List UInt8 := dkwX4_sinksBy_2 ++ dktX4_sinksBy_3
def dkwX4_sinksBy_1 : List UInt8 := [167, 0, 7, 27, 16, 100, 108, 172, 3, 54, 5, 3, 54, 6, 21, 6, 28, 162, 0, 28, 21, 5, 21, 6]
abbrev dktX4_sinksBy_1 : List UInt8 := dkwX4_sinksBy_1 ++ dktX4_sinksBy_2
def dkwX4_sinksBy_0 : List UInt8 := [42, 180, 0, 13, 8, 46, 154, 0, 24, 27, 16, 100, 108, 17, 0, 144, 164, 0, 9, 17, 0, 144]
abbrev dktX4_sinksBy_0 : List UInt8 := dkwX4_sinksBy_0 ++ dktX4_sinksBy_1
theorem dksX4_sinksBy_0 : cX4_sinksBy.data.toList.drop 0 = dktX4_sinksBy_0 := by decide +kernel
theorem dksX4_sinksBy_1 : cX4_sinksBy.data.toList.drop 22 = dktX4_sinksBy_1 := dk_seg dksX4_sinksBy_0 22 rfl rfl
theorem dksX4_sinksBy_2 : cX4_sinksBy.data.toList.drop 46 = dktX4_sinksBy_2 := dk_seg dksX4_sinksBy_1 24 rfl rfl
theorem dksX4_sinksBy_3 : cX4_sinksBy.data.toList.drop 68 = dktX4_sinksBy_3 := dk_seg dksX4_sinksBy_2 22 rfl rfl
theorem dksX4_sinksBy_4 : cX4_sinksBy.data.toList.drop 92 = dktX4_sinksBy_4 := dk_seg dksX4_sinksBy_3 24 rfl rfl
theorem dksX4_sinksBy_5 : cX4_sinksBy.data.toList.drop 116 = dktX4_sinksBy_5 := dk_seg dksX4_sinksBy_4 24 rfl rfl
theorem dX4_sinksBy_0 : decode cX4_sinksBy 0 = .ok (.aload_n 0, 1) := dk_42 (dk_at dksX4_sinksBy_0 0 rfl rfl)
theorem dX4_sinksBy_1 : decode cX4_sinksBy 1 = .ok (.getfield 13, 3) := dk_180 0 13 (dk_at dksX4_sinksBy_0 1 rfl rfl)
theorem dX4_sinksBy_4 : decode cX4_sinksBy 4 = .ok (.iconst 5, 1) := dk_8 (dk_at dksX4_sinksBy_0 4 rfl rfl)
theorem dX4_sinksBy_5 : decode cX4_sinksBy 5 = .ok (.iaload, 1) := dk_46 (dk_at dksX4_sinksBy_0 5 rfl rfl)
theorem dX4_sinksBy_6 : decode cX4_sinksBy 6 = .ok (.ifCond .ne 24, 3) := dk_154 0 24 (dk_at dksX4_sinksBy_0 6 rfl rfl)
theorem dX4_sinksBy_9 : decode cX4_sinksBy 9 = .ok (.iload_n 1, 1) := dk_27 (dk_at dksX4_sinksBy_0 9 rfl rfl)
theorem dX4_sinksBy_10 : decode cX4_sinksBy 10 = .ok (.bipush 100, 2) := dk_16 100 (dk_at dksX4_sinksBy_0 10 rfl rfl)
theorem dX4_sinksBy_12 : decode cX4_sinksBy 12 = .ok (.idiv, 1) := dk_108 (dk_at dksX4_sinksBy_0 12 rfl rfl)
theorem dX4_sinksBy_13 : decode cX4_sinksBy 13 = .ok (.sipush 144, 3) := dk_17 0 144 (dk_at dksX4_sinksBy_0 13 rfl rfl)
theorem dX4_sinksBy_16 : decode cX4_sinksBy 16 = .ok (.if_icmp .le 9, 3) := dk_164 0 9 (dk_at dksX4_sinksBy_0 16 rfl rfl)
theorem dX4_sinksBy_19 : decode cX4_sinksBy 19 = .ok (.sipush 144, 3) := dk_17 0 144 (dk_at dksX4_sinksBy_0 19 rfl rfl)
theorem dX4_sinksBy_22 : decode cX4_sinksBy 22 = .ok (.goto 7, 3) := dk_167 0 7 (dk_at dksX4_sinksBy_1 0 rfl rfl)
theorem dX4_sinksBy_25 : decode cX4_sinksBy 25 = .ok (.iload_n 1, 1) := dk_27 (dk_at dksX4_sinksBy_1 3 rfl rfl)
theorem dX4_sinksBy_26 : decode cX4_sinksBy 26 = .ok (.bipush 100, 2) := dk_16 100 (dk_at dksX4_sinksBy_1 4 rfl rfl)
theorem dX4_sinksBy_28 : decode cX4_sinksBy 28 = .ok (.idiv, 1) := dk_108 (dk_at dksX4_sinksBy_1 6 rfl rfl)
theorem dX4_sinksBy_29 : decode cX4_sinksBy 29 = .ok (.ireturn, 1) := dk_172 (dk_at dksX4_sinksBy_1 7 rfl rfl)
theorem dX4_sinksBy_30 : decode cX4_sinksBy 30 = .ok (.iconst 0, 1) := dk_3 (dk_at dksX4_sinksBy_1 8 rfl rfl)
theorem dX4_sinksBy_31 : decode cX4_sinksBy 31 = .ok (.istore 5, 2) := dk_54 5 (dk_at dksX4_sinksBy_1 9 rfl rfl)
theorem dX4_sinksBy_33 : decode cX4_sinksBy 33 = .ok (.iconst 0, 1) := dk_3 (dk_at dksX4_sinksBy_1 11 rfl rfl)
theorem dX4_sinksBy_34 : decode cX4_sinksBy 34 = .ok (.istore 6, 2) := dk_54 6 (dk_at dksX4_sinksBy_1 12 rfl rfl)
theorem dX4_sinksBy_36 : decode cX4_sinksBy 36 = .ok (.iload 6, 2) := dk_21 6 (dk_at dksX4_sinksBy_1 14 rfl rfl)
theorem dX4_sinksBy_38 : decode cX4_sinksBy 38 = .ok (.iload_n 2, 1) := dk_28 (dk_at dksX4_sinksBy_1 16 rfl rfl)
theorem dX4_sinksBy_39 : decode cX4_sinksBy 39 = .ok (.if_icmp .ge 28, 3) := dk_162 0 28 (dk_at dksX4_sinksBy_1 17 rfl rfl)
theorem dX4_sinksBy_42 : decode cX4_sinksBy 42 = .ok (.iload 5, 2) := dk_21 5 (dk_at dksX4_sinksBy_1 20 rfl rfl)
theorem dX4_sinksBy_44 : decode cX4_sinksBy 44 = .ok (.iload 6, 2) := dk_21 6 (dk_at dksX4_sinksBy_1 22 rfl rfl)
theorem dX4_sinksBy_46 : decode cX4_sinksBy 46 = .ok (.iload_n 3, 1) := dk_29 (dk_at dksX4_sinksBy_2 0 rfl rfl)
theorem dX4_sinksBy_47 : decode cX4_sinksBy 47 = .ok (.invokestatic 205, 3) := dk_184 0 205 (dk_at dksX4_sinksBy_2 1 rfl rfl)
theorem dX4_sinksBy_50 : decode cX4_sinksBy 50 = .ok (.ifCond .eq 7, 3) := dk_153 0 7 (dk_at dksX4_sinksBy_2 4 rfl rfl)
theorem dX4_sinksBy_53 : decode cX4_sinksBy 53 = .ok (.iconst 1, 1) := dk_4 (dk_at dksX4_sinksBy_2 7 rfl rfl)
theorem dX4_sinksBy_54 : decode cX4_sinksBy 54 = .ok (.goto 4, 3) := dk_167 0 4 (dk_at dksX4_sinksBy_2 8 rfl rfl)
theorem dX4_sinksBy_57 : decode cX4_sinksBy 57 = .ok (.iconst 0, 1) := dk_3 (dk_at dksX4_sinksBy_2 11 rfl rfl)
theorem dX4_sinksBy_58 : decode cX4_sinksBy 58 = .ok (.iadd, 1) := dk_96 (dk_at dksX4_sinksBy_2 12 rfl rfl)
theorem dX4_sinksBy_59 : decode cX4_sinksBy 59 = .ok (.istore 5, 2) := dk_54 5 (dk_at dksX4_sinksBy_2 13 rfl rfl)
theorem dX4_sinksBy_61 : decode cX4_sinksBy 61 = .ok (.iinc 6 1, 3) := dk_132 6 1 (dk_at dksX4_sinksBy_2 15 rfl rfl)
theorem dX4_sinksBy_64 : decode cX4_sinksBy 64 = .ok (.goto (-28), 3) := dk_167 255 228 (dk_at dksX4_sinksBy_2 18 rfl rfl)
theorem dX4_sinksBy_67 : decode cX4_sinksBy 67 = .ok (.aload_n 0, 1) := dk_42 (dk_at dksX4_sinksBy_2 21 rfl rfl)
theorem dX4_sinksBy_68 : decode cX4_sinksBy 68 = .ok (.getfield 33, 3) := dk_180 0 33 (dk_at dksX4_sinksBy_3 0 rfl rfl)
theorem dX4_sinksBy_71 : decode cX4_sinksBy 71 = .ok (.iconst 0, 1) := dk_3 (dk_at dksX4_sinksBy_3 3 rfl rfl)
theorem dX4_sinksBy_72 : decode cX4_sinksBy 72 = .ok (.iload 4, 2) := dk_21 4 (dk_at dksX4_sinksBy_3 4 rfl rfl)
theorem dX4_sinksBy_74 : decode cX4_sinksBy 74 = .ok (.bipush 12, 2) := dk_16 12 (dk_at dksX4_sinksBy_3 6 rfl rfl)
theorem dX4_sinksBy_76 : decode cX4_sinksBy 76 = .ok (.irem, 1) := dk_112 (dk_at dksX4_sinksBy_3 8 rfl rfl)
theorem dX4_sinksBy_77 : decode cX4_sinksBy 77 = .ok (.iastore, 1) := dk_79 (dk_at dksX4_sinksBy_3 9 rfl rfl)
theorem dX4_sinksBy_78 : decode cX4_sinksBy 78 = .ok (.aload_n 0, 1) := dk_42 (dk_at dksX4_sinksBy_3 10 rfl rfl)
theorem dX4_sinksBy_79 : decode cX4_sinksBy 79 = .ok (.getfield 33, 3) := dk_180 0 33 (dk_at dksX4_sinksBy_3 11 rfl rfl)
theorem dX4_sinksBy_82 : decode cX4_sinksBy 82 = .ok (.iconst 1, 1) := dk_4 (dk_at dksX4_sinksBy_3 14 rfl rfl)
theorem dX4_sinksBy_83 : decode cX4_sinksBy 83 = .ok (.iload_n 1, 1) := dk_27 (dk_at dksX4_sinksBy_3 15 rfl rfl)
theorem dX4_sinksBy_84 : decode cX4_sinksBy 84 = .ok (.iastore, 1) := dk_79 (dk_at dksX4_sinksBy_3 16 rfl rfl)
theorem dX4_sinksBy_85 : decode cX4_sinksBy 85 = .ok (.aload_n 0, 1) := dk_42 (dk_at dksX4_sinksBy_3 17 rfl rfl)
theorem dX4_sinksBy_86 : decode cX4_sinksBy 86 = .ok (.getfield 33, 3) := dk_180 0 33 (dk_at dksX4_sinksBy_3 18 rfl rfl)
theorem dX4_sinksBy_89 : decode cX4_sinksBy 89 = .ok (.iconst 2, 1) := dk_5 (dk_at dksX4_sinksBy_3 21 rfl rfl)
theorem dX4_sinksBy_90 : decode cX4_sinksBy 90 = .ok (.iload_n 2, 1) := dk_28 (dk_at dksX4_sinksBy_3 22 rfl rfl)
theorem dX4_sinksBy_91 : decode cX4_sinksBy 91 = .ok (.iastore, 1) := dk_79 (dk_at dksX4_sinksBy_3 23 rfl rfl)
theorem dX4_sinksBy_92 : decode cX4_sinksBy 92 = .ok (.aload_n 0, 1) := dk_42 (dk_at dksX4_sinksBy_4 0 rfl rfl)
theorem dX4_sinksBy_93 : decode cX4_sinksBy 93 = .ok (.getfield 33, 3) := dk_180 0 33 (dk_at dksX4_sinksBy_4 1 rfl rfl)
theorem dX4_sinksBy_96 : decode cX4_sinksBy 96 = .ok (.iconst 3, 1) := dk_6 (dk_at dksX4_sinksBy_4 4 rfl rfl)
theorem dX4_sinksBy_97 : decode cX4_sinksBy 97 = .ok (.iload_n 3, 1) := dk_29 (dk_at dksX4_sinksBy_4 5 rfl rfl)
theorem dX4_sinksBy_98 : decode cX4_sinksBy 98 = .ok (.iastore, 1) := dk_79 (dk_at dksX4_sinksBy_4 6 rfl rfl)
theorem dX4_sinksBy_99 : decode cX4_sinksBy 99 = .ok (.aload_n 0, 1) := dk_42 (dk_at dksX4_sinksBy_4 7 rfl rfl)
theorem dX4_sinksBy_100 : decode cX4_sinksBy 100 = .ok (.getfield 33, 3) := dk_180 0 33 (dk_at dksX4_sinksBy_4 8 rfl rfl)
theorem dX4_sinksBy_103 : decode cX4_sinksBy 103 = .ok (.iconst 4, 1) := dk_7 (dk_at dksX4_sinksBy_4 11 rfl rfl)
theorem dX4_sinksBy_104 : decode cX4_sinksBy 104 = .ok (.iload 5, 2) := dk_21 5 (dk_at dksX4_sinksBy_4 12 rfl rfl)
theorem dX4_sinksBy_106 : decode cX4_sinksBy 106 = .ok (.iastore, 1) := dk_79 (dk_at dksX4_sinksBy_4 14 rfl rfl)
theorem dX4_sinksBy_107 : decode cX4_sinksBy 107 = .ok (.aload_n 0, 1) := dk_42 (dk_at dksX4_sinksBy_4 15 rfl rfl)
theorem dX4_sinksBy_108 : decode cX4_sinksBy 108 = .ok (.iconst 0, 1) := dk_3 (dk_at dksX4_sinksBy_4 16 rfl rfl)
theorem dX4_sinksBy_109 : decode cX4_sinksBy 109 = .ok (.invokevirtual 209, 3) := dk_182 0 209 (dk_at dksX4_sinksBy_4 17 rfl rfl)
theorem dX4_sinksBy_112 : decode cX4_sinksBy 112 = .ok (.istore 6, 2) := dk_54 6 (dk_at dksX4_sinksBy_4 20 rfl rfl)
theorem dX4_sinksBy_114 : decode cX4_sinksBy 114 = .ok (.iload 6, 2) := dk_21 6 (dk_at dksX4_sinksBy_4 22 rfl rfl)
theorem dX4_sinksBy_116 : decode cX4_sinksBy 116 = .ok (.ifCond .ge 7, 3) := dk_156 0 7 (dk_at dksX4_sinksBy_5 0 rfl rfl)
theorem dX4_sinksBy_119 : decode cX4_sinksBy 119 = .ok (.iconst 0, 1) := dk_3 (dk_at dksX4_sinksBy_5 3 rfl rfl)
theorem dX4_sinksBy_120 : decode cX4_sinksBy 120 = .ok (.goto 19, 3) := dk_167 0 19 (dk_at dksX4_sinksBy_5 4 rfl rfl)
theorem dX4_sinksBy_123 : decode cX4_sinksBy 123 = .ok (.iload 6, 2) := dk_21 6 (dk_at dksX4_sinksBy_5 7 rfl rfl)
theorem dX4_sinksBy_125 : decode cX4_sinksBy 125 = .ok (.sipush 144, 3) := dk_17 0 144 (dk_at dksX4_sinksBy_5 9 rfl rfl)
theorem dX4_sinksBy_128 : decode cX4_sinksBy 128 = .ok (.if_icmp .le 9, 3) := dk_164 0 9 (dk_at dksX4_sinksBy_5 12 rfl rfl)
theorem dX4_sinksBy_131 : decode cX4_sinksBy 131 = .ok (.sipush 144, 3) := dk_17 0 144 (dk_at dksX4_sinksBy_5 15 rfl rfl)
theorem dX4_sinksBy_134 : decode cX4_sinksBy 134 = .ok (.goto 5, 3) := dk_167 0 5 (dk_at dksX4_sinksBy_5 18 rfl rfl)
theorem dX4_sinksBy_137 : decode cX4_sinksBy 137 = .ok (.iload 6, 2) := dk_21 6 (dk_at dksX4_sinksBy_5 21 rfl rfl)
theorem dX4_sinksBy_139 : decode cX4_sinksBy 139 = .ok (.ireturn, 1) := dk_172 (dk_at dksX4_sinksBy_5 23 rfl rfl)
abbrev cX4_reckons : ByteArray := prog_11_method_38_code
def yX4_reckons : MethodName := ⟨RX4, "reckons", "(I)I"⟩
def dkwX4_reckons_5 : List UInt8 := [42, 180, 0, 30, 3, 46, 172]
abbrev dktX4_reckons_5 : List UInt8 := dkwX4_reckons_5 ++ []
def dkwX4_reckons_4 : List UInt8 := [42, 180, 0, 30, 28, 4, 100, 46, 42, 180, 0, 30, 28, 46, 184, 0, 201, 79, 132, 3, 1, 167, 255, 144]
abbrev dktX4_reckons_4 : List UInt8 := dkwX4_reckons_4 ++ dktX4_reckons_5
def dkwX4_reckons_3 : List UInt8 := [17, 3, 232, 100, 46, 79, 132, 2, 1, 167, 0, 33, 132, 2, 255, 42, 180, 0, 30, 28, 4, 100, 21, 4]
abbrev dktX4_reckons_3 : List UInt8 := dkwX4_reckons_3 ++ dktX4_reckons_4
def dkwX4_reckons_2 : List UInt8 := [180, 0, 30, 28, 21, 4, 17, 3, 232, 162, 0, 8, 21, 4, 167, 0, 14, 42, 180, 0, 33, 21, 4]
abbrev dktX4_reckons_2 : List UInt8 := dkwX4_reckons_2 ++ dktX4_reckons_3
def dkwX4_reckons_1 : List UInt8 := [42, 180, 0, 13, 16, 8, 27, 96, 46, 96, 29, 96, 46, 54, 4, 21, 4, 17, 11, 184, 162, 0, 39, 42]
abbrev dktX4_reckons_1 : List UInt8 := dkwX4_reckons_1 ++ dktX4_reckons_2
def dkwX4_reckons_0 : List UInt8 := [3, 61, 3, 62, 29, 42, 180, 0, 13, 16, 11, 27, 96, 46, 162, 0, 105, 42, 180, 0, 13, 17, 1, 42]
abbrev dktX4_reckons_0 : List UInt8 := dkwX4_reckons_0 ++ dktX4_reckons_1
theorem dksX4_reckons_0 : cX4_reckons.data.toList.drop 0 = dktX4_reckons_0 := by decide +kernel
theorem dksX4_reckons_1 : cX4_reckons.data.toList.drop 24 = dktX4_reckons_1 := dk_seg dksX4_reckons_0 24 rfl rfl
theorem dksX4_reckons_2 : cX4_reckons.data.toList.drop 48 = dktX4_reckons_2 := dk_seg dksX4_reckons_1 24 rfl rfl
theorem dksX4_reckons_3 : cX4_reckons.data.toList.drop 71 = dktX4_reckons_3 := dk_seg dksX4_reckons_2 23 rfl rfl
theorem dksX4_reckons_4 : cX4_reckons.data.toList.drop 95 = dktX4_reckons_4 := dk_seg dksX4_reckons_3 24 rfl rfl
theorem dksX4_reckons_5 : cX4_reckons.data.toList.drop 119 = dktX4_reckons_5 := dk_seg dksX4_reckons_4 24 rfl rfl
theorem dX4_reckons_0 : decode cX4_reckons 0 = .ok (.iconst 0, 1) := dk_3 (dk_at dksX4_reckons_0 0 rfl rfl)
theorem dX4_reckons_1 : decode cX4_reckons 1 = .ok (.istore_n 2, 1) := dk_61 (dk_at dksX4_reckons_0 1 rfl rfl)
theorem dX4_reckons_2 : decode cX4_reckons 2 = .ok (.iconst 0, 1) := dk_3 (dk_at dksX4_reckons_0 2 rfl rfl)
theorem dX4_reckons_3 : decode cX4_reckons 3 = .ok (.istore_n 3, 1) := dk_62 (dk_at dksX4_reckons_0 3 rfl rfl)
theorem dX4_reckons_4 : decode cX4_reckons 4 = .ok (.iload_n 3, 1) := dk_29 (dk_at dksX4_reckons_0 4 rfl rfl)
theorem dX4_reckons_5 : decode cX4_reckons 5 = .ok (.aload_n 0, 1) := dk_42 (dk_at dksX4_reckons_0 5 rfl rfl)
theorem dX4_reckons_6 : decode cX4_reckons 6 = .ok (.getfield 13, 3) := dk_180 0 13 (dk_at dksX4_reckons_0 6 rfl rfl)
theorem dX4_reckons_9 : decode cX4_reckons 9 = .ok (.bipush 11, 2) := dk_16 11 (dk_at dksX4_reckons_0 9 rfl rfl)
theorem dX4_reckons_11 : decode cX4_reckons 11 = .ok (.iload_n 1, 1) := dk_27 (dk_at dksX4_reckons_0 11 rfl rfl)
theorem dX4_reckons_12 : decode cX4_reckons 12 = .ok (.iadd, 1) := dk_96 (dk_at dksX4_reckons_0 12 rfl rfl)
theorem dX4_reckons_13 : decode cX4_reckons 13 = .ok (.iaload, 1) := dk_46 (dk_at dksX4_reckons_0 13 rfl rfl)
theorem dX4_reckons_14 : decode cX4_reckons 14 = .ok (.if_icmp .ge 105, 3) := dk_162 0 105 (dk_at dksX4_reckons_0 14 rfl rfl)
theorem dX4_reckons_17 : decode cX4_reckons 17 = .ok (.aload_n 0, 1) := dk_42 (dk_at dksX4_reckons_0 17 rfl rfl)
theorem dX4_reckons_18 : decode cX4_reckons 18 = .ok (.getfield 13, 3) := dk_180 0 13 (dk_at dksX4_reckons_0 18 rfl rfl)
theorem dX4_reckons_21 : decode cX4_reckons 21 = .ok (.sipush 298, 3) := dk_17 1 42 (dk_at dksX4_reckons_0 21 rfl rfl)
theorem dX4_reckons_24 : decode cX4_reckons 24 = .ok (.aload_n 0, 1) := dk_42 (dk_at dksX4_reckons_1 0 rfl rfl)
theorem dX4_reckons_25 : decode cX4_reckons 25 = .ok (.getfield 13, 3) := dk_180 0 13 (dk_at dksX4_reckons_1 1 rfl rfl)
theorem dX4_reckons_28 : decode cX4_reckons 28 = .ok (.bipush 8, 2) := dk_16 8 (dk_at dksX4_reckons_1 4 rfl rfl)
theorem dX4_reckons_30 : decode cX4_reckons 30 = .ok (.iload_n 1, 1) := dk_27 (dk_at dksX4_reckons_1 6 rfl rfl)
theorem dX4_reckons_31 : decode cX4_reckons 31 = .ok (.iadd, 1) := dk_96 (dk_at dksX4_reckons_1 7 rfl rfl)
theorem dX4_reckons_32 : decode cX4_reckons 32 = .ok (.iaload, 1) := dk_46 (dk_at dksX4_reckons_1 8 rfl rfl)
theorem dX4_reckons_33 : decode cX4_reckons 33 = .ok (.iadd, 1) := dk_96 (dk_at dksX4_reckons_1 9 rfl rfl)
theorem dX4_reckons_34 : decode cX4_reckons 34 = .ok (.iload_n 3, 1) := dk_29 (dk_at dksX4_reckons_1 10 rfl rfl)
theorem dX4_reckons_35 : decode cX4_reckons 35 = .ok (.iadd, 1) := dk_96 (dk_at dksX4_reckons_1 11 rfl rfl)
theorem dX4_reckons_36 : decode cX4_reckons 36 = .ok (.iaload, 1) := dk_46 (dk_at dksX4_reckons_1 12 rfl rfl)
theorem dX4_reckons_37 : decode cX4_reckons 37 = .ok (.istore 4, 2) := dk_54 4 (dk_at dksX4_reckons_1 13 rfl rfl)
theorem dX4_reckons_39 : decode cX4_reckons 39 = .ok (.iload 4, 2) := dk_21 4 (dk_at dksX4_reckons_1 15 rfl rfl)
theorem dX4_reckons_41 : decode cX4_reckons 41 = .ok (.sipush 3000, 3) := dk_17 11 184 (dk_at dksX4_reckons_1 17 rfl rfl)
theorem dX4_reckons_44 : decode cX4_reckons 44 = .ok (.if_icmp .ge 39, 3) := dk_162 0 39 (dk_at dksX4_reckons_1 20 rfl rfl)
theorem dX4_reckons_47 : decode cX4_reckons 47 = .ok (.aload_n 0, 1) := dk_42 (dk_at dksX4_reckons_1 23 rfl rfl)
theorem dX4_reckons_48 : decode cX4_reckons 48 = .ok (.getfield 30, 3) := dk_180 0 30 (dk_at dksX4_reckons_2 0 rfl rfl)
theorem dX4_reckons_51 : decode cX4_reckons 51 = .ok (.iload_n 2, 1) := dk_28 (dk_at dksX4_reckons_2 3 rfl rfl)
theorem dX4_reckons_52 : decode cX4_reckons 52 = .ok (.iload 4, 2) := dk_21 4 (dk_at dksX4_reckons_2 4 rfl rfl)
theorem dX4_reckons_54 : decode cX4_reckons 54 = .ok (.sipush 1000, 3) := dk_17 3 232 (dk_at dksX4_reckons_2 6 rfl rfl)
theorem dX4_reckons_57 : decode cX4_reckons 57 = .ok (.if_icmp .ge 8, 3) := dk_162 0 8 (dk_at dksX4_reckons_2 9 rfl rfl)
theorem dX4_reckons_60 : decode cX4_reckons 60 = .ok (.iload 4, 2) := dk_21 4 (dk_at dksX4_reckons_2 12 rfl rfl)
theorem dX4_reckons_62 : decode cX4_reckons 62 = .ok (.goto 14, 3) := dk_167 0 14 (dk_at dksX4_reckons_2 14 rfl rfl)
theorem dX4_reckons_65 : decode cX4_reckons 65 = .ok (.aload_n 0, 1) := dk_42 (dk_at dksX4_reckons_2 17 rfl rfl)
theorem dX4_reckons_66 : decode cX4_reckons 66 = .ok (.getfield 33, 3) := dk_180 0 33 (dk_at dksX4_reckons_2 18 rfl rfl)
theorem dX4_reckons_69 : decode cX4_reckons 69 = .ok (.iload 4, 2) := dk_21 4 (dk_at dksX4_reckons_2 21 rfl rfl)
theorem dX4_reckons_71 : decode cX4_reckons 71 = .ok (.sipush 1000, 3) := dk_17 3 232 (dk_at dksX4_reckons_3 0 rfl rfl)
theorem dX4_reckons_74 : decode cX4_reckons 74 = .ok (.isub, 1) := dk_100 (dk_at dksX4_reckons_3 3 rfl rfl)
theorem dX4_reckons_75 : decode cX4_reckons 75 = .ok (.iaload, 1) := dk_46 (dk_at dksX4_reckons_3 4 rfl rfl)
theorem dX4_reckons_76 : decode cX4_reckons 76 = .ok (.iastore, 1) := dk_79 (dk_at dksX4_reckons_3 5 rfl rfl)
theorem dX4_reckons_77 : decode cX4_reckons 77 = .ok (.iinc 2 1, 3) := dk_132 2 1 (dk_at dksX4_reckons_3 6 rfl rfl)
theorem dX4_reckons_80 : decode cX4_reckons 80 = .ok (.goto 33, 3) := dk_167 0 33 (dk_at dksX4_reckons_3 9 rfl rfl)
theorem dX4_reckons_83 : decode cX4_reckons 83 = .ok (.iinc 2 (-1), 3) := dk_132 2 255 (dk_at dksX4_reckons_3 12 rfl rfl)
theorem dX4_reckons_86 : decode cX4_reckons 86 = .ok (.aload_n 0, 1) := dk_42 (dk_at dksX4_reckons_3 15 rfl rfl)
theorem dX4_reckons_87 : decode cX4_reckons 87 = .ok (.getfield 30, 3) := dk_180 0 30 (dk_at dksX4_reckons_3 16 rfl rfl)
theorem dX4_reckons_90 : decode cX4_reckons 90 = .ok (.iload_n 2, 1) := dk_28 (dk_at dksX4_reckons_3 19 rfl rfl)
theorem dX4_reckons_91 : decode cX4_reckons 91 = .ok (.iconst 1, 1) := dk_4 (dk_at dksX4_reckons_3 20 rfl rfl)
theorem dX4_reckons_92 : decode cX4_reckons 92 = .ok (.isub, 1) := dk_100 (dk_at dksX4_reckons_3 21 rfl rfl)
theorem dX4_reckons_93 : decode cX4_reckons 93 = .ok (.iload 4, 2) := dk_21 4 (dk_at dksX4_reckons_3 22 rfl rfl)
theorem dX4_reckons_95 : decode cX4_reckons 95 = .ok (.aload_n 0, 1) := dk_42 (dk_at dksX4_reckons_4 0 rfl rfl)
theorem dX4_reckons_96 : decode cX4_reckons 96 = .ok (.getfield 30, 3) := dk_180 0 30 (dk_at dksX4_reckons_4 1 rfl rfl)
theorem dX4_reckons_99 : decode cX4_reckons 99 = .ok (.iload_n 2, 1) := dk_28 (dk_at dksX4_reckons_4 4 rfl rfl)
theorem dX4_reckons_100 : decode cX4_reckons 100 = .ok (.iconst 1, 1) := dk_4 (dk_at dksX4_reckons_4 5 rfl rfl)
theorem dX4_reckons_101 : decode cX4_reckons 101 = .ok (.isub, 1) := dk_100 (dk_at dksX4_reckons_4 6 rfl rfl)
theorem dX4_reckons_102 : decode cX4_reckons 102 = .ok (.iaload, 1) := dk_46 (dk_at dksX4_reckons_4 7 rfl rfl)
theorem dX4_reckons_103 : decode cX4_reckons 103 = .ok (.aload_n 0, 1) := dk_42 (dk_at dksX4_reckons_4 8 rfl rfl)
theorem dX4_reckons_104 : decode cX4_reckons 104 = .ok (.getfield 30, 3) := dk_180 0 30 (dk_at dksX4_reckons_4 9 rfl rfl)
theorem dX4_reckons_107 : decode cX4_reckons 107 = .ok (.iload_n 2, 1) := dk_28 (dk_at dksX4_reckons_4 12 rfl rfl)
theorem dX4_reckons_108 : decode cX4_reckons 108 = .ok (.iaload, 1) := dk_46 (dk_at dksX4_reckons_4 13 rfl rfl)
theorem dX4_reckons_109 : decode cX4_reckons 109 = .ok (.invokestatic 201, 3) := dk_184 0 201 (dk_at dksX4_reckons_4 14 rfl rfl)
theorem dX4_reckons_112 : decode cX4_reckons 112 = .ok (.iastore, 1) := dk_79 (dk_at dksX4_reckons_4 17 rfl rfl)
theorem dX4_reckons_113 : decode cX4_reckons 113 = .ok (.iinc 3 1, 3) := dk_132 3 1 (dk_at dksX4_reckons_4 18 rfl rfl)
theorem dX4_reckons_116 : decode cX4_reckons 116 = .ok (.goto (-112), 3) := dk_167 255 144 (dk_at dksX4_reckons_4 21 rfl rfl)
theorem dX4_reckons_119 : decode cX4_reckons 119 = .ok (.aload_n 0, 1) := dk_42 (dk_at dksX4_reckons_5 0 rfl rfl)
theorem dX4_reckons_120 : decode cX4_reckons 120 = .ok (.getfield 30, 3) := dk_180 0 30 (dk_at dksX4_reckons_5 1 rfl rfl)
theorem dX4_reckons_123 : decode cX4_reckons 123 = .ok (.iconst 0, 1) := dk_3 (dk_at dksX4_reckons_5 4 rfl rfl)
theorem dX4_reckons_124 : decode cX4_reckons 124 = .ok (.iaload, 1) := dk_46 (dk_at dksX4_reckons_5 5 rfl rfl)
theorem dX4_reckons_125 : decode cX4_reckons 125 = .ok (.ireturn, 1) := dk_172 (dk_at dksX4_reckons_5 6 rfl rfl)
abbrev cX4_between : ByteArray := prog_11_method_37_code
def yX4_between : MethodName := ⟨RX4, "between", "(III)I"⟩
def dkwX4_between_2 : List UInt8 := [167, 0, 18, 33, 20, 0, 199, 148, 156, 0, 9, 20, 0, 199, 167, 0, 4, 33, 136, 172]
abbrev dktX4_between_2 : List UInt8 := dkwX4_between_2 ++ []
def dkwX4_between_1 : List UInt8 := [28, 133, 101, 167, 0, 8, 27, 133, 28, 133, 105, 66, 33, 20, 0, 197, 148, 158, 0, 9, 20, 0, 197]
abbrev dktX4_between_1 : List UInt8 := dkwX4_between_1 ++ dktX4_between_2
def dkwX4_between_0 : List UInt8 := [26, 17, 11, 184, 160, 0, 11, 27, 133, 28, 133, 97, 167, 0, 23, 26, 17, 11, 185, 160, 0, 11, 27, 133]
abbrev dktX4_between_0 : List UInt8 := dkwX4_between_0 ++ dktX4_between_1
theorem dksX4_between_0 : cX4_between.data.toList.drop 0 = dktX4_between_0 := by decide +kernel
theorem dksX4_between_1 : cX4_between.data.toList.drop 24 = dktX4_between_1 := dk_seg dksX4_between_0 24 rfl rfl
theorem dksX4_between_2 : cX4_between.data.toList.drop 47 = dktX4_between_2 := dk_seg dksX4_between_1 23 rfl rfl
theorem dX4_between_0 : decode cX4_between 0 = .ok (.iload_n 0, 1) := dk_26 (dk_at dksX4_between_0 0 rfl rfl)
theorem dX4_between_1 : decode cX4_between 1 = .ok (.sipush 3000, 3) := dk_17 11 184 (dk_at dksX4_between_0 1 rfl rfl)
theorem dX4_between_4 : decode cX4_between 4 = .ok (.if_icmp .ne 11, 3) := dk_160 0 11 (dk_at dksX4_between_0 4 rfl rfl)
theorem dX4_between_7 : decode cX4_between 7 = .ok (.iload_n 1, 1) := dk_27 (dk_at dksX4_between_0 7 rfl rfl)
theorem dX4_between_8 : decode cX4_between 8 = .ok (.i2l, 1) := dk_133 (dk_at dksX4_between_0 8 rfl rfl)
theorem dX4_between_9 : decode cX4_between 9 = .ok (.iload_n 2, 1) := dk_28 (dk_at dksX4_between_0 9 rfl rfl)
theorem dX4_between_10 : decode cX4_between 10 = .ok (.i2l, 1) := dk_133 (dk_at dksX4_between_0 10 rfl rfl)
theorem dX4_between_11 : decode cX4_between 11 = .ok (.ladd, 1) := dk_97 (dk_at dksX4_between_0 11 rfl rfl)
theorem dX4_between_12 : decode cX4_between 12 = .ok (.goto 23, 3) := dk_167 0 23 (dk_at dksX4_between_0 12 rfl rfl)
theorem dX4_between_15 : decode cX4_between 15 = .ok (.iload_n 0, 1) := dk_26 (dk_at dksX4_between_0 15 rfl rfl)
theorem dX4_between_16 : decode cX4_between 16 = .ok (.sipush 3001, 3) := dk_17 11 185 (dk_at dksX4_between_0 16 rfl rfl)
theorem dX4_between_19 : decode cX4_between 19 = .ok (.if_icmp .ne 11, 3) := dk_160 0 11 (dk_at dksX4_between_0 19 rfl rfl)
theorem dX4_between_22 : decode cX4_between 22 = .ok (.iload_n 1, 1) := dk_27 (dk_at dksX4_between_0 22 rfl rfl)
theorem dX4_between_23 : decode cX4_between 23 = .ok (.i2l, 1) := dk_133 (dk_at dksX4_between_0 23 rfl rfl)
theorem dX4_between_24 : decode cX4_between 24 = .ok (.iload_n 2, 1) := dk_28 (dk_at dksX4_between_1 0 rfl rfl)
theorem dX4_between_25 : decode cX4_between 25 = .ok (.i2l, 1) := dk_133 (dk_at dksX4_between_1 1 rfl rfl)
theorem dX4_between_26 : decode cX4_between 26 = .ok (.lsub, 1) := dk_101 (dk_at dksX4_between_1 2 rfl rfl)
theorem dX4_between_27 : decode cX4_between 27 = .ok (.goto 8, 3) := dk_167 0 8 (dk_at dksX4_between_1 3 rfl rfl)
theorem dX4_between_30 : decode cX4_between 30 = .ok (.iload_n 1, 1) := dk_27 (dk_at dksX4_between_1 6 rfl rfl)
theorem dX4_between_31 : decode cX4_between 31 = .ok (.i2l, 1) := dk_133 (dk_at dksX4_between_1 7 rfl rfl)
theorem dX4_between_32 : decode cX4_between 32 = .ok (.iload_n 2, 1) := dk_28 (dk_at dksX4_between_1 8 rfl rfl)
theorem dX4_between_33 : decode cX4_between 33 = .ok (.i2l, 1) := dk_133 (dk_at dksX4_between_1 9 rfl rfl)
theorem dX4_between_34 : decode cX4_between 34 = .ok (.lmul, 1) := dk_105 (dk_at dksX4_between_1 10 rfl rfl)
theorem dX4_between_35 : decode cX4_between 35 = .ok (.lstore_n 3, 1) := dk_66 (dk_at dksX4_between_1 11 rfl rfl)
theorem dX4_between_36 : decode cX4_between 36 = .ok (.lload_n 3, 1) := dk_33 (dk_at dksX4_between_1 12 rfl rfl)
theorem dX4_between_37 : decode cX4_between 37 = .ok (.ldc2_w 197, 3) := dk_20 0 197 (dk_at dksX4_between_1 13 rfl rfl)
theorem dX4_between_40 : decode cX4_between 40 = .ok (.lcmp, 1) := dk_148 (dk_at dksX4_between_1 16 rfl rfl)
theorem dX4_between_41 : decode cX4_between 41 = .ok (.ifCond .le 9, 3) := dk_158 0 9 (dk_at dksX4_between_1 17 rfl rfl)
theorem dX4_between_44 : decode cX4_between 44 = .ok (.ldc2_w 197, 3) := dk_20 0 197 (dk_at dksX4_between_1 20 rfl rfl)
theorem dX4_between_47 : decode cX4_between 47 = .ok (.goto 18, 3) := dk_167 0 18 (dk_at dksX4_between_2 0 rfl rfl)
theorem dX4_between_50 : decode cX4_between 50 = .ok (.lload_n 3, 1) := dk_33 (dk_at dksX4_between_2 3 rfl rfl)
theorem dX4_between_51 : decode cX4_between 51 = .ok (.ldc2_w 199, 3) := dk_20 0 199 (dk_at dksX4_between_2 4 rfl rfl)
theorem dX4_between_54 : decode cX4_between 54 = .ok (.lcmp, 1) := dk_148 (dk_at dksX4_between_2 7 rfl rfl)
theorem dX4_between_55 : decode cX4_between 55 = .ok (.ifCond .ge 9, 3) := dk_156 0 9 (dk_at dksX4_between_2 8 rfl rfl)
theorem dX4_between_58 : decode cX4_between 58 = .ok (.ldc2_w 199, 3) := dk_20 0 199 (dk_at dksX4_between_2 11 rfl rfl)
theorem dX4_between_61 : decode cX4_between 61 = .ok (.goto 4, 3) := dk_167 0 4 (dk_at dksX4_between_2 14 rfl rfl)
theorem dX4_between_64 : decode cX4_between 64 = .ok (.lload_n 3, 1) := dk_33 (dk_at dksX4_between_2 17 rfl rfl)
theorem dX4_between_65 : decode cX4_between 65 = .ok (.l2i, 1) := dk_136 (dk_at dksX4_between_2 18 rfl rfl)
theorem dX4_between_66 : decode cX4_between 66 = .ok (.ireturn, 1) := dk_172 (dk_at dksX4_between_2 19 rfl rfl)
abbrev cX4_pays : ByteArray := prog_11_method_48_code
def yX4_pays : MethodName := ⟨RX4, "pays", "(I)I"⟩
def dkwX4_pays_1 : List UInt8 := [180, 0, 13, 16, 42, 46, 182, 0, 238, 167, 0, 5, 18, 241, 172]
abbrev dktX4_pays_1 : List UInt8 := dkwX4_pays_1 ++ []
def dkwX4_pays_0 : List UInt8 := [42, 3, 181, 0, 1, 42, 27, 133, 182, 0, 220, 153, 0, 25, 42, 27, 42, 180, 0, 13, 16, 41, 46, 42]
abbrev dktX4_pays_0 : List UInt8 := dkwX4_pays_0 ++ dktX4_pays_1
theorem dksX4_pays_0 : cX4_pays.data.toList.drop 0 = dktX4_pays_0 := by decide +kernel
theorem dksX4_pays_1 : cX4_pays.data.toList.drop 24 = dktX4_pays_1 := dk_seg dksX4_pays_0 24 rfl rfl
theorem dX4_pays_0 : decode cX4_pays 0 = .ok (.aload_n 0, 1) := dk_42 (dk_at dksX4_pays_0 0 rfl rfl)
theorem dX4_pays_1 : decode cX4_pays 1 = .ok (.iconst 0, 1) := dk_3 (dk_at dksX4_pays_0 1 rfl rfl)
theorem dX4_pays_2 : decode cX4_pays 2 = .ok (.putfield 1, 3) := dk_181 0 1 (dk_at dksX4_pays_0 2 rfl rfl)
theorem dX4_pays_5 : decode cX4_pays 5 = .ok (.aload_n 0, 1) := dk_42 (dk_at dksX4_pays_0 5 rfl rfl)
theorem dX4_pays_6 : decode cX4_pays 6 = .ok (.iload_n 1, 1) := dk_27 (dk_at dksX4_pays_0 6 rfl rfl)
theorem dX4_pays_7 : decode cX4_pays 7 = .ok (.i2l, 1) := dk_133 (dk_at dksX4_pays_0 7 rfl rfl)
theorem dX4_pays_8 : decode cX4_pays 8 = .ok (.invokevirtual 220, 3) := dk_182 0 220 (dk_at dksX4_pays_0 8 rfl rfl)
theorem dX4_pays_11 : decode cX4_pays 11 = .ok (.ifCond .eq 25, 3) := dk_153 0 25 (dk_at dksX4_pays_0 11 rfl rfl)
theorem dX4_pays_14 : decode cX4_pays 14 = .ok (.aload_n 0, 1) := dk_42 (dk_at dksX4_pays_0 14 rfl rfl)
theorem dX4_pays_15 : decode cX4_pays 15 = .ok (.iload_n 1, 1) := dk_27 (dk_at dksX4_pays_0 15 rfl rfl)
theorem dX4_pays_16 : decode cX4_pays 16 = .ok (.aload_n 0, 1) := dk_42 (dk_at dksX4_pays_0 16 rfl rfl)
theorem dX4_pays_17 : decode cX4_pays 17 = .ok (.getfield 13, 3) := dk_180 0 13 (dk_at dksX4_pays_0 17 rfl rfl)
theorem dX4_pays_20 : decode cX4_pays 20 = .ok (.bipush 41, 2) := dk_16 41 (dk_at dksX4_pays_0 20 rfl rfl)
theorem dX4_pays_22 : decode cX4_pays 22 = .ok (.iaload, 1) := dk_46 (dk_at dksX4_pays_0 22 rfl rfl)
theorem dX4_pays_23 : decode cX4_pays 23 = .ok (.aload_n 0, 1) := dk_42 (dk_at dksX4_pays_0 23 rfl rfl)
theorem dX4_pays_24 : decode cX4_pays 24 = .ok (.getfield 13, 3) := dk_180 0 13 (dk_at dksX4_pays_1 0 rfl rfl)
theorem dX4_pays_27 : decode cX4_pays 27 = .ok (.bipush 42, 2) := dk_16 42 (dk_at dksX4_pays_1 3 rfl rfl)
theorem dX4_pays_29 : decode cX4_pays 29 = .ok (.iaload, 1) := dk_46 (dk_at dksX4_pays_1 5 rfl rfl)
theorem dX4_pays_30 : decode cX4_pays 30 = .ok (.invokevirtual 238, 3) := dk_182 0 238 (dk_at dksX4_pays_1 6 rfl rfl)
theorem dX4_pays_33 : decode cX4_pays 33 = .ok (.goto 5, 3) := dk_167 0 5 (dk_at dksX4_pays_1 9 rfl rfl)
theorem dX4_pays_36 : decode cX4_pays 36 = .ok (.ldc 241, 2) := dk_18 241 (dk_at dksX4_pays_1 12 rfl rfl)
theorem dX4_pays_38 : decode cX4_pays 38 = .ok (.ireturn, 1) := dk_172 (dk_at dksX4_pays_1 14 rfl rfl)
abbrev cX4_paysOf : ByteArray := prog_11_method_41_code
def yX4_paysOf : MethodName := ⟨RX4, "paysOf", "(III)I"⟩
def dkwX4_paysOf_1 : List UInt8 := [180, 0, 33, 8, 27, 28, 184, 0, 213, 79, 42, 180, 0, 33, 16, 6, 27, 79, 42, 4, 182, 0, 209, 172]
abbrev dktX4_paysOf_1 : List UInt8 := dkwX4_paysOf_1 ++ []
def dkwX4_paysOf_0 : List UInt8 := [42, 180, 0, 13, 16, 6, 46, 154, 0, 5, 3, 172, 42, 180, 0, 33, 3, 29, 16, 12, 112, 79, 42]
abbrev dktX4_paysOf_0 : List UInt8 := dkwX4_paysOf_0 ++ dktX4_paysOf_1
theorem dksX4_paysOf_0 : cX4_paysOf.data.toList.drop 0 = dktX4_paysOf_0 := by decide +kernel
theorem dksX4_paysOf_1 : cX4_paysOf.data.toList.drop 23 = dktX4_paysOf_1 := dk_seg dksX4_paysOf_0 23 rfl rfl
theorem dX4_paysOf_0 : decode cX4_paysOf 0 = .ok (.aload_n 0, 1) := dk_42 (dk_at dksX4_paysOf_0 0 rfl rfl)
theorem dX4_paysOf_1 : decode cX4_paysOf 1 = .ok (.getfield 13, 3) := dk_180 0 13 (dk_at dksX4_paysOf_0 1 rfl rfl)
theorem dX4_paysOf_4 : decode cX4_paysOf 4 = .ok (.bipush 6, 2) := dk_16 6 (dk_at dksX4_paysOf_0 4 rfl rfl)
theorem dX4_paysOf_6 : decode cX4_paysOf 6 = .ok (.iaload, 1) := dk_46 (dk_at dksX4_paysOf_0 6 rfl rfl)
theorem dX4_paysOf_7 : decode cX4_paysOf 7 = .ok (.ifCond .ne 5, 3) := dk_154 0 5 (dk_at dksX4_paysOf_0 7 rfl rfl)
theorem dX4_paysOf_10 : decode cX4_paysOf 10 = .ok (.iconst 0, 1) := dk_3 (dk_at dksX4_paysOf_0 10 rfl rfl)
theorem dX4_paysOf_11 : decode cX4_paysOf 11 = .ok (.ireturn, 1) := dk_172 (dk_at dksX4_paysOf_0 11 rfl rfl)
theorem dX4_paysOf_12 : decode cX4_paysOf 12 = .ok (.aload_n 0, 1) := dk_42 (dk_at dksX4_paysOf_0 12 rfl rfl)
theorem dX4_paysOf_13 : decode cX4_paysOf 13 = .ok (.getfield 33, 3) := dk_180 0 33 (dk_at dksX4_paysOf_0 13 rfl rfl)
theorem dX4_paysOf_16 : decode cX4_paysOf 16 = .ok (.iconst 0, 1) := dk_3 (dk_at dksX4_paysOf_0 16 rfl rfl)
theorem dX4_paysOf_17 : decode cX4_paysOf 17 = .ok (.iload_n 3, 1) := dk_29 (dk_at dksX4_paysOf_0 17 rfl rfl)
theorem dX4_paysOf_18 : decode cX4_paysOf 18 = .ok (.bipush 12, 2) := dk_16 12 (dk_at dksX4_paysOf_0 18 rfl rfl)
theorem dX4_paysOf_20 : decode cX4_paysOf 20 = .ok (.irem, 1) := dk_112 (dk_at dksX4_paysOf_0 20 rfl rfl)
theorem dX4_paysOf_21 : decode cX4_paysOf 21 = .ok (.iastore, 1) := dk_79 (dk_at dksX4_paysOf_0 21 rfl rfl)
theorem dX4_paysOf_22 : decode cX4_paysOf 22 = .ok (.aload_n 0, 1) := dk_42 (dk_at dksX4_paysOf_0 22 rfl rfl)
theorem dX4_paysOf_23 : decode cX4_paysOf 23 = .ok (.getfield 33, 3) := dk_180 0 33 (dk_at dksX4_paysOf_1 0 rfl rfl)
theorem dX4_paysOf_26 : decode cX4_paysOf 26 = .ok (.iconst 5, 1) := dk_8 (dk_at dksX4_paysOf_1 3 rfl rfl)
theorem dX4_paysOf_27 : decode cX4_paysOf 27 = .ok (.iload_n 1, 1) := dk_27 (dk_at dksX4_paysOf_1 4 rfl rfl)
theorem dX4_paysOf_28 : decode cX4_paysOf 28 = .ok (.iload_n 2, 1) := dk_28 (dk_at dksX4_paysOf_1 5 rfl rfl)
theorem dX4_paysOf_29 : decode cX4_paysOf 29 = .ok (.invokestatic 213, 3) := dk_184 0 213 (dk_at dksX4_paysOf_1 6 rfl rfl)
theorem dX4_paysOf_32 : decode cX4_paysOf 32 = .ok (.iastore, 1) := dk_79 (dk_at dksX4_paysOf_1 9 rfl rfl)
theorem dX4_paysOf_33 : decode cX4_paysOf 33 = .ok (.aload_n 0, 1) := dk_42 (dk_at dksX4_paysOf_1 10 rfl rfl)
theorem dX4_paysOf_34 : decode cX4_paysOf 34 = .ok (.getfield 33, 3) := dk_180 0 33 (dk_at dksX4_paysOf_1 11 rfl rfl)
theorem dX4_paysOf_37 : decode cX4_paysOf 37 = .ok (.bipush 6, 2) := dk_16 6 (dk_at dksX4_paysOf_1 14 rfl rfl)
theorem dX4_paysOf_39 : decode cX4_paysOf 39 = .ok (.iload_n 1, 1) := dk_27 (dk_at dksX4_paysOf_1 16 rfl rfl)
theorem dX4_paysOf_40 : decode cX4_paysOf 40 = .ok (.iastore, 1) := dk_79 (dk_at dksX4_paysOf_1 17 rfl rfl)
theorem dX4_paysOf_41 : decode cX4_paysOf 41 = .ok (.aload_n 0, 1) := dk_42 (dk_at dksX4_paysOf_1 18 rfl rfl)
theorem dX4_paysOf_42 : decode cX4_paysOf 42 = .ok (.iconst 1, 1) := dk_4 (dk_at dksX4_paysOf_1 19 rfl rfl)
theorem dX4_paysOf_43 : decode cX4_paysOf 43 = .ok (.invokevirtual 209, 3) := dk_182 0 209 (dk_at dksX4_paysOf_1 20 rfl rfl)
theorem dX4_paysOf_46 : decode cX4_paysOf 46 = .ok (.ireturn, 1) := dk_172 (dk_at dksX4_paysOf_1 23 rfl rfl)
abbrev cX4_heightOf : ByteArray := prog_11_method_34_code
def yX4_heightOf : MethodName := ⟨RX4, "heightOf", "(II)I"⟩
def dkwX4_heightOf_1 : List UInt8 := [16, 12, 108, 116, 172]
abbrev dktX4_heightOf_1 : List UInt8 := dkwX4_heightOf_1 ++ []
def dkwX4_heightOf_0 : List UInt8 := [17, 0, 144, 26, 104, 27, 100, 61, 28, 155, 0, 10, 28, 16, 12, 108, 167, 0, 11, 16, 11, 28, 100]
abbrev dktX4_heightOf_0 : List UInt8 := dkwX4_heightOf_0 ++ dktX4_heightOf_1
theorem dksX4_heightOf_0 : cX4_heightOf.data.toList.drop 0 = dktX4_heightOf_0 := by decide +kernel
theorem dksX4_heightOf_1 : cX4_heightOf.data.toList.drop 23 = dktX4_heightOf_1 := dk_seg dksX4_heightOf_0 23 rfl rfl
theorem dX4_heightOf_0 : decode cX4_heightOf 0 = .ok (.sipush 144, 3) := dk_17 0 144 (dk_at dksX4_heightOf_0 0 rfl rfl)
theorem dX4_heightOf_3 : decode cX4_heightOf 3 = .ok (.iload_n 0, 1) := dk_26 (dk_at dksX4_heightOf_0 3 rfl rfl)
theorem dX4_heightOf_4 : decode cX4_heightOf 4 = .ok (.imul, 1) := dk_104 (dk_at dksX4_heightOf_0 4 rfl rfl)
theorem dX4_heightOf_5 : decode cX4_heightOf 5 = .ok (.iload_n 1, 1) := dk_27 (dk_at dksX4_heightOf_0 5 rfl rfl)
theorem dX4_heightOf_6 : decode cX4_heightOf 6 = .ok (.isub, 1) := dk_100 (dk_at dksX4_heightOf_0 6 rfl rfl)
theorem dX4_heightOf_7 : decode cX4_heightOf 7 = .ok (.istore_n 2, 1) := dk_61 (dk_at dksX4_heightOf_0 7 rfl rfl)
theorem dX4_heightOf_8 : decode cX4_heightOf 8 = .ok (.iload_n 2, 1) := dk_28 (dk_at dksX4_heightOf_0 8 rfl rfl)
theorem dX4_heightOf_9 : decode cX4_heightOf 9 = .ok (.ifCond .lt 10, 3) := dk_155 0 10 (dk_at dksX4_heightOf_0 9 rfl rfl)
theorem dX4_heightOf_12 : decode cX4_heightOf 12 = .ok (.iload_n 2, 1) := dk_28 (dk_at dksX4_heightOf_0 12 rfl rfl)
theorem dX4_heightOf_13 : decode cX4_heightOf 13 = .ok (.bipush 12, 2) := dk_16 12 (dk_at dksX4_heightOf_0 13 rfl rfl)
theorem dX4_heightOf_15 : decode cX4_heightOf 15 = .ok (.idiv, 1) := dk_108 (dk_at dksX4_heightOf_0 15 rfl rfl)
theorem dX4_heightOf_16 : decode cX4_heightOf 16 = .ok (.goto 11, 3) := dk_167 0 11 (dk_at dksX4_heightOf_0 16 rfl rfl)
theorem dX4_heightOf_19 : decode cX4_heightOf 19 = .ok (.bipush 11, 2) := dk_16 11 (dk_at dksX4_heightOf_0 19 rfl rfl)
theorem dX4_heightOf_21 : decode cX4_heightOf 21 = .ok (.iload_n 2, 1) := dk_28 (dk_at dksX4_heightOf_0 21 rfl rfl)
theorem dX4_heightOf_22 : decode cX4_heightOf 22 = .ok (.isub, 1) := dk_100 (dk_at dksX4_heightOf_0 22 rfl rfl)
theorem dX4_heightOf_23 : decode cX4_heightOf 23 = .ok (.bipush 12, 2) := dk_16 12 (dk_at dksX4_heightOf_1 0 rfl rfl)
theorem dX4_heightOf_25 : decode cX4_heightOf 25 = .ok (.idiv, 1) := dk_108 (dk_at dksX4_heightOf_1 2 rfl rfl)
theorem dX4_heightOf_26 : decode cX4_heightOf 26 = .ok (.ineg, 1) := dk_116 (dk_at dksX4_heightOf_1 3 rfl rfl)
theorem dX4_heightOf_27 : decode cX4_heightOf 27 = .ok (.ireturn, 1) := dk_172 (dk_at dksX4_heightOf_1 4 rfl rfl)
abbrev cX4_worth : ByteArray := prog_11_method_49_code
def yX4_worth : MethodName := ⟨RX4, "worth", "(II)I"⟩
def dkwX4_worth_1 : List UInt8 := [27, 28, 182, 0, 242, 167, 0, 5, 18, 241, 172]
abbrev dktX4_worth_1 : List UInt8 := dkwX4_worth_1 ++ []
def dkwX4_worth_0 : List UInt8 := [42, 3, 181, 0, 1, 42, 27, 133, 182, 0, 229, 153, 0, 21, 42, 28, 133, 182, 0, 220, 153, 0, 12, 42]
abbrev dktX4_worth_0 : List UInt8 := dkwX4_worth_0 ++ dktX4_worth_1
theorem dksX4_worth_0 : cX4_worth.data.toList.drop 0 = dktX4_worth_0 := by decide +kernel
theorem dksX4_worth_1 : cX4_worth.data.toList.drop 24 = dktX4_worth_1 := dk_seg dksX4_worth_0 24 rfl rfl
theorem dX4_worth_0 : decode cX4_worth 0 = .ok (.aload_n 0, 1) := dk_42 (dk_at dksX4_worth_0 0 rfl rfl)
theorem dX4_worth_1 : decode cX4_worth 1 = .ok (.iconst 0, 1) := dk_3 (dk_at dksX4_worth_0 1 rfl rfl)
theorem dX4_worth_2 : decode cX4_worth 2 = .ok (.putfield 1, 3) := dk_181 0 1 (dk_at dksX4_worth_0 2 rfl rfl)
theorem dX4_worth_5 : decode cX4_worth 5 = .ok (.aload_n 0, 1) := dk_42 (dk_at dksX4_worth_0 5 rfl rfl)
theorem dX4_worth_6 : decode cX4_worth 6 = .ok (.iload_n 1, 1) := dk_27 (dk_at dksX4_worth_0 6 rfl rfl)
theorem dX4_worth_7 : decode cX4_worth 7 = .ok (.i2l, 1) := dk_133 (dk_at dksX4_worth_0 7 rfl rfl)
theorem dX4_worth_8 : decode cX4_worth 8 = .ok (.invokevirtual 229, 3) := dk_182 0 229 (dk_at dksX4_worth_0 8 rfl rfl)
theorem dX4_worth_11 : decode cX4_worth 11 = .ok (.ifCond .eq 21, 3) := dk_153 0 21 (dk_at dksX4_worth_0 11 rfl rfl)
theorem dX4_worth_14 : decode cX4_worth 14 = .ok (.aload_n 0, 1) := dk_42 (dk_at dksX4_worth_0 14 rfl rfl)
theorem dX4_worth_15 : decode cX4_worth 15 = .ok (.iload_n 2, 1) := dk_28 (dk_at dksX4_worth_0 15 rfl rfl)
theorem dX4_worth_16 : decode cX4_worth 16 = .ok (.i2l, 1) := dk_133 (dk_at dksX4_worth_0 16 rfl rfl)
theorem dX4_worth_17 : decode cX4_worth 17 = .ok (.invokevirtual 220, 3) := dk_182 0 220 (dk_at dksX4_worth_0 17 rfl rfl)
theorem dX4_worth_20 : decode cX4_worth 20 = .ok (.ifCond .eq 12, 3) := dk_153 0 12 (dk_at dksX4_worth_0 20 rfl rfl)
theorem dX4_worth_23 : decode cX4_worth 23 = .ok (.aload_n 0, 1) := dk_42 (dk_at dksX4_worth_0 23 rfl rfl)
theorem dX4_worth_24 : decode cX4_worth 24 = .ok (.iload_n 1, 1) := dk_27 (dk_at dksX4_worth_1 0 rfl rfl)
theorem dX4_worth_25 : decode cX4_worth 25 = .ok (.iload_n 2, 1) := dk_28 (dk_at dksX4_worth_1 1 rfl rfl)
theorem dX4_worth_26 : decode cX4_worth 26 = .ok (.invokevirtual 242, 3) := dk_182 0 242 (dk_at dksX4_worth_1 2 rfl rfl)
theorem dX4_worth_29 : decode cX4_worth 29 = .ok (.goto 5, 3) := dk_167 0 5 (dk_at dksX4_worth_1 5 rfl rfl)
theorem dX4_worth_32 : decode cX4_worth 32 = .ok (.ldc 241, 2) := dk_18 241 (dk_at dksX4_worth_1 8 rfl rfl)
theorem dX4_worth_34 : decode cX4_worth 34 = .ok (.ireturn, 1) := dk_172 (dk_at dksX4_worth_1 10 rfl rfl)
abbrev cX4_worthNow : ByteArray := prog_11_method_43_code
def yX4_worthNow : MethodName := ⟨RX4, "worthNow", "(II)I"⟩
def dkwX4_worthNow_0 : List UInt8 := [42, 27, 28, 42, 180, 0, 13, 16, 41, 46, 42, 180, 0, 13, 16, 42, 46, 182, 0, 216, 172]
abbrev dktX4_worthNow_0 : List UInt8 := dkwX4_worthNow_0 ++ []
theorem dksX4_worthNow_0 : cX4_worthNow.data.toList.drop 0 = dktX4_worthNow_0 := by decide +kernel
theorem dX4_worthNow_0 : decode cX4_worthNow 0 = .ok (.aload_n 0, 1) := dk_42 (dk_at dksX4_worthNow_0 0 rfl rfl)
theorem dX4_worthNow_1 : decode cX4_worthNow 1 = .ok (.iload_n 1, 1) := dk_27 (dk_at dksX4_worthNow_0 1 rfl rfl)
theorem dX4_worthNow_2 : decode cX4_worthNow 2 = .ok (.iload_n 2, 1) := dk_28 (dk_at dksX4_worthNow_0 2 rfl rfl)
theorem dX4_worthNow_3 : decode cX4_worthNow 3 = .ok (.aload_n 0, 1) := dk_42 (dk_at dksX4_worthNow_0 3 rfl rfl)
theorem dX4_worthNow_4 : decode cX4_worthNow 4 = .ok (.getfield 13, 3) := dk_180 0 13 (dk_at dksX4_worthNow_0 4 rfl rfl)
theorem dX4_worthNow_7 : decode cX4_worthNow 7 = .ok (.bipush 41, 2) := dk_16 41 (dk_at dksX4_worthNow_0 7 rfl rfl)
theorem dX4_worthNow_9 : decode cX4_worthNow 9 = .ok (.iaload, 1) := dk_46 (dk_at dksX4_worthNow_0 9 rfl rfl)
theorem dX4_worthNow_10 : decode cX4_worthNow 10 = .ok (.aload_n 0, 1) := dk_42 (dk_at dksX4_worthNow_0 10 rfl rfl)
theorem dX4_worthNow_11 : decode cX4_worthNow 11 = .ok (.getfield 13, 3) := dk_180 0 13 (dk_at dksX4_worthNow_0 11 rfl rfl)
theorem dX4_worthNow_14 : decode cX4_worthNow 14 = .ok (.bipush 42, 2) := dk_16 42 (dk_at dksX4_worthNow_0 14 rfl rfl)
theorem dX4_worthNow_16 : decode cX4_worthNow 16 = .ok (.iaload, 1) := dk_46 (dk_at dksX4_worthNow_0 16 rfl rfl)
theorem dX4_worthNow_17 : decode cX4_worthNow 17 = .ok (.invokevirtual 216, 3) := dk_182 0 216 (dk_at dksX4_worthNow_0 17 rfl rfl)
theorem dX4_worthNow_20 : decode cX4_worthNow 20 = .ok (.ireturn, 1) := dk_172 (dk_at dksX4_worthNow_0 20 rfl rfl)
abbrev cX4_worthOf : ByteArray := prog_11_method_42_code
def yX4_worthOf : MethodName := ⟨RX4, "worthOf", "(IIII)I"⟩
def dkwX4_worthOf_4 : List UInt8 := [167, 0, 4, 3, 79, 42, 5, 182, 0, 209, 172]
abbrev dktX4_worthOf_4 : List UInt8 := dkwX4_worthOf_4 ++ []
def dkwX4_worthOf_3 : List UInt8 := [46, 79, 42, 180, 0, 33, 16, 9, 42, 180, 0, 13, 16, 35, 27, 96, 46, 28, 160, 0, 7, 4]
abbrev dktX4_worthOf_3 : List UInt8 := dkwX4_worthOf_3 ++ dktX4_worthOf_4
def dkwX4_worthOf_2 : List UInt8 := [42, 180, 0, 13, 16, 14, 27, 96, 46, 79, 42, 180, 0, 33, 16, 8, 42, 180, 0, 13, 16, 29, 27, 96]
abbrev dktX4_worthOf_2 : List UInt8 := dkwX4_worthOf_2 ++ dktX4_worthOf_3
def dkwX4_worthOf_1 : List UInt8 := [180, 0, 33, 8, 28, 29, 184, 0, 213, 79, 42, 180, 0, 33, 16, 6, 28, 79, 42, 180, 0, 33, 16, 7]
abbrev dktX4_worthOf_1 : List UInt8 := dkwX4_worthOf_1 ++ dktX4_worthOf_2
def dkwX4_worthOf_0 : List UInt8 := [42, 180, 0, 13, 16, 7, 46, 154, 0, 5, 3, 172, 42, 180, 0, 33, 3, 21, 4, 16, 12, 112, 79, 42]
abbrev dktX4_worthOf_0 : List UInt8 := dkwX4_worthOf_0 ++ dktX4_worthOf_1
theorem dksX4_worthOf_0 : cX4_worthOf.data.toList.drop 0 = dktX4_worthOf_0 := by decide +kernel
theorem dksX4_worthOf_1 : cX4_worthOf.data.toList.drop 24 = dktX4_worthOf_1 := dk_seg dksX4_worthOf_0 24 rfl rfl
theorem dksX4_worthOf_2 : cX4_worthOf.data.toList.drop 48 = dktX4_worthOf_2 := dk_seg dksX4_worthOf_1 24 rfl rfl
theorem dksX4_worthOf_3 : cX4_worthOf.data.toList.drop 72 = dktX4_worthOf_3 := dk_seg dksX4_worthOf_2 24 rfl rfl
theorem dksX4_worthOf_4 : cX4_worthOf.data.toList.drop 94 = dktX4_worthOf_4 := dk_seg dksX4_worthOf_3 22 rfl rfl
theorem dX4_worthOf_0 : decode cX4_worthOf 0 = .ok (.aload_n 0, 1) := dk_42 (dk_at dksX4_worthOf_0 0 rfl rfl)
theorem dX4_worthOf_1 : decode cX4_worthOf 1 = .ok (.getfield 13, 3) := dk_180 0 13 (dk_at dksX4_worthOf_0 1 rfl rfl)
theorem dX4_worthOf_4 : decode cX4_worthOf 4 = .ok (.bipush 7, 2) := dk_16 7 (dk_at dksX4_worthOf_0 4 rfl rfl)
theorem dX4_worthOf_6 : decode cX4_worthOf 6 = .ok (.iaload, 1) := dk_46 (dk_at dksX4_worthOf_0 6 rfl rfl)
theorem dX4_worthOf_7 : decode cX4_worthOf 7 = .ok (.ifCond .ne 5, 3) := dk_154 0 5 (dk_at dksX4_worthOf_0 7 rfl rfl)
theorem dX4_worthOf_10 : decode cX4_worthOf 10 = .ok (.iconst 0, 1) := dk_3 (dk_at dksX4_worthOf_0 10 rfl rfl)
theorem dX4_worthOf_11 : decode cX4_worthOf 11 = .ok (.ireturn, 1) := dk_172 (dk_at dksX4_worthOf_0 11 rfl rfl)
theorem dX4_worthOf_12 : decode cX4_worthOf 12 = .ok (.aload_n 0, 1) := dk_42 (dk_at dksX4_worthOf_0 12 rfl rfl)
theorem dX4_worthOf_13 : decode cX4_worthOf 13 = .ok (.getfield 33, 3) := dk_180 0 33 (dk_at dksX4_worthOf_0 13 rfl rfl)
theorem dX4_worthOf_16 : decode cX4_worthOf 16 = .ok (.iconst 0, 1) := dk_3 (dk_at dksX4_worthOf_0 16 rfl rfl)
theorem dX4_worthOf_17 : decode cX4_worthOf 17 = .ok (.iload 4, 2) := dk_21 4 (dk_at dksX4_worthOf_0 17 rfl rfl)
theorem dX4_worthOf_19 : decode cX4_worthOf 19 = .ok (.bipush 12, 2) := dk_16 12 (dk_at dksX4_worthOf_0 19 rfl rfl)
theorem dX4_worthOf_21 : decode cX4_worthOf 21 = .ok (.irem, 1) := dk_112 (dk_at dksX4_worthOf_0 21 rfl rfl)
theorem dX4_worthOf_22 : decode cX4_worthOf 22 = .ok (.iastore, 1) := dk_79 (dk_at dksX4_worthOf_0 22 rfl rfl)
theorem dX4_worthOf_23 : decode cX4_worthOf 23 = .ok (.aload_n 0, 1) := dk_42 (dk_at dksX4_worthOf_0 23 rfl rfl)
theorem dX4_worthOf_24 : decode cX4_worthOf 24 = .ok (.getfield 33, 3) := dk_180 0 33 (dk_at dksX4_worthOf_1 0 rfl rfl)
theorem dX4_worthOf_27 : decode cX4_worthOf 27 = .ok (.iconst 5, 1) := dk_8 (dk_at dksX4_worthOf_1 3 rfl rfl)
theorem dX4_worthOf_28 : decode cX4_worthOf 28 = .ok (.iload_n 2, 1) := dk_28 (dk_at dksX4_worthOf_1 4 rfl rfl)
theorem dX4_worthOf_29 : decode cX4_worthOf 29 = .ok (.iload_n 3, 1) := dk_29 (dk_at dksX4_worthOf_1 5 rfl rfl)
theorem dX4_worthOf_30 : decode cX4_worthOf 30 = .ok (.invokestatic 213, 3) := dk_184 0 213 (dk_at dksX4_worthOf_1 6 rfl rfl)
theorem dX4_worthOf_33 : decode cX4_worthOf 33 = .ok (.iastore, 1) := dk_79 (dk_at dksX4_worthOf_1 9 rfl rfl)
theorem dX4_worthOf_34 : decode cX4_worthOf 34 = .ok (.aload_n 0, 1) := dk_42 (dk_at dksX4_worthOf_1 10 rfl rfl)
theorem dX4_worthOf_35 : decode cX4_worthOf 35 = .ok (.getfield 33, 3) := dk_180 0 33 (dk_at dksX4_worthOf_1 11 rfl rfl)
theorem dX4_worthOf_38 : decode cX4_worthOf 38 = .ok (.bipush 6, 2) := dk_16 6 (dk_at dksX4_worthOf_1 14 rfl rfl)
theorem dX4_worthOf_40 : decode cX4_worthOf 40 = .ok (.iload_n 2, 1) := dk_28 (dk_at dksX4_worthOf_1 16 rfl rfl)
theorem dX4_worthOf_41 : decode cX4_worthOf 41 = .ok (.iastore, 1) := dk_79 (dk_at dksX4_worthOf_1 17 rfl rfl)
theorem dX4_worthOf_42 : decode cX4_worthOf 42 = .ok (.aload_n 0, 1) := dk_42 (dk_at dksX4_worthOf_1 18 rfl rfl)
theorem dX4_worthOf_43 : decode cX4_worthOf 43 = .ok (.getfield 33, 3) := dk_180 0 33 (dk_at dksX4_worthOf_1 19 rfl rfl)
theorem dX4_worthOf_46 : decode cX4_worthOf 46 = .ok (.bipush 7, 2) := dk_16 7 (dk_at dksX4_worthOf_1 22 rfl rfl)
theorem dX4_worthOf_48 : decode cX4_worthOf 48 = .ok (.aload_n 0, 1) := dk_42 (dk_at dksX4_worthOf_2 0 rfl rfl)
theorem dX4_worthOf_49 : decode cX4_worthOf 49 = .ok (.getfield 13, 3) := dk_180 0 13 (dk_at dksX4_worthOf_2 1 rfl rfl)
theorem dX4_worthOf_52 : decode cX4_worthOf 52 = .ok (.bipush 14, 2) := dk_16 14 (dk_at dksX4_worthOf_2 4 rfl rfl)
theorem dX4_worthOf_54 : decode cX4_worthOf 54 = .ok (.iload_n 1, 1) := dk_27 (dk_at dksX4_worthOf_2 6 rfl rfl)
theorem dX4_worthOf_55 : decode cX4_worthOf 55 = .ok (.iadd, 1) := dk_96 (dk_at dksX4_worthOf_2 7 rfl rfl)
theorem dX4_worthOf_56 : decode cX4_worthOf 56 = .ok (.iaload, 1) := dk_46 (dk_at dksX4_worthOf_2 8 rfl rfl)
theorem dX4_worthOf_57 : decode cX4_worthOf 57 = .ok (.iastore, 1) := dk_79 (dk_at dksX4_worthOf_2 9 rfl rfl)
theorem dX4_worthOf_58 : decode cX4_worthOf 58 = .ok (.aload_n 0, 1) := dk_42 (dk_at dksX4_worthOf_2 10 rfl rfl)
theorem dX4_worthOf_59 : decode cX4_worthOf 59 = .ok (.getfield 33, 3) := dk_180 0 33 (dk_at dksX4_worthOf_2 11 rfl rfl)
theorem dX4_worthOf_62 : decode cX4_worthOf 62 = .ok (.bipush 8, 2) := dk_16 8 (dk_at dksX4_worthOf_2 14 rfl rfl)
theorem dX4_worthOf_64 : decode cX4_worthOf 64 = .ok (.aload_n 0, 1) := dk_42 (dk_at dksX4_worthOf_2 16 rfl rfl)
theorem dX4_worthOf_65 : decode cX4_worthOf 65 = .ok (.getfield 13, 3) := dk_180 0 13 (dk_at dksX4_worthOf_2 17 rfl rfl)
theorem dX4_worthOf_68 : decode cX4_worthOf 68 = .ok (.bipush 29, 2) := dk_16 29 (dk_at dksX4_worthOf_2 20 rfl rfl)
theorem dX4_worthOf_70 : decode cX4_worthOf 70 = .ok (.iload_n 1, 1) := dk_27 (dk_at dksX4_worthOf_2 22 rfl rfl)
theorem dX4_worthOf_71 : decode cX4_worthOf 71 = .ok (.iadd, 1) := dk_96 (dk_at dksX4_worthOf_2 23 rfl rfl)
theorem dX4_worthOf_72 : decode cX4_worthOf 72 = .ok (.iaload, 1) := dk_46 (dk_at dksX4_worthOf_3 0 rfl rfl)
theorem dX4_worthOf_73 : decode cX4_worthOf 73 = .ok (.iastore, 1) := dk_79 (dk_at dksX4_worthOf_3 1 rfl rfl)
theorem dX4_worthOf_74 : decode cX4_worthOf 74 = .ok (.aload_n 0, 1) := dk_42 (dk_at dksX4_worthOf_3 2 rfl rfl)
theorem dX4_worthOf_75 : decode cX4_worthOf 75 = .ok (.getfield 33, 3) := dk_180 0 33 (dk_at dksX4_worthOf_3 3 rfl rfl)
theorem dX4_worthOf_78 : decode cX4_worthOf 78 = .ok (.bipush 9, 2) := dk_16 9 (dk_at dksX4_worthOf_3 6 rfl rfl)
theorem dX4_worthOf_80 : decode cX4_worthOf 80 = .ok (.aload_n 0, 1) := dk_42 (dk_at dksX4_worthOf_3 8 rfl rfl)
theorem dX4_worthOf_81 : decode cX4_worthOf 81 = .ok (.getfield 13, 3) := dk_180 0 13 (dk_at dksX4_worthOf_3 9 rfl rfl)
theorem dX4_worthOf_84 : decode cX4_worthOf 84 = .ok (.bipush 35, 2) := dk_16 35 (dk_at dksX4_worthOf_3 12 rfl rfl)
theorem dX4_worthOf_86 : decode cX4_worthOf 86 = .ok (.iload_n 1, 1) := dk_27 (dk_at dksX4_worthOf_3 14 rfl rfl)
theorem dX4_worthOf_87 : decode cX4_worthOf 87 = .ok (.iadd, 1) := dk_96 (dk_at dksX4_worthOf_3 15 rfl rfl)
theorem dX4_worthOf_88 : decode cX4_worthOf 88 = .ok (.iaload, 1) := dk_46 (dk_at dksX4_worthOf_3 16 rfl rfl)
theorem dX4_worthOf_89 : decode cX4_worthOf 89 = .ok (.iload_n 2, 1) := dk_28 (dk_at dksX4_worthOf_3 17 rfl rfl)
theorem dX4_worthOf_90 : decode cX4_worthOf 90 = .ok (.if_icmp .ne 7, 3) := dk_160 0 7 (dk_at dksX4_worthOf_3 18 rfl rfl)
theorem dX4_worthOf_93 : decode cX4_worthOf 93 = .ok (.iconst 1, 1) := dk_4 (dk_at dksX4_worthOf_3 21 rfl rfl)
theorem dX4_worthOf_94 : decode cX4_worthOf 94 = .ok (.goto 4, 3) := dk_167 0 4 (dk_at dksX4_worthOf_4 0 rfl rfl)
theorem dX4_worthOf_97 : decode cX4_worthOf 97 = .ok (.iconst 0, 1) := dk_3 (dk_at dksX4_worthOf_4 3 rfl rfl)
theorem dX4_worthOf_98 : decode cX4_worthOf 98 = .ok (.iastore, 1) := dk_79 (dk_at dksX4_worthOf_4 4 rfl rfl)
theorem dX4_worthOf_99 : decode cX4_worthOf 99 = .ok (.aload_n 0, 1) := dk_42 (dk_at dksX4_worthOf_4 5 rfl rfl)
theorem dX4_worthOf_100 : decode cX4_worthOf 100 = .ok (.iconst 2, 1) := dk_5 (dk_at dksX4_worthOf_4 6 rfl rfl)
theorem dX4_worthOf_101 : decode cX4_worthOf 101 = .ok (.invokevirtual 209, 3) := dk_182 0 209 (dk_at dksX4_worthOf_4 7 rfl rfl)
theorem dX4_worthOf_104 : decode cX4_worthOf 104 = .ok (.ireturn, 1) := dk_172 (dk_at dksX4_worthOf_4 10 rfl rfl)
abbrev cX4_months : ByteArray := prog_11_method_54_code
def yX4_months : MethodName := ⟨RX4, "months", "(I)I"⟩
def dkwX4_months_2 : List UInt8 := [180, 0, 13, 16, 41, 46, 42, 180, 0, 36, 16, 21, 46, 100, 172]
abbrev dktX4_months_2 : List UInt8 := dkwX4_months_2 ++ []
def dkwX4_months_1 : List UInt8 := [3, 61, 28, 27, 162, 0, 13, 42, 182, 0, 253, 132, 2, 1, 167, 255, 244, 42, 182, 1, 0, 42]
abbrev dktX4_months_1 : List UInt8 := dkwX4_months_1 ++ dktX4_months_2
def dkwX4_months_0 : List UInt8 := [42, 3, 181, 0, 1, 27, 133, 10, 20, 0, 248, 184, 0, 141, 154, 0, 6, 16, 253, 172, 42, 182, 0, 250]
abbrev dktX4_months_0 : List UInt8 := dkwX4_months_0 ++ dktX4_months_1
theorem dksX4_months_0 : cX4_months.data.toList.drop 0 = dktX4_months_0 := by decide +kernel
theorem dksX4_months_1 : cX4_months.data.toList.drop 24 = dktX4_months_1 := dk_seg dksX4_months_0 24 rfl rfl
theorem dksX4_months_2 : cX4_months.data.toList.drop 46 = dktX4_months_2 := dk_seg dksX4_months_1 22 rfl rfl
theorem dX4_months_0 : decode cX4_months 0 = .ok (.aload_n 0, 1) := dk_42 (dk_at dksX4_months_0 0 rfl rfl)
theorem dX4_months_1 : decode cX4_months 1 = .ok (.iconst 0, 1) := dk_3 (dk_at dksX4_months_0 1 rfl rfl)
theorem dX4_months_2 : decode cX4_months 2 = .ok (.putfield 1, 3) := dk_181 0 1 (dk_at dksX4_months_0 2 rfl rfl)
theorem dX4_months_5 : decode cX4_months 5 = .ok (.iload_n 1, 1) := dk_27 (dk_at dksX4_months_0 5 rfl rfl)
theorem dX4_months_6 : decode cX4_months 6 = .ok (.i2l, 1) := dk_133 (dk_at dksX4_months_0 6 rfl rfl)
theorem dX4_months_7 : decode cX4_months 7 = .ok (.lconst 1, 1) := dk_10 (dk_at dksX4_months_0 7 rfl rfl)
theorem dX4_months_8 : decode cX4_months 8 = .ok (.ldc2_w 248, 3) := dk_20 0 248 (dk_at dksX4_months_0 8 rfl rfl)
theorem dX4_months_11 : decode cX4_months 11 = .ok (.invokestatic 141, 3) := dk_184 0 141 (dk_at dksX4_months_0 11 rfl rfl)
theorem dX4_months_14 : decode cX4_months 14 = .ok (.ifCond .ne 6, 3) := dk_154 0 6 (dk_at dksX4_months_0 14 rfl rfl)
theorem dX4_months_17 : decode cX4_months 17 = .ok (.bipush (-3), 2) := dk_16 253 (dk_at dksX4_months_0 17 rfl rfl)
theorem dX4_months_19 : decode cX4_months 19 = .ok (.ireturn, 1) := dk_172 (dk_at dksX4_months_0 19 rfl rfl)
theorem dX4_months_20 : decode cX4_months 20 = .ok (.aload_n 0, 1) := dk_42 (dk_at dksX4_months_0 20 rfl rfl)
theorem dX4_months_21 : decode cX4_months 21 = .ok (.invokevirtual 250, 3) := dk_182 0 250 (dk_at dksX4_months_0 21 rfl rfl)
theorem dX4_months_24 : decode cX4_months 24 = .ok (.iconst 0, 1) := dk_3 (dk_at dksX4_months_1 0 rfl rfl)
theorem dX4_months_25 : decode cX4_months 25 = .ok (.istore_n 2, 1) := dk_61 (dk_at dksX4_months_1 1 rfl rfl)
theorem dX4_months_26 : decode cX4_months 26 = .ok (.iload_n 2, 1) := dk_28 (dk_at dksX4_months_1 2 rfl rfl)
theorem dX4_months_27 : decode cX4_months 27 = .ok (.iload_n 1, 1) := dk_27 (dk_at dksX4_months_1 3 rfl rfl)
theorem dX4_months_28 : decode cX4_months 28 = .ok (.if_icmp .ge 13, 3) := dk_162 0 13 (dk_at dksX4_months_1 4 rfl rfl)
theorem dX4_months_31 : decode cX4_months 31 = .ok (.aload_n 0, 1) := dk_42 (dk_at dksX4_months_1 7 rfl rfl)
theorem dX4_months_32 : decode cX4_months 32 = .ok (.invokevirtual 253, 3) := dk_182 0 253 (dk_at dksX4_months_1 8 rfl rfl)
theorem dX4_months_35 : decode cX4_months 35 = .ok (.iinc 2 1, 3) := dk_132 2 1 (dk_at dksX4_months_1 11 rfl rfl)
theorem dX4_months_38 : decode cX4_months 38 = .ok (.goto (-12), 3) := dk_167 255 244 (dk_at dksX4_months_1 14 rfl rfl)
theorem dX4_months_41 : decode cX4_months 41 = .ok (.aload_n 0, 1) := dk_42 (dk_at dksX4_months_1 17 rfl rfl)
theorem dX4_months_42 : decode cX4_months 42 = .ok (.invokevirtual 256, 3) := dk_182 1 0 (dk_at dksX4_months_1 18 rfl rfl)
theorem dX4_months_45 : decode cX4_months 45 = .ok (.aload_n 0, 1) := dk_42 (dk_at dksX4_months_1 21 rfl rfl)
theorem dX4_months_46 : decode cX4_months 46 = .ok (.getfield 13, 3) := dk_180 0 13 (dk_at dksX4_months_2 0 rfl rfl)
theorem dX4_months_49 : decode cX4_months 49 = .ok (.bipush 41, 2) := dk_16 41 (dk_at dksX4_months_2 3 rfl rfl)
theorem dX4_months_51 : decode cX4_months 51 = .ok (.iaload, 1) := dk_46 (dk_at dksX4_months_2 5 rfl rfl)
theorem dX4_months_52 : decode cX4_months 52 = .ok (.aload_n 0, 1) := dk_42 (dk_at dksX4_months_2 6 rfl rfl)
theorem dX4_months_53 : decode cX4_months 53 = .ok (.getfield 36, 3) := dk_180 0 36 (dk_at dksX4_months_2 7 rfl rfl)
theorem dX4_months_56 : decode cX4_months 56 = .ok (.bipush 21, 2) := dk_16 21 (dk_at dksX4_months_2 10 rfl rfl)
theorem dX4_months_58 : decode cX4_months 58 = .ok (.iaload, 1) := dk_46 (dk_at dksX4_months_2 12 rfl rfl)
theorem dX4_months_59 : decode cX4_months 59 = .ok (.isub, 1) := dk_100 (dk_at dksX4_months_2 13 rfl rfl)
theorem dX4_months_60 : decode cX4_months 60 = .ok (.ireturn, 1) := dk_172 (dk_at dksX4_months_2 14 rfl rfl)
abbrev cX4_keeps : ByteArray := prog_11_method_50_code
def yX4_keeps : MethodName := ⟨RX4, "keeps", "()V"⟩
def dkwX4_keeps_1 : List UInt8 := [132, 1, 1, 167, 255, 232, 177]
abbrev dktX4_keeps_1 : List UInt8 := dkwX4_keeps_1 ++ []
def dkwX4_keeps_0 : List UInt8 := [3, 60, 27, 16, 23, 162, 0, 24, 42, 180, 0, 36, 27, 42, 180, 0, 13, 16, 20, 27, 96, 46, 79]
abbrev dktX4_keeps_0 : List UInt8 := dkwX4_keeps_0 ++ dktX4_keeps_1
theorem dksX4_keeps_0 : cX4_keeps.data.toList.drop 0 = dktX4_keeps_0 := by decide +kernel
theorem dksX4_keeps_1 : cX4_keeps.data.toList.drop 23 = dktX4_keeps_1 := dk_seg dksX4_keeps_0 23 rfl rfl
theorem dX4_keeps_0 : decode cX4_keeps 0 = .ok (.iconst 0, 1) := dk_3 (dk_at dksX4_keeps_0 0 rfl rfl)
theorem dX4_keeps_1 : decode cX4_keeps 1 = .ok (.istore_n 1, 1) := dk_60 (dk_at dksX4_keeps_0 1 rfl rfl)
theorem dX4_keeps_2 : decode cX4_keeps 2 = .ok (.iload_n 1, 1) := dk_27 (dk_at dksX4_keeps_0 2 rfl rfl)
theorem dX4_keeps_3 : decode cX4_keeps 3 = .ok (.bipush 23, 2) := dk_16 23 (dk_at dksX4_keeps_0 3 rfl rfl)
theorem dX4_keeps_5 : decode cX4_keeps 5 = .ok (.if_icmp .ge 24, 3) := dk_162 0 24 (dk_at dksX4_keeps_0 5 rfl rfl)
theorem dX4_keeps_8 : decode cX4_keeps 8 = .ok (.aload_n 0, 1) := dk_42 (dk_at dksX4_keeps_0 8 rfl rfl)
theorem dX4_keeps_9 : decode cX4_keeps 9 = .ok (.getfield 36, 3) := dk_180 0 36 (dk_at dksX4_keeps_0 9 rfl rfl)
theorem dX4_keeps_12 : decode cX4_keeps 12 = .ok (.iload_n 1, 1) := dk_27 (dk_at dksX4_keeps_0 12 rfl rfl)
theorem dX4_keeps_13 : decode cX4_keeps 13 = .ok (.aload_n 0, 1) := dk_42 (dk_at dksX4_keeps_0 13 rfl rfl)
theorem dX4_keeps_14 : decode cX4_keeps 14 = .ok (.getfield 13, 3) := dk_180 0 13 (dk_at dksX4_keeps_0 14 rfl rfl)
theorem dX4_keeps_17 : decode cX4_keeps 17 = .ok (.bipush 20, 2) := dk_16 20 (dk_at dksX4_keeps_0 17 rfl rfl)
theorem dX4_keeps_19 : decode cX4_keeps 19 = .ok (.iload_n 1, 1) := dk_27 (dk_at dksX4_keeps_0 19 rfl rfl)
theorem dX4_keeps_20 : decode cX4_keeps 20 = .ok (.iadd, 1) := dk_96 (dk_at dksX4_keeps_0 20 rfl rfl)
theorem dX4_keeps_21 : decode cX4_keeps 21 = .ok (.iaload, 1) := dk_46 (dk_at dksX4_keeps_0 21 rfl rfl)
theorem dX4_keeps_22 : decode cX4_keeps 22 = .ok (.iastore, 1) := dk_79 (dk_at dksX4_keeps_0 22 rfl rfl)
theorem dX4_keeps_23 : decode cX4_keeps 23 = .ok (.iinc 1 1, 3) := dk_132 1 1 (dk_at dksX4_keeps_1 0 rfl rfl)
theorem dX4_keeps_26 : decode cX4_keeps 26 = .ok (.goto (-24), 3) := dk_167 255 232 (dk_at dksX4_keeps_1 3 rfl rfl)
theorem dX4_keeps_29 : decode cX4_keeps 29 = .ok (.return_, 1) := dk_177 (dk_at dksX4_keeps_1 6 rfl rfl)
abbrev cX4_goesMonth : ByteArray := prog_11_method_53_code
def yX4_goesMonth : MethodName := ⟨RX4, "goesMonth", "()V"⟩
def dkwX4_goesMonth_2 : List UInt8 := [42, 180, 0, 13, 16, 42, 92, 46, 4, 96, 79, 177]
abbrev dktX4_goesMonth_2 : List UInt8 := dkwX4_goesMonth_2 ++ []
def dkwX4_goesMonth_1 : List UInt8 := [16, 20, 46, 42, 180, 0, 13, 16, 41, 46, 42, 180, 0, 13, 16, 42, 46, 182, 0, 235, 184, 0, 245, 79]
abbrev dktX4_goesMonth_1 : List UInt8 := dkwX4_goesMonth_1 ++ dktX4_goesMonth_2
def dkwX4_goesMonth_0 : List UInt8 := [42, 180, 0, 13, 16, 41, 42, 180, 0, 13, 16, 41, 46, 42, 42, 2, 182, 0, 232, 42, 180, 0, 13]
abbrev dktX4_goesMonth_0 : List UInt8 := dkwX4_goesMonth_0 ++ dktX4_goesMonth_1
theorem dksX4_goesMonth_0 : cX4_goesMonth.data.toList.drop 0 = dktX4_goesMonth_0 := by decide +kernel
theorem dksX4_goesMonth_1 : cX4_goesMonth.data.toList.drop 23 = dktX4_goesMonth_1 := dk_seg dksX4_goesMonth_0 23 rfl rfl
theorem dksX4_goesMonth_2 : cX4_goesMonth.data.toList.drop 47 = dktX4_goesMonth_2 := dk_seg dksX4_goesMonth_1 24 rfl rfl
theorem dX4_goesMonth_0 : decode cX4_goesMonth 0 = .ok (.aload_n 0, 1) := dk_42 (dk_at dksX4_goesMonth_0 0 rfl rfl)
theorem dX4_goesMonth_1 : decode cX4_goesMonth 1 = .ok (.getfield 13, 3) := dk_180 0 13 (dk_at dksX4_goesMonth_0 1 rfl rfl)
theorem dX4_goesMonth_4 : decode cX4_goesMonth 4 = .ok (.bipush 41, 2) := dk_16 41 (dk_at dksX4_goesMonth_0 4 rfl rfl)
theorem dX4_goesMonth_6 : decode cX4_goesMonth 6 = .ok (.aload_n 0, 1) := dk_42 (dk_at dksX4_goesMonth_0 6 rfl rfl)
theorem dX4_goesMonth_7 : decode cX4_goesMonth 7 = .ok (.getfield 13, 3) := dk_180 0 13 (dk_at dksX4_goesMonth_0 7 rfl rfl)
theorem dX4_goesMonth_10 : decode cX4_goesMonth 10 = .ok (.bipush 41, 2) := dk_16 41 (dk_at dksX4_goesMonth_0 10 rfl rfl)
theorem dX4_goesMonth_12 : decode cX4_goesMonth 12 = .ok (.iaload, 1) := dk_46 (dk_at dksX4_goesMonth_0 12 rfl rfl)
theorem dX4_goesMonth_13 : decode cX4_goesMonth 13 = .ok (.aload_n 0, 1) := dk_42 (dk_at dksX4_goesMonth_0 13 rfl rfl)
theorem dX4_goesMonth_14 : decode cX4_goesMonth 14 = .ok (.aload_n 0, 1) := dk_42 (dk_at dksX4_goesMonth_0 14 rfl rfl)
theorem dX4_goesMonth_15 : decode cX4_goesMonth 15 = .ok (.iconst (-1), 1) := dk_2 (dk_at dksX4_goesMonth_0 15 rfl rfl)
theorem dX4_goesMonth_16 : decode cX4_goesMonth 16 = .ok (.invokevirtual 232, 3) := dk_182 0 232 (dk_at dksX4_goesMonth_0 16 rfl rfl)
theorem dX4_goesMonth_19 : decode cX4_goesMonth 19 = .ok (.aload_n 0, 1) := dk_42 (dk_at dksX4_goesMonth_0 19 rfl rfl)
theorem dX4_goesMonth_20 : decode cX4_goesMonth 20 = .ok (.getfield 13, 3) := dk_180 0 13 (dk_at dksX4_goesMonth_0 20 rfl rfl)
theorem dX4_goesMonth_23 : decode cX4_goesMonth 23 = .ok (.bipush 20, 2) := dk_16 20 (dk_at dksX4_goesMonth_1 0 rfl rfl)
theorem dX4_goesMonth_25 : decode cX4_goesMonth 25 = .ok (.iaload, 1) := dk_46 (dk_at dksX4_goesMonth_1 2 rfl rfl)
theorem dX4_goesMonth_26 : decode cX4_goesMonth 26 = .ok (.aload_n 0, 1) := dk_42 (dk_at dksX4_goesMonth_1 3 rfl rfl)
theorem dX4_goesMonth_27 : decode cX4_goesMonth 27 = .ok (.getfield 13, 3) := dk_180 0 13 (dk_at dksX4_goesMonth_1 4 rfl rfl)
theorem dX4_goesMonth_30 : decode cX4_goesMonth 30 = .ok (.bipush 41, 2) := dk_16 41 (dk_at dksX4_goesMonth_1 7 rfl rfl)
theorem dX4_goesMonth_32 : decode cX4_goesMonth 32 = .ok (.iaload, 1) := dk_46 (dk_at dksX4_goesMonth_1 9 rfl rfl)
theorem dX4_goesMonth_33 : decode cX4_goesMonth 33 = .ok (.aload_n 0, 1) := dk_42 (dk_at dksX4_goesMonth_1 10 rfl rfl)
theorem dX4_goesMonth_34 : decode cX4_goesMonth 34 = .ok (.getfield 13, 3) := dk_180 0 13 (dk_at dksX4_goesMonth_1 11 rfl rfl)
theorem dX4_goesMonth_37 : decode cX4_goesMonth 37 = .ok (.bipush 42, 2) := dk_16 42 (dk_at dksX4_goesMonth_1 14 rfl rfl)
theorem dX4_goesMonth_39 : decode cX4_goesMonth 39 = .ok (.iaload, 1) := dk_46 (dk_at dksX4_goesMonth_1 16 rfl rfl)
theorem dX4_goesMonth_40 : decode cX4_goesMonth 40 = .ok (.invokevirtual 235, 3) := dk_182 0 235 (dk_at dksX4_goesMonth_1 17 rfl rfl)
theorem dX4_goesMonth_43 : decode cX4_goesMonth 43 = .ok (.invokestatic 245, 3) := dk_184 0 245 (dk_at dksX4_goesMonth_1 20 rfl rfl)
theorem dX4_goesMonth_46 : decode cX4_goesMonth 46 = .ok (.iastore, 1) := dk_79 (dk_at dksX4_goesMonth_1 23 rfl rfl)
theorem dX4_goesMonth_47 : decode cX4_goesMonth 47 = .ok (.aload_n 0, 1) := dk_42 (dk_at dksX4_goesMonth_2 0 rfl rfl)
theorem dX4_goesMonth_48 : decode cX4_goesMonth 48 = .ok (.getfield 13, 3) := dk_180 0 13 (dk_at dksX4_goesMonth_2 1 rfl rfl)
theorem dX4_goesMonth_51 : decode cX4_goesMonth 51 = .ok (.bipush 42, 2) := dk_16 42 (dk_at dksX4_goesMonth_2 4 rfl rfl)
theorem dX4_goesMonth_53 : decode cX4_goesMonth 53 = .ok (.dup2, 1) := dk_92 (dk_at dksX4_goesMonth_2 6 rfl rfl)
theorem dX4_goesMonth_54 : decode cX4_goesMonth 54 = .ok (.iaload, 1) := dk_46 (dk_at dksX4_goesMonth_2 7 rfl rfl)
theorem dX4_goesMonth_55 : decode cX4_goesMonth 55 = .ok (.iconst 1, 1) := dk_4 (dk_at dksX4_goesMonth_2 8 rfl rfl)
theorem dX4_goesMonth_56 : decode cX4_goesMonth 56 = .ok (.iadd, 1) := dk_96 (dk_at dksX4_goesMonth_2 9 rfl rfl)
theorem dX4_goesMonth_57 : decode cX4_goesMonth 57 = .ok (.iastore, 1) := dk_79 (dk_at dksX4_goesMonth_2 10 rfl rfl)
theorem dX4_goesMonth_58 : decode cX4_goesMonth 58 = .ok (.return_, 1) := dk_177 (dk_at dksX4_goesMonth_2 11 rfl rfl)
abbrev cX4_deeper : ByteArray := prog_11_method_40_code
def yX4_deeper : MethodName := ⟨RX4, "deeper", "(II)I"⟩
def dkwX4_deeper_0 : List UInt8 := [26, 27, 96, 18, 212, 164, 0, 8, 18, 212, 167, 0, 6, 26, 27, 96, 172]
abbrev dktX4_deeper_0 : List UInt8 := dkwX4_deeper_0 ++ []
theorem dksX4_deeper_0 : cX4_deeper.data.toList.drop 0 = dktX4_deeper_0 := by decide +kernel
theorem dX4_deeper_0 : decode cX4_deeper 0 = .ok (.iload_n 0, 1) := dk_26 (dk_at dksX4_deeper_0 0 rfl rfl)
theorem dX4_deeper_1 : decode cX4_deeper 1 = .ok (.iload_n 1, 1) := dk_27 (dk_at dksX4_deeper_0 1 rfl rfl)
theorem dX4_deeper_2 : decode cX4_deeper 2 = .ok (.iadd, 1) := dk_96 (dk_at dksX4_deeper_0 2 rfl rfl)
theorem dX4_deeper_3 : decode cX4_deeper 3 = .ok (.ldc 212, 2) := dk_18 212 (dk_at dksX4_deeper_0 3 rfl rfl)
theorem dX4_deeper_5 : decode cX4_deeper 5 = .ok (.if_icmp .le 8, 3) := dk_164 0 8 (dk_at dksX4_deeper_0 5 rfl rfl)
theorem dX4_deeper_8 : decode cX4_deeper 8 = .ok (.ldc 212, 2) := dk_18 212 (dk_at dksX4_deeper_0 8 rfl rfl)
theorem dX4_deeper_10 : decode cX4_deeper 10 = .ok (.goto 6, 3) := dk_167 0 6 (dk_at dksX4_deeper_0 10 rfl rfl)
theorem dX4_deeper_13 : decode cX4_deeper 13 = .ok (.iload_n 0, 1) := dk_26 (dk_at dksX4_deeper_0 13 rfl rfl)
theorem dX4_deeper_14 : decode cX4_deeper 14 = .ok (.iload_n 1, 1) := dk_27 (dk_at dksX4_deeper_0 14 rfl rfl)
theorem dX4_deeper_15 : decode cX4_deeper 15 = .ok (.iadd, 1) := dk_96 (dk_at dksX4_deeper_0 15 rfl rfl)
theorem dX4_deeper_16 : decode cX4_deeper 16 = .ok (.ireturn, 1) := dk_172 (dk_at dksX4_deeper_0 16 rfl rfl)
abbrev cX4_notes : ByteArray := prog_11_method_52_code
def yX4_notes : MethodName := ⟨RX4, "notes", "()V"⟩
def dkwX4_notes_4 : List UInt8 := [167, 255, 221, 42, 180, 0, 13, 16, 66, 92, 46, 4, 96, 79, 177]
abbrev dktX4_notes_4 : List UInt8 := dkwX4_notes_4 ++ []
def dkwX4_notes_3 : List UInt8 := [16, 23, 42, 180, 0, 13, 16, 66, 46, 104, 96, 27, 96, 42, 180, 0, 36, 27, 46, 79, 132, 1, 1]
abbrev dktX4_notes_3 : List UInt8 := dkwX4_notes_3 ++ dktX4_notes_4
def dkwX4_notes_2 : List UInt8 := [180, 0, 13, 16, 66, 92, 46, 4, 100, 79, 3, 60, 27, 16, 23, 162, 0, 35, 42, 180, 0, 13, 16, 67]
abbrev dktX4_notes_2 : List UInt8 := dkwX4_notes_2 ++ dktX4_notes_3
def dkwX4_notes_1 : List UInt8 := [180, 0, 13, 16, 67, 27, 96, 42, 180, 0, 13, 16, 90, 27, 96, 46, 79, 132, 1, 1, 167, 255, 228, 42]
abbrev dktX4_notes_1 : List UInt8 := dkwX4_notes_1 ++ dktX4_notes_2
def dkwX4_notes_0 : List UInt8 := [42, 180, 0, 13, 16, 66, 46, 16, 10, 160, 0, 47, 3, 60, 27, 17, 0, 207, 162, 0, 27, 42]
abbrev dktX4_notes_0 : List UInt8 := dkwX4_notes_0 ++ dktX4_notes_1
theorem dksX4_notes_0 : cX4_notes.data.toList.drop 0 = dktX4_notes_0 := by decide +kernel
theorem dksX4_notes_1 : cX4_notes.data.toList.drop 22 = dktX4_notes_1 := dk_seg dksX4_notes_0 22 rfl rfl
theorem dksX4_notes_2 : cX4_notes.data.toList.drop 46 = dktX4_notes_2 := dk_seg dksX4_notes_1 24 rfl rfl
theorem dksX4_notes_3 : cX4_notes.data.toList.drop 70 = dktX4_notes_3 := dk_seg dksX4_notes_2 24 rfl rfl
theorem dksX4_notes_4 : cX4_notes.data.toList.drop 93 = dktX4_notes_4 := dk_seg dksX4_notes_3 23 rfl rfl
theorem dX4_notes_0 : decode cX4_notes 0 = .ok (.aload_n 0, 1) := dk_42 (dk_at dksX4_notes_0 0 rfl rfl)
theorem dX4_notes_1 : decode cX4_notes 1 = .ok (.getfield 13, 3) := dk_180 0 13 (dk_at dksX4_notes_0 1 rfl rfl)
theorem dX4_notes_4 : decode cX4_notes 4 = .ok (.bipush 66, 2) := dk_16 66 (dk_at dksX4_notes_0 4 rfl rfl)
theorem dX4_notes_6 : decode cX4_notes 6 = .ok (.iaload, 1) := dk_46 (dk_at dksX4_notes_0 6 rfl rfl)
theorem dX4_notes_7 : decode cX4_notes 7 = .ok (.bipush 10, 2) := dk_16 10 (dk_at dksX4_notes_0 7 rfl rfl)
theorem dX4_notes_9 : decode cX4_notes 9 = .ok (.if_icmp .ne 47, 3) := dk_160 0 47 (dk_at dksX4_notes_0 9 rfl rfl)
theorem dX4_notes_12 : decode cX4_notes 12 = .ok (.iconst 0, 1) := dk_3 (dk_at dksX4_notes_0 12 rfl rfl)
theorem dX4_notes_13 : decode cX4_notes 13 = .ok (.istore_n 1, 1) := dk_60 (dk_at dksX4_notes_0 13 rfl rfl)
theorem dX4_notes_14 : decode cX4_notes 14 = .ok (.iload_n 1, 1) := dk_27 (dk_at dksX4_notes_0 14 rfl rfl)
theorem dX4_notes_15 : decode cX4_notes 15 = .ok (.sipush 207, 3) := dk_17 0 207 (dk_at dksX4_notes_0 15 rfl rfl)
theorem dX4_notes_18 : decode cX4_notes 18 = .ok (.if_icmp .ge 27, 3) := dk_162 0 27 (dk_at dksX4_notes_0 18 rfl rfl)
theorem dX4_notes_21 : decode cX4_notes 21 = .ok (.aload_n 0, 1) := dk_42 (dk_at dksX4_notes_0 21 rfl rfl)
theorem dX4_notes_22 : decode cX4_notes 22 = .ok (.getfield 13, 3) := dk_180 0 13 (dk_at dksX4_notes_1 0 rfl rfl)
theorem dX4_notes_25 : decode cX4_notes 25 = .ok (.bipush 67, 2) := dk_16 67 (dk_at dksX4_notes_1 3 rfl rfl)
theorem dX4_notes_27 : decode cX4_notes 27 = .ok (.iload_n 1, 1) := dk_27 (dk_at dksX4_notes_1 5 rfl rfl)
theorem dX4_notes_28 : decode cX4_notes 28 = .ok (.iadd, 1) := dk_96 (dk_at dksX4_notes_1 6 rfl rfl)
theorem dX4_notes_29 : decode cX4_notes 29 = .ok (.aload_n 0, 1) := dk_42 (dk_at dksX4_notes_1 7 rfl rfl)
theorem dX4_notes_30 : decode cX4_notes 30 = .ok (.getfield 13, 3) := dk_180 0 13 (dk_at dksX4_notes_1 8 rfl rfl)
theorem dX4_notes_33 : decode cX4_notes 33 = .ok (.bipush 90, 2) := dk_16 90 (dk_at dksX4_notes_1 11 rfl rfl)
theorem dX4_notes_35 : decode cX4_notes 35 = .ok (.iload_n 1, 1) := dk_27 (dk_at dksX4_notes_1 13 rfl rfl)
theorem dX4_notes_36 : decode cX4_notes 36 = .ok (.iadd, 1) := dk_96 (dk_at dksX4_notes_1 14 rfl rfl)
theorem dX4_notes_37 : decode cX4_notes 37 = .ok (.iaload, 1) := dk_46 (dk_at dksX4_notes_1 15 rfl rfl)
theorem dX4_notes_38 : decode cX4_notes 38 = .ok (.iastore, 1) := dk_79 (dk_at dksX4_notes_1 16 rfl rfl)
theorem dX4_notes_39 : decode cX4_notes 39 = .ok (.iinc 1 1, 3) := dk_132 1 1 (dk_at dksX4_notes_1 17 rfl rfl)
theorem dX4_notes_42 : decode cX4_notes 42 = .ok (.goto (-28), 3) := dk_167 255 228 (dk_at dksX4_notes_1 20 rfl rfl)
theorem dX4_notes_45 : decode cX4_notes 45 = .ok (.aload_n 0, 1) := dk_42 (dk_at dksX4_notes_1 23 rfl rfl)
theorem dX4_notes_46 : decode cX4_notes 46 = .ok (.getfield 13, 3) := dk_180 0 13 (dk_at dksX4_notes_2 0 rfl rfl)
theorem dX4_notes_49 : decode cX4_notes 49 = .ok (.bipush 66, 2) := dk_16 66 (dk_at dksX4_notes_2 3 rfl rfl)
theorem dX4_notes_51 : decode cX4_notes 51 = .ok (.dup2, 1) := dk_92 (dk_at dksX4_notes_2 5 rfl rfl)
theorem dX4_notes_52 : decode cX4_notes 52 = .ok (.iaload, 1) := dk_46 (dk_at dksX4_notes_2 6 rfl rfl)
theorem dX4_notes_53 : decode cX4_notes 53 = .ok (.iconst 1, 1) := dk_4 (dk_at dksX4_notes_2 7 rfl rfl)
theorem dX4_notes_54 : decode cX4_notes 54 = .ok (.isub, 1) := dk_100 (dk_at dksX4_notes_2 8 rfl rfl)
theorem dX4_notes_55 : decode cX4_notes 55 = .ok (.iastore, 1) := dk_79 (dk_at dksX4_notes_2 9 rfl rfl)
theorem dX4_notes_56 : decode cX4_notes 56 = .ok (.iconst 0, 1) := dk_3 (dk_at dksX4_notes_2 10 rfl rfl)
theorem dX4_notes_57 : decode cX4_notes 57 = .ok (.istore_n 1, 1) := dk_60 (dk_at dksX4_notes_2 11 rfl rfl)
theorem dX4_notes_58 : decode cX4_notes 58 = .ok (.iload_n 1, 1) := dk_27 (dk_at dksX4_notes_2 12 rfl rfl)
theorem dX4_notes_59 : decode cX4_notes 59 = .ok (.bipush 23, 2) := dk_16 23 (dk_at dksX4_notes_2 13 rfl rfl)
theorem dX4_notes_61 : decode cX4_notes 61 = .ok (.if_icmp .ge 35, 3) := dk_162 0 35 (dk_at dksX4_notes_2 15 rfl rfl)
theorem dX4_notes_64 : decode cX4_notes 64 = .ok (.aload_n 0, 1) := dk_42 (dk_at dksX4_notes_2 18 rfl rfl)
theorem dX4_notes_65 : decode cX4_notes 65 = .ok (.getfield 13, 3) := dk_180 0 13 (dk_at dksX4_notes_2 19 rfl rfl)
theorem dX4_notes_68 : decode cX4_notes 68 = .ok (.bipush 67, 2) := dk_16 67 (dk_at dksX4_notes_2 22 rfl rfl)
theorem dX4_notes_70 : decode cX4_notes 70 = .ok (.bipush 23, 2) := dk_16 23 (dk_at dksX4_notes_3 0 rfl rfl)
theorem dX4_notes_72 : decode cX4_notes 72 = .ok (.aload_n 0, 1) := dk_42 (dk_at dksX4_notes_3 2 rfl rfl)
theorem dX4_notes_73 : decode cX4_notes 73 = .ok (.getfield 13, 3) := dk_180 0 13 (dk_at dksX4_notes_3 3 rfl rfl)
theorem dX4_notes_76 : decode cX4_notes 76 = .ok (.bipush 66, 2) := dk_16 66 (dk_at dksX4_notes_3 6 rfl rfl)
theorem dX4_notes_78 : decode cX4_notes 78 = .ok (.iaload, 1) := dk_46 (dk_at dksX4_notes_3 8 rfl rfl)
theorem dX4_notes_79 : decode cX4_notes 79 = .ok (.imul, 1) := dk_104 (dk_at dksX4_notes_3 9 rfl rfl)
theorem dX4_notes_80 : decode cX4_notes 80 = .ok (.iadd, 1) := dk_96 (dk_at dksX4_notes_3 10 rfl rfl)
theorem dX4_notes_81 : decode cX4_notes 81 = .ok (.iload_n 1, 1) := dk_27 (dk_at dksX4_notes_3 11 rfl rfl)
theorem dX4_notes_82 : decode cX4_notes 82 = .ok (.iadd, 1) := dk_96 (dk_at dksX4_notes_3 12 rfl rfl)
theorem dX4_notes_83 : decode cX4_notes 83 = .ok (.aload_n 0, 1) := dk_42 (dk_at dksX4_notes_3 13 rfl rfl)
theorem dX4_notes_84 : decode cX4_notes 84 = .ok (.getfield 36, 3) := dk_180 0 36 (dk_at dksX4_notes_3 14 rfl rfl)
theorem dX4_notes_87 : decode cX4_notes 87 = .ok (.iload_n 1, 1) := dk_27 (dk_at dksX4_notes_3 17 rfl rfl)
theorem dX4_notes_88 : decode cX4_notes 88 = .ok (.iaload, 1) := dk_46 (dk_at dksX4_notes_3 18 rfl rfl)
theorem dX4_notes_89 : decode cX4_notes 89 = .ok (.iastore, 1) := dk_79 (dk_at dksX4_notes_3 19 rfl rfl)
theorem dX4_notes_90 : decode cX4_notes 90 = .ok (.iinc 1 1, 3) := dk_132 1 1 (dk_at dksX4_notes_3 20 rfl rfl)
theorem dX4_notes_93 : decode cX4_notes 93 = .ok (.goto (-35), 3) := dk_167 255 221 (dk_at dksX4_notes_4 0 rfl rfl)
theorem dX4_notes_96 : decode cX4_notes 96 = .ok (.aload_n 0, 1) := dk_42 (dk_at dksX4_notes_4 3 rfl rfl)
theorem dX4_notes_97 : decode cX4_notes 97 = .ok (.getfield 13, 3) := dk_180 0 13 (dk_at dksX4_notes_4 4 rfl rfl)
theorem dX4_notes_100 : decode cX4_notes 100 = .ok (.bipush 66, 2) := dk_16 66 (dk_at dksX4_notes_4 7 rfl rfl)
theorem dX4_notes_102 : decode cX4_notes 102 = .ok (.dup2, 1) := dk_92 (dk_at dksX4_notes_4 9 rfl rfl)
theorem dX4_notes_103 : decode cX4_notes 103 = .ok (.iaload, 1) := dk_46 (dk_at dksX4_notes_4 10 rfl rfl)
theorem dX4_notes_104 : decode cX4_notes 104 = .ok (.iconst 1, 1) := dk_4 (dk_at dksX4_notes_4 11 rfl rfl)
theorem dX4_notes_105 : decode cX4_notes 105 = .ok (.iadd, 1) := dk_96 (dk_at dksX4_notes_4 12 rfl rfl)
theorem dX4_notes_106 : decode cX4_notes 106 = .ok (.iastore, 1) := dk_79 (dk_at dksX4_notes_4 13 rfl rfl)
theorem dX4_notes_107 : decode cX4_notes 107 = .ok (.return_, 1) := dk_177 (dk_at dksX4_notes_4 14 rfl rfl)
abbrev cX4_builds : ByteArray := prog_11_method_56_code
def yX4_builds : MethodName := ⟨RX4, "builds", "()I"⟩
def dkwX4_builds_1 : List UInt8 := [42, 182, 1, 3, 42, 182, 1, 0, 42, 180, 0, 13, 16, 20, 46, 4, 100, 172]
abbrev dktX4_builds_1 : List UInt8 := dkwX4_builds_1 ++ []
def dkwX4_builds_0 : List UInt8 := [42, 3, 181, 0, 1, 42, 180, 0, 13, 16, 20, 46, 16, 8, 160, 0, 6, 16, 244, 172, 42, 182, 0, 250]
abbrev dktX4_builds_0 : List UInt8 := dkwX4_builds_0 ++ dktX4_builds_1
theorem dksX4_builds_0 : cX4_builds.data.toList.drop 0 = dktX4_builds_0 := by decide +kernel
theorem dksX4_builds_1 : cX4_builds.data.toList.drop 24 = dktX4_builds_1 := dk_seg dksX4_builds_0 24 rfl rfl
theorem dX4_builds_0 : decode cX4_builds 0 = .ok (.aload_n 0, 1) := dk_42 (dk_at dksX4_builds_0 0 rfl rfl)
theorem dX4_builds_1 : decode cX4_builds 1 = .ok (.iconst 0, 1) := dk_3 (dk_at dksX4_builds_0 1 rfl rfl)
theorem dX4_builds_2 : decode cX4_builds 2 = .ok (.putfield 1, 3) := dk_181 0 1 (dk_at dksX4_builds_0 2 rfl rfl)
theorem dX4_builds_5 : decode cX4_builds 5 = .ok (.aload_n 0, 1) := dk_42 (dk_at dksX4_builds_0 5 rfl rfl)
theorem dX4_builds_6 : decode cX4_builds 6 = .ok (.getfield 13, 3) := dk_180 0 13 (dk_at dksX4_builds_0 6 rfl rfl)
theorem dX4_builds_9 : decode cX4_builds 9 = .ok (.bipush 20, 2) := dk_16 20 (dk_at dksX4_builds_0 9 rfl rfl)
theorem dX4_builds_11 : decode cX4_builds 11 = .ok (.iaload, 1) := dk_46 (dk_at dksX4_builds_0 11 rfl rfl)
theorem dX4_builds_12 : decode cX4_builds 12 = .ok (.bipush 8, 2) := dk_16 8 (dk_at dksX4_builds_0 12 rfl rfl)
theorem dX4_builds_14 : decode cX4_builds 14 = .ok (.if_icmp .ne 6, 3) := dk_160 0 6 (dk_at dksX4_builds_0 14 rfl rfl)
theorem dX4_builds_17 : decode cX4_builds 17 = .ok (.bipush (-12), 2) := dk_16 244 (dk_at dksX4_builds_0 17 rfl rfl)
theorem dX4_builds_19 : decode cX4_builds 19 = .ok (.ireturn, 1) := dk_172 (dk_at dksX4_builds_0 19 rfl rfl)
theorem dX4_builds_20 : decode cX4_builds 20 = .ok (.aload_n 0, 1) := dk_42 (dk_at dksX4_builds_0 20 rfl rfl)
theorem dX4_builds_21 : decode cX4_builds 21 = .ok (.invokevirtual 250, 3) := dk_182 0 250 (dk_at dksX4_builds_0 21 rfl rfl)
theorem dX4_builds_24 : decode cX4_builds 24 = .ok (.aload_n 0, 1) := dk_42 (dk_at dksX4_builds_1 0 rfl rfl)
theorem dX4_builds_25 : decode cX4_builds 25 = .ok (.invokevirtual 259, 3) := dk_182 1 3 (dk_at dksX4_builds_1 1 rfl rfl)
theorem dX4_builds_28 : decode cX4_builds 28 = .ok (.aload_n 0, 1) := dk_42 (dk_at dksX4_builds_1 4 rfl rfl)
theorem dX4_builds_29 : decode cX4_builds 29 = .ok (.invokevirtual 256, 3) := dk_182 1 0 (dk_at dksX4_builds_1 5 rfl rfl)
theorem dX4_builds_32 : decode cX4_builds 32 = .ok (.aload_n 0, 1) := dk_42 (dk_at dksX4_builds_1 8 rfl rfl)
theorem dX4_builds_33 : decode cX4_builds 33 = .ok (.getfield 13, 3) := dk_180 0 13 (dk_at dksX4_builds_1 9 rfl rfl)
theorem dX4_builds_36 : decode cX4_builds 36 = .ok (.bipush 20, 2) := dk_16 20 (dk_at dksX4_builds_1 12 rfl rfl)
theorem dX4_builds_38 : decode cX4_builds 38 = .ok (.iaload, 1) := dk_46 (dk_at dksX4_builds_1 14 rfl rfl)
theorem dX4_builds_39 : decode cX4_builds 39 = .ok (.iconst 1, 1) := dk_4 (dk_at dksX4_builds_1 15 rfl rfl)
theorem dX4_builds_40 : decode cX4_builds 40 = .ok (.isub, 1) := dk_100 (dk_at dksX4_builds_1 16 rfl rfl)
theorem dX4_builds_41 : decode cX4_builds 41 = .ok (.ireturn, 1) := dk_172 (dk_at dksX4_builds_1 17 rfl rfl)
abbrev cX4_goesUp : ByteArray := prog_11_method_55_code
def yX4_goesUp : MethodName := ⟨RX4, "goesUp", "()V"⟩
def dkwX4_goesUp_1 : List UInt8 := [180, 0, 13, 16, 20, 92, 46, 4, 96, 79, 177]
abbrev dktX4_goesUp_1 : List UInt8 := dkwX4_goesUp_1 ++ []
def dkwX4_goesUp_0 : List UInt8 := [42, 180, 0, 13, 16, 21, 42, 180, 0, 13, 16, 20, 46, 96, 42, 180, 0, 13, 5, 46, 79, 42]
abbrev dktX4_goesUp_0 : List UInt8 := dkwX4_goesUp_0 ++ dktX4_goesUp_1
theorem dksX4_goesUp_0 : cX4_goesUp.data.toList.drop 0 = dktX4_goesUp_0 := by decide +kernel
theorem dksX4_goesUp_1 : cX4_goesUp.data.toList.drop 22 = dktX4_goesUp_1 := dk_seg dksX4_goesUp_0 22 rfl rfl
theorem dX4_goesUp_0 : decode cX4_goesUp 0 = .ok (.aload_n 0, 1) := dk_42 (dk_at dksX4_goesUp_0 0 rfl rfl)
theorem dX4_goesUp_1 : decode cX4_goesUp 1 = .ok (.getfield 13, 3) := dk_180 0 13 (dk_at dksX4_goesUp_0 1 rfl rfl)
theorem dX4_goesUp_4 : decode cX4_goesUp 4 = .ok (.bipush 21, 2) := dk_16 21 (dk_at dksX4_goesUp_0 4 rfl rfl)
theorem dX4_goesUp_6 : decode cX4_goesUp 6 = .ok (.aload_n 0, 1) := dk_42 (dk_at dksX4_goesUp_0 6 rfl rfl)
theorem dX4_goesUp_7 : decode cX4_goesUp 7 = .ok (.getfield 13, 3) := dk_180 0 13 (dk_at dksX4_goesUp_0 7 rfl rfl)
theorem dX4_goesUp_10 : decode cX4_goesUp 10 = .ok (.bipush 20, 2) := dk_16 20 (dk_at dksX4_goesUp_0 10 rfl rfl)
theorem dX4_goesUp_12 : decode cX4_goesUp 12 = .ok (.iaload, 1) := dk_46 (dk_at dksX4_goesUp_0 12 rfl rfl)
theorem dX4_goesUp_13 : decode cX4_goesUp 13 = .ok (.iadd, 1) := dk_96 (dk_at dksX4_goesUp_0 13 rfl rfl)
theorem dX4_goesUp_14 : decode cX4_goesUp 14 = .ok (.aload_n 0, 1) := dk_42 (dk_at dksX4_goesUp_0 14 rfl rfl)
theorem dX4_goesUp_15 : decode cX4_goesUp 15 = .ok (.getfield 13, 3) := dk_180 0 13 (dk_at dksX4_goesUp_0 15 rfl rfl)
theorem dX4_goesUp_18 : decode cX4_goesUp 18 = .ok (.iconst 2, 1) := dk_5 (dk_at dksX4_goesUp_0 18 rfl rfl)
theorem dX4_goesUp_19 : decode cX4_goesUp 19 = .ok (.iaload, 1) := dk_46 (dk_at dksX4_goesUp_0 19 rfl rfl)
theorem dX4_goesUp_20 : decode cX4_goesUp 20 = .ok (.iastore, 1) := dk_79 (dk_at dksX4_goesUp_0 20 rfl rfl)
theorem dX4_goesUp_21 : decode cX4_goesUp 21 = .ok (.aload_n 0, 1) := dk_42 (dk_at dksX4_goesUp_0 21 rfl rfl)
theorem dX4_goesUp_22 : decode cX4_goesUp 22 = .ok (.getfield 13, 3) := dk_180 0 13 (dk_at dksX4_goesUp_1 0 rfl rfl)
theorem dX4_goesUp_25 : decode cX4_goesUp 25 = .ok (.bipush 20, 2) := dk_16 20 (dk_at dksX4_goesUp_1 3 rfl rfl)
theorem dX4_goesUp_27 : decode cX4_goesUp 27 = .ok (.dup2, 1) := dk_92 (dk_at dksX4_goesUp_1 5 rfl rfl)
theorem dX4_goesUp_28 : decode cX4_goesUp 28 = .ok (.iaload, 1) := dk_46 (dk_at dksX4_goesUp_1 6 rfl rfl)
theorem dX4_goesUp_29 : decode cX4_goesUp 29 = .ok (.iconst 1, 1) := dk_4 (dk_at dksX4_goesUp_1 7 rfl rfl)
theorem dX4_goesUp_30 : decode cX4_goesUp 30 = .ok (.iadd, 1) := dk_96 (dk_at dksX4_goesUp_1 8 rfl rfl)
theorem dX4_goesUp_31 : decode cX4_goesUp 31 = .ok (.iastore, 1) := dk_79 (dk_at dksX4_goesUp_1 9 rfl rfl)
theorem dX4_goesUp_32 : decode cX4_goesUp 32 = .ok (.return_, 1) := dk_177 (dk_at dksX4_goesUp_1 10 rfl rfl)
abbrev cX4_moves : ByteArray := prog_11_method_59_code
def yX4_moves : MethodName := ⟨RX4, "moves", "(II)I"⟩
def dkwX4_moves_2 : List UInt8 := [96, 46, 172]
abbrev dktX4_moves_2 : List UInt8 := dkwX4_moves_2 ++ []
def dkwX4_moves_1 : List UInt8 := [182, 0, 250, 42, 180, 0, 13, 16, 35, 27, 96, 28, 79, 42, 182, 1, 0, 42, 180, 0, 36, 16, 15, 27]
abbrev dktX4_moves_1 : List UInt8 := dkwX4_moves_1 ++ dktX4_moves_2
def dkwX4_moves_0 : List UInt8 := [42, 3, 181, 0, 1, 42, 27, 133, 28, 133, 182, 1, 6, 62, 29, 153, 0, 8, 16, 246, 29, 100, 172, 42]
abbrev dktX4_moves_0 : List UInt8 := dkwX4_moves_0 ++ dktX4_moves_1
theorem dksX4_moves_0 : cX4_moves.data.toList.drop 0 = dktX4_moves_0 := by decide +kernel
theorem dksX4_moves_1 : cX4_moves.data.toList.drop 24 = dktX4_moves_1 := dk_seg dksX4_moves_0 24 rfl rfl
theorem dksX4_moves_2 : cX4_moves.data.toList.drop 48 = dktX4_moves_2 := dk_seg dksX4_moves_1 24 rfl rfl
theorem dX4_moves_0 : decode cX4_moves 0 = .ok (.aload_n 0, 1) := dk_42 (dk_at dksX4_moves_0 0 rfl rfl)
theorem dX4_moves_1 : decode cX4_moves 1 = .ok (.iconst 0, 1) := dk_3 (dk_at dksX4_moves_0 1 rfl rfl)
theorem dX4_moves_2 : decode cX4_moves 2 = .ok (.putfield 1, 3) := dk_181 0 1 (dk_at dksX4_moves_0 2 rfl rfl)
theorem dX4_moves_5 : decode cX4_moves 5 = .ok (.aload_n 0, 1) := dk_42 (dk_at dksX4_moves_0 5 rfl rfl)
theorem dX4_moves_6 : decode cX4_moves 6 = .ok (.iload_n 1, 1) := dk_27 (dk_at dksX4_moves_0 6 rfl rfl)
theorem dX4_moves_7 : decode cX4_moves 7 = .ok (.i2l, 1) := dk_133 (dk_at dksX4_moves_0 7 rfl rfl)
theorem dX4_moves_8 : decode cX4_moves 8 = .ok (.iload_n 2, 1) := dk_28 (dk_at dksX4_moves_0 8 rfl rfl)
theorem dX4_moves_9 : decode cX4_moves 9 = .ok (.i2l, 1) := dk_133 (dk_at dksX4_moves_0 9 rfl rfl)
theorem dX4_moves_10 : decode cX4_moves 10 = .ok (.invokevirtual 262, 3) := dk_182 1 6 (dk_at dksX4_moves_0 10 rfl rfl)
theorem dX4_moves_13 : decode cX4_moves 13 = .ok (.istore_n 3, 1) := dk_62 (dk_at dksX4_moves_0 13 rfl rfl)
theorem dX4_moves_14 : decode cX4_moves 14 = .ok (.iload_n 3, 1) := dk_29 (dk_at dksX4_moves_0 14 rfl rfl)
theorem dX4_moves_15 : decode cX4_moves 15 = .ok (.ifCond .eq 8, 3) := dk_153 0 8 (dk_at dksX4_moves_0 15 rfl rfl)
theorem dX4_moves_18 : decode cX4_moves 18 = .ok (.bipush (-10), 2) := dk_16 246 (dk_at dksX4_moves_0 18 rfl rfl)
theorem dX4_moves_20 : decode cX4_moves 20 = .ok (.iload_n 3, 1) := dk_29 (dk_at dksX4_moves_0 20 rfl rfl)
theorem dX4_moves_21 : decode cX4_moves 21 = .ok (.isub, 1) := dk_100 (dk_at dksX4_moves_0 21 rfl rfl)
theorem dX4_moves_22 : decode cX4_moves 22 = .ok (.ireturn, 1) := dk_172 (dk_at dksX4_moves_0 22 rfl rfl)
theorem dX4_moves_23 : decode cX4_moves 23 = .ok (.aload_n 0, 1) := dk_42 (dk_at dksX4_moves_0 23 rfl rfl)
theorem dX4_moves_24 : decode cX4_moves 24 = .ok (.invokevirtual 250, 3) := dk_182 0 250 (dk_at dksX4_moves_1 0 rfl rfl)
theorem dX4_moves_27 : decode cX4_moves 27 = .ok (.aload_n 0, 1) := dk_42 (dk_at dksX4_moves_1 3 rfl rfl)
theorem dX4_moves_28 : decode cX4_moves 28 = .ok (.getfield 13, 3) := dk_180 0 13 (dk_at dksX4_moves_1 4 rfl rfl)
theorem dX4_moves_31 : decode cX4_moves 31 = .ok (.bipush 35, 2) := dk_16 35 (dk_at dksX4_moves_1 7 rfl rfl)
theorem dX4_moves_33 : decode cX4_moves 33 = .ok (.iload_n 1, 1) := dk_27 (dk_at dksX4_moves_1 9 rfl rfl)
theorem dX4_moves_34 : decode cX4_moves 34 = .ok (.iadd, 1) := dk_96 (dk_at dksX4_moves_1 10 rfl rfl)
theorem dX4_moves_35 : decode cX4_moves 35 = .ok (.iload_n 2, 1) := dk_28 (dk_at dksX4_moves_1 11 rfl rfl)
theorem dX4_moves_36 : decode cX4_moves 36 = .ok (.iastore, 1) := dk_79 (dk_at dksX4_moves_1 12 rfl rfl)
theorem dX4_moves_37 : decode cX4_moves 37 = .ok (.aload_n 0, 1) := dk_42 (dk_at dksX4_moves_1 13 rfl rfl)
theorem dX4_moves_38 : decode cX4_moves 38 = .ok (.invokevirtual 256, 3) := dk_182 1 0 (dk_at dksX4_moves_1 14 rfl rfl)
theorem dX4_moves_41 : decode cX4_moves 41 = .ok (.aload_n 0, 1) := dk_42 (dk_at dksX4_moves_1 17 rfl rfl)
theorem dX4_moves_42 : decode cX4_moves 42 = .ok (.getfield 36, 3) := dk_180 0 36 (dk_at dksX4_moves_1 18 rfl rfl)
theorem dX4_moves_45 : decode cX4_moves 45 = .ok (.bipush 15, 2) := dk_16 15 (dk_at dksX4_moves_1 21 rfl rfl)
theorem dX4_moves_47 : decode cX4_moves 47 = .ok (.iload_n 1, 1) := dk_27 (dk_at dksX4_moves_1 23 rfl rfl)
theorem dX4_moves_48 : decode cX4_moves 48 = .ok (.iadd, 1) := dk_96 (dk_at dksX4_moves_2 0 rfl rfl)
theorem dX4_moves_49 : decode cX4_moves 49 = .ok (.iaload, 1) := dk_46 (dk_at dksX4_moves_2 1 rfl rfl)
theorem dX4_moves_50 : decode cX4_moves 50 = .ok (.ireturn, 1) := dk_172 (dk_at dksX4_moves_2 2 rfl rfl)
abbrev cX4_whyMove : ByteArray := prog_11_method_57_code
def yX4_whyMove : MethodName := ⟨RX4, "whyMove", "(JJ)I"⟩
def dkwX4_whyMove_2 : List UInt8 := [167, 0, 4, 3, 172]
abbrev dktX4_whyMove_2 : List UInt8 := dkwX4_whyMove_2 ++ []
def dkwX4_whyMove_1 : List UInt8 := [2, 159, 0, 7, 5, 167, 0, 23, 33, 136, 42, 180, 0, 13, 16, 41, 46, 184, 0, 205, 153, 0, 7, 6]
abbrev dktX4_whyMove_1 : List UInt8 := dkwX4_whyMove_1 ++ dktX4_whyMove_2
def dkwX4_whyMove_0 : List UInt8 := [42, 31, 182, 0, 229, 153, 0, 11, 42, 33, 182, 0, 220, 154, 0, 5, 4, 172, 42, 33, 136, 182, 0, 226]
abbrev dktX4_whyMove_0 : List UInt8 := dkwX4_whyMove_0 ++ dktX4_whyMove_1
theorem dksX4_whyMove_0 : cX4_whyMove.data.toList.drop 0 = dktX4_whyMove_0 := by decide +kernel
theorem dksX4_whyMove_1 : cX4_whyMove.data.toList.drop 24 = dktX4_whyMove_1 := dk_seg dksX4_whyMove_0 24 rfl rfl
theorem dksX4_whyMove_2 : cX4_whyMove.data.toList.drop 48 = dktX4_whyMove_2 := dk_seg dksX4_whyMove_1 24 rfl rfl
theorem dX4_whyMove_0 : decode cX4_whyMove 0 = .ok (.aload_n 0, 1) := dk_42 (dk_at dksX4_whyMove_0 0 rfl rfl)
theorem dX4_whyMove_1 : decode cX4_whyMove 1 = .ok (.lload_n 1, 1) := dk_31 (dk_at dksX4_whyMove_0 1 rfl rfl)
theorem dX4_whyMove_2 : decode cX4_whyMove 2 = .ok (.invokevirtual 229, 3) := dk_182 0 229 (dk_at dksX4_whyMove_0 2 rfl rfl)
theorem dX4_whyMove_5 : decode cX4_whyMove 5 = .ok (.ifCond .eq 11, 3) := dk_153 0 11 (dk_at dksX4_whyMove_0 5 rfl rfl)
theorem dX4_whyMove_8 : decode cX4_whyMove 8 = .ok (.aload_n 0, 1) := dk_42 (dk_at dksX4_whyMove_0 8 rfl rfl)
theorem dX4_whyMove_9 : decode cX4_whyMove 9 = .ok (.lload_n 3, 1) := dk_33 (dk_at dksX4_whyMove_0 9 rfl rfl)
theorem dX4_whyMove_10 : decode cX4_whyMove 10 = .ok (.invokevirtual 220, 3) := dk_182 0 220 (dk_at dksX4_whyMove_0 10 rfl rfl)
theorem dX4_whyMove_13 : decode cX4_whyMove 13 = .ok (.ifCond .ne 5, 3) := dk_154 0 5 (dk_at dksX4_whyMove_0 13 rfl rfl)
theorem dX4_whyMove_16 : decode cX4_whyMove 16 = .ok (.iconst 1, 1) := dk_4 (dk_at dksX4_whyMove_0 16 rfl rfl)
theorem dX4_whyMove_17 : decode cX4_whyMove 17 = .ok (.ireturn, 1) := dk_172 (dk_at dksX4_whyMove_0 17 rfl rfl)
theorem dX4_whyMove_18 : decode cX4_whyMove 18 = .ok (.aload_n 0, 1) := dk_42 (dk_at dksX4_whyMove_0 18 rfl rfl)
theorem dX4_whyMove_19 : decode cX4_whyMove 19 = .ok (.lload_n 3, 1) := dk_33 (dk_at dksX4_whyMove_0 19 rfl rfl)
theorem dX4_whyMove_20 : decode cX4_whyMove 20 = .ok (.l2i, 1) := dk_136 (dk_at dksX4_whyMove_0 20 rfl rfl)
theorem dX4_whyMove_21 : decode cX4_whyMove 21 = .ok (.invokevirtual 226, 3) := dk_182 0 226 (dk_at dksX4_whyMove_0 21 rfl rfl)
theorem dX4_whyMove_24 : decode cX4_whyMove 24 = .ok (.iconst (-1), 1) := dk_2 (dk_at dksX4_whyMove_1 0 rfl rfl)
theorem dX4_whyMove_25 : decode cX4_whyMove 25 = .ok (.if_icmp .eq 7, 3) := dk_159 0 7 (dk_at dksX4_whyMove_1 1 rfl rfl)
theorem dX4_whyMove_28 : decode cX4_whyMove 28 = .ok (.iconst 2, 1) := dk_5 (dk_at dksX4_whyMove_1 4 rfl rfl)
theorem dX4_whyMove_29 : decode cX4_whyMove 29 = .ok (.goto 23, 3) := dk_167 0 23 (dk_at dksX4_whyMove_1 5 rfl rfl)
theorem dX4_whyMove_32 : decode cX4_whyMove 32 = .ok (.lload_n 3, 1) := dk_33 (dk_at dksX4_whyMove_1 8 rfl rfl)
theorem dX4_whyMove_33 : decode cX4_whyMove 33 = .ok (.l2i, 1) := dk_136 (dk_at dksX4_whyMove_1 9 rfl rfl)
theorem dX4_whyMove_34 : decode cX4_whyMove 34 = .ok (.aload_n 0, 1) := dk_42 (dk_at dksX4_whyMove_1 10 rfl rfl)
theorem dX4_whyMove_35 : decode cX4_whyMove 35 = .ok (.getfield 13, 3) := dk_180 0 13 (dk_at dksX4_whyMove_1 11 rfl rfl)
theorem dX4_whyMove_38 : decode cX4_whyMove 38 = .ok (.bipush 41, 2) := dk_16 41 (dk_at dksX4_whyMove_1 14 rfl rfl)
theorem dX4_whyMove_40 : decode cX4_whyMove 40 = .ok (.iaload, 1) := dk_46 (dk_at dksX4_whyMove_1 16 rfl rfl)
theorem dX4_whyMove_41 : decode cX4_whyMove 41 = .ok (.invokestatic 205, 3) := dk_184 0 205 (dk_at dksX4_whyMove_1 17 rfl rfl)
theorem dX4_whyMove_44 : decode cX4_whyMove 44 = .ok (.ifCond .eq 7, 3) := dk_153 0 7 (dk_at dksX4_whyMove_1 20 rfl rfl)
theorem dX4_whyMove_47 : decode cX4_whyMove 47 = .ok (.iconst 3, 1) := dk_6 (dk_at dksX4_whyMove_1 23 rfl rfl)
theorem dX4_whyMove_48 : decode cX4_whyMove 48 = .ok (.goto 4, 3) := dk_167 0 4 (dk_at dksX4_whyMove_2 0 rfl rfl)
theorem dX4_whyMove_51 : decode cX4_whyMove 51 = .ok (.iconst 0, 1) := dk_3 (dk_at dksX4_whyMove_2 3 rfl rfl)
theorem dX4_whyMove_52 : decode cX4_whyMove 52 = .ok (.ireturn, 1) := dk_172 (dk_at dksX4_whyMove_2 4 rfl rfl)
abbrev cX4_leaves : ByteArray := prog_11_method_60_code
def yX4_leaves : MethodName := ⟨RX4, "leaves", "(I)I"⟩
def dkwX4_leaves_2 : List UInt8 := [96, 46, 172]
abbrev dktX4_leaves_2 : List UInt8 := dkwX4_leaves_2 ++ []
def dkwX4_leaves_1 : List UInt8 := [182, 0, 250, 42, 180, 0, 13, 16, 35, 27, 96, 2, 79, 42, 182, 1, 0, 42, 180, 0, 36, 16, 15, 27]
abbrev dktX4_leaves_1 : List UInt8 := dkwX4_leaves_1 ++ dktX4_leaves_2
def dkwX4_leaves_0 : List UInt8 := [42, 3, 181, 0, 1, 42, 27, 133, 182, 1, 10, 61, 28, 153, 0, 8, 16, 246, 28, 100, 172, 42]
abbrev dktX4_leaves_0 : List UInt8 := dkwX4_leaves_0 ++ dktX4_leaves_1
theorem dksX4_leaves_0 : cX4_leaves.data.toList.drop 0 = dktX4_leaves_0 := by decide +kernel
theorem dksX4_leaves_1 : cX4_leaves.data.toList.drop 22 = dktX4_leaves_1 := dk_seg dksX4_leaves_0 22 rfl rfl
theorem dksX4_leaves_2 : cX4_leaves.data.toList.drop 46 = dktX4_leaves_2 := dk_seg dksX4_leaves_1 24 rfl rfl
theorem dX4_leaves_0 : decode cX4_leaves 0 = .ok (.aload_n 0, 1) := dk_42 (dk_at dksX4_leaves_0 0 rfl rfl)
theorem dX4_leaves_1 : decode cX4_leaves 1 = .ok (.iconst 0, 1) := dk_3 (dk_at dksX4_leaves_0 1 rfl rfl)
theorem dX4_leaves_2 : decode cX4_leaves 2 = .ok (.putfield 1, 3) := dk_181 0 1 (dk_at dksX4_leaves_0 2 rfl rfl)
theorem dX4_leaves_5 : decode cX4_leaves 5 = .ok (.aload_n 0, 1) := dk_42 (dk_at dksX4_leaves_0 5 rfl rfl)
theorem dX4_leaves_6 : decode cX4_leaves 6 = .ok (.iload_n 1, 1) := dk_27 (dk_at dksX4_leaves_0 6 rfl rfl)
theorem dX4_leaves_7 : decode cX4_leaves 7 = .ok (.i2l, 1) := dk_133 (dk_at dksX4_leaves_0 7 rfl rfl)
theorem dX4_leaves_8 : decode cX4_leaves 8 = .ok (.invokevirtual 266, 3) := dk_182 1 10 (dk_at dksX4_leaves_0 8 rfl rfl)
theorem dX4_leaves_11 : decode cX4_leaves 11 = .ok (.istore_n 2, 1) := dk_61 (dk_at dksX4_leaves_0 11 rfl rfl)
theorem dX4_leaves_12 : decode cX4_leaves 12 = .ok (.iload_n 2, 1) := dk_28 (dk_at dksX4_leaves_0 12 rfl rfl)
theorem dX4_leaves_13 : decode cX4_leaves 13 = .ok (.ifCond .eq 8, 3) := dk_153 0 8 (dk_at dksX4_leaves_0 13 rfl rfl)
theorem dX4_leaves_16 : decode cX4_leaves 16 = .ok (.bipush (-10), 2) := dk_16 246 (dk_at dksX4_leaves_0 16 rfl rfl)
theorem dX4_leaves_18 : decode cX4_leaves 18 = .ok (.iload_n 2, 1) := dk_28 (dk_at dksX4_leaves_0 18 rfl rfl)
theorem dX4_leaves_19 : decode cX4_leaves 19 = .ok (.isub, 1) := dk_100 (dk_at dksX4_leaves_0 19 rfl rfl)
theorem dX4_leaves_20 : decode cX4_leaves 20 = .ok (.ireturn, 1) := dk_172 (dk_at dksX4_leaves_0 20 rfl rfl)
theorem dX4_leaves_21 : decode cX4_leaves 21 = .ok (.aload_n 0, 1) := dk_42 (dk_at dksX4_leaves_0 21 rfl rfl)
theorem dX4_leaves_22 : decode cX4_leaves 22 = .ok (.invokevirtual 250, 3) := dk_182 0 250 (dk_at dksX4_leaves_1 0 rfl rfl)
theorem dX4_leaves_25 : decode cX4_leaves 25 = .ok (.aload_n 0, 1) := dk_42 (dk_at dksX4_leaves_1 3 rfl rfl)
theorem dX4_leaves_26 : decode cX4_leaves 26 = .ok (.getfield 13, 3) := dk_180 0 13 (dk_at dksX4_leaves_1 4 rfl rfl)
theorem dX4_leaves_29 : decode cX4_leaves 29 = .ok (.bipush 35, 2) := dk_16 35 (dk_at dksX4_leaves_1 7 rfl rfl)
theorem dX4_leaves_31 : decode cX4_leaves 31 = .ok (.iload_n 1, 1) := dk_27 (dk_at dksX4_leaves_1 9 rfl rfl)
theorem dX4_leaves_32 : decode cX4_leaves 32 = .ok (.iadd, 1) := dk_96 (dk_at dksX4_leaves_1 10 rfl rfl)
theorem dX4_leaves_33 : decode cX4_leaves 33 = .ok (.iconst (-1), 1) := dk_2 (dk_at dksX4_leaves_1 11 rfl rfl)
theorem dX4_leaves_34 : decode cX4_leaves 34 = .ok (.iastore, 1) := dk_79 (dk_at dksX4_leaves_1 12 rfl rfl)
theorem dX4_leaves_35 : decode cX4_leaves 35 = .ok (.aload_n 0, 1) := dk_42 (dk_at dksX4_leaves_1 13 rfl rfl)
theorem dX4_leaves_36 : decode cX4_leaves 36 = .ok (.invokevirtual 256, 3) := dk_182 1 0 (dk_at dksX4_leaves_1 14 rfl rfl)
theorem dX4_leaves_39 : decode cX4_leaves 39 = .ok (.aload_n 0, 1) := dk_42 (dk_at dksX4_leaves_1 17 rfl rfl)
theorem dX4_leaves_40 : decode cX4_leaves 40 = .ok (.getfield 36, 3) := dk_180 0 36 (dk_at dksX4_leaves_1 18 rfl rfl)
theorem dX4_leaves_43 : decode cX4_leaves 43 = .ok (.bipush 15, 2) := dk_16 15 (dk_at dksX4_leaves_1 21 rfl rfl)
theorem dX4_leaves_45 : decode cX4_leaves 45 = .ok (.iload_n 1, 1) := dk_27 (dk_at dksX4_leaves_1 23 rfl rfl)
theorem dX4_leaves_46 : decode cX4_leaves 46 = .ok (.iadd, 1) := dk_96 (dk_at dksX4_leaves_2 0 rfl rfl)
theorem dX4_leaves_47 : decode cX4_leaves 47 = .ok (.iaload, 1) := dk_46 (dk_at dksX4_leaves_2 1 rfl rfl)
theorem dX4_leaves_48 : decode cX4_leaves 48 = .ok (.ireturn, 1) := dk_172 (dk_at dksX4_leaves_2 2 rfl rfl)
abbrev cX4_whyLeave : ByteArray := prog_11_method_58_code
def yX4_whyLeave : MethodName := ⟨RX4, "whyLeave", "(J)I"⟩
def dkwX4_whyLeave_1 : List UInt8 := [160, 0, 7, 5, 167, 0, 4, 3, 172]
abbrev dktX4_whyLeave_1 : List UInt8 := dkwX4_whyLeave_1 ++ []
def dkwX4_whyLeave_0 : List UInt8 := [42, 31, 182, 0, 229, 154, 0, 7, 4, 167, 0, 22, 42, 180, 0, 13, 16, 35, 31, 136, 96, 46, 2]
abbrev dktX4_whyLeave_0 : List UInt8 := dkwX4_whyLeave_0 ++ dktX4_whyLeave_1
theorem dksX4_whyLeave_0 : cX4_whyLeave.data.toList.drop 0 = dktX4_whyLeave_0 := by decide +kernel
theorem dksX4_whyLeave_1 : cX4_whyLeave.data.toList.drop 23 = dktX4_whyLeave_1 := dk_seg dksX4_whyLeave_0 23 rfl rfl
theorem dX4_whyLeave_0 : decode cX4_whyLeave 0 = .ok (.aload_n 0, 1) := dk_42 (dk_at dksX4_whyLeave_0 0 rfl rfl)
theorem dX4_whyLeave_1 : decode cX4_whyLeave 1 = .ok (.lload_n 1, 1) := dk_31 (dk_at dksX4_whyLeave_0 1 rfl rfl)
theorem dX4_whyLeave_2 : decode cX4_whyLeave 2 = .ok (.invokevirtual 229, 3) := dk_182 0 229 (dk_at dksX4_whyLeave_0 2 rfl rfl)
theorem dX4_whyLeave_5 : decode cX4_whyLeave 5 = .ok (.ifCond .ne 7, 3) := dk_154 0 7 (dk_at dksX4_whyLeave_0 5 rfl rfl)
theorem dX4_whyLeave_8 : decode cX4_whyLeave 8 = .ok (.iconst 1, 1) := dk_4 (dk_at dksX4_whyLeave_0 8 rfl rfl)
theorem dX4_whyLeave_9 : decode cX4_whyLeave 9 = .ok (.goto 22, 3) := dk_167 0 22 (dk_at dksX4_whyLeave_0 9 rfl rfl)
theorem dX4_whyLeave_12 : decode cX4_whyLeave 12 = .ok (.aload_n 0, 1) := dk_42 (dk_at dksX4_whyLeave_0 12 rfl rfl)
theorem dX4_whyLeave_13 : decode cX4_whyLeave 13 = .ok (.getfield 13, 3) := dk_180 0 13 (dk_at dksX4_whyLeave_0 13 rfl rfl)
theorem dX4_whyLeave_16 : decode cX4_whyLeave 16 = .ok (.bipush 35, 2) := dk_16 35 (dk_at dksX4_whyLeave_0 16 rfl rfl)
theorem dX4_whyLeave_18 : decode cX4_whyLeave 18 = .ok (.lload_n 1, 1) := dk_31 (dk_at dksX4_whyLeave_0 18 rfl rfl)
theorem dX4_whyLeave_19 : decode cX4_whyLeave 19 = .ok (.l2i, 1) := dk_136 (dk_at dksX4_whyLeave_0 19 rfl rfl)
theorem dX4_whyLeave_20 : decode cX4_whyLeave 20 = .ok (.iadd, 1) := dk_96 (dk_at dksX4_whyLeave_0 20 rfl rfl)
theorem dX4_whyLeave_21 : decode cX4_whyLeave 21 = .ok (.iaload, 1) := dk_46 (dk_at dksX4_whyLeave_0 21 rfl rfl)
theorem dX4_whyLeave_22 : decode cX4_whyLeave 22 = .ok (.iconst (-1), 1) := dk_2 (dk_at dksX4_whyLeave_0 22 rfl rfl)
theorem dX4_whyLeave_23 : decode cX4_whyLeave 23 = .ok (.if_icmp .ne 7, 3) := dk_160 0 7 (dk_at dksX4_whyLeave_1 0 rfl rfl)
theorem dX4_whyLeave_26 : decode cX4_whyLeave 26 = .ok (.iconst 2, 1) := dk_5 (dk_at dksX4_whyLeave_1 3 rfl rfl)
theorem dX4_whyLeave_27 : decode cX4_whyLeave 27 = .ok (.goto 4, 3) := dk_167 0 4 (dk_at dksX4_whyLeave_1 4 rfl rfl)
theorem dX4_whyLeave_30 : decode cX4_whyLeave 30 = .ok (.iconst 0, 1) := dk_3 (dk_at dksX4_whyLeave_1 7 rfl rfl)
theorem dX4_whyLeave_31 : decode cX4_whyLeave 31 = .ok (.ireturn, 1) := dk_172 (dk_at dksX4_whyLeave_1 8 rfl rfl)
abbrev cX4_carries : ByteArray := prog_11_method_61_code
def yX4_carries : MethodName := ⟨RX4, "carries", "(II)I"⟩
def dkwX4_carries_2 : List UInt8 := [42, 180, 0, 36, 16, 9, 27, 96, 46, 172]
abbrev dktX4_carries_2 : List UInt8 := dkwX4_carries_2 ++ []
def dkwX4_carries_1 : List UInt8 := [154, 0, 6, 16, 245, 172, 42, 182, 0, 250, 42, 180, 0, 13, 16, 29, 27, 96, 28, 79, 42, 182, 1, 0]
abbrev dktX4_carries_1 : List UInt8 := dkwX4_carries_1 ++ dktX4_carries_2
def dkwX4_carries_0 : List UInt8 := [42, 3, 181, 0, 1, 42, 27, 133, 182, 0, 229, 153, 0, 15, 28, 133, 9, 20, 1, 14, 184, 0, 141]
abbrev dktX4_carries_0 : List UInt8 := dkwX4_carries_0 ++ dktX4_carries_1
theorem dksX4_carries_0 : cX4_carries.data.toList.drop 0 = dktX4_carries_0 := by decide +kernel
theorem dksX4_carries_1 : cX4_carries.data.toList.drop 23 = dktX4_carries_1 := dk_seg dksX4_carries_0 23 rfl rfl
theorem dksX4_carries_2 : cX4_carries.data.toList.drop 47 = dktX4_carries_2 := dk_seg dksX4_carries_1 24 rfl rfl
theorem dX4_carries_0 : decode cX4_carries 0 = .ok (.aload_n 0, 1) := dk_42 (dk_at dksX4_carries_0 0 rfl rfl)
theorem dX4_carries_1 : decode cX4_carries 1 = .ok (.iconst 0, 1) := dk_3 (dk_at dksX4_carries_0 1 rfl rfl)
theorem dX4_carries_2 : decode cX4_carries 2 = .ok (.putfield 1, 3) := dk_181 0 1 (dk_at dksX4_carries_0 2 rfl rfl)
theorem dX4_carries_5 : decode cX4_carries 5 = .ok (.aload_n 0, 1) := dk_42 (dk_at dksX4_carries_0 5 rfl rfl)
theorem dX4_carries_6 : decode cX4_carries 6 = .ok (.iload_n 1, 1) := dk_27 (dk_at dksX4_carries_0 6 rfl rfl)
theorem dX4_carries_7 : decode cX4_carries 7 = .ok (.i2l, 1) := dk_133 (dk_at dksX4_carries_0 7 rfl rfl)
theorem dX4_carries_8 : decode cX4_carries 8 = .ok (.invokevirtual 229, 3) := dk_182 0 229 (dk_at dksX4_carries_0 8 rfl rfl)
theorem dX4_carries_11 : decode cX4_carries 11 = .ok (.ifCond .eq 15, 3) := dk_153 0 15 (dk_at dksX4_carries_0 11 rfl rfl)
theorem dX4_carries_14 : decode cX4_carries 14 = .ok (.iload_n 2, 1) := dk_28 (dk_at dksX4_carries_0 14 rfl rfl)
theorem dX4_carries_15 : decode cX4_carries 15 = .ok (.i2l, 1) := dk_133 (dk_at dksX4_carries_0 15 rfl rfl)
theorem dX4_carries_16 : decode cX4_carries 16 = .ok (.lconst 0, 1) := dk_9 (dk_at dksX4_carries_0 16 rfl rfl)
theorem dX4_carries_17 : decode cX4_carries 17 = .ok (.ldc2_w 270, 3) := dk_20 1 14 (dk_at dksX4_carries_0 17 rfl rfl)
theorem dX4_carries_20 : decode cX4_carries 20 = .ok (.invokestatic 141, 3) := dk_184 0 141 (dk_at dksX4_carries_0 20 rfl rfl)
theorem dX4_carries_23 : decode cX4_carries 23 = .ok (.ifCond .ne 6, 3) := dk_154 0 6 (dk_at dksX4_carries_1 0 rfl rfl)
theorem dX4_carries_26 : decode cX4_carries 26 = .ok (.bipush (-11), 2) := dk_16 245 (dk_at dksX4_carries_1 3 rfl rfl)
theorem dX4_carries_28 : decode cX4_carries 28 = .ok (.ireturn, 1) := dk_172 (dk_at dksX4_carries_1 5 rfl rfl)
theorem dX4_carries_29 : decode cX4_carries 29 = .ok (.aload_n 0, 1) := dk_42 (dk_at dksX4_carries_1 6 rfl rfl)
theorem dX4_carries_30 : decode cX4_carries 30 = .ok (.invokevirtual 250, 3) := dk_182 0 250 (dk_at dksX4_carries_1 7 rfl rfl)
theorem dX4_carries_33 : decode cX4_carries 33 = .ok (.aload_n 0, 1) := dk_42 (dk_at dksX4_carries_1 10 rfl rfl)
theorem dX4_carries_34 : decode cX4_carries 34 = .ok (.getfield 13, 3) := dk_180 0 13 (dk_at dksX4_carries_1 11 rfl rfl)
theorem dX4_carries_37 : decode cX4_carries 37 = .ok (.bipush 29, 2) := dk_16 29 (dk_at dksX4_carries_1 14 rfl rfl)
theorem dX4_carries_39 : decode cX4_carries 39 = .ok (.iload_n 1, 1) := dk_27 (dk_at dksX4_carries_1 16 rfl rfl)
theorem dX4_carries_40 : decode cX4_carries 40 = .ok (.iadd, 1) := dk_96 (dk_at dksX4_carries_1 17 rfl rfl)
theorem dX4_carries_41 : decode cX4_carries 41 = .ok (.iload_n 2, 1) := dk_28 (dk_at dksX4_carries_1 18 rfl rfl)
theorem dX4_carries_42 : decode cX4_carries 42 = .ok (.iastore, 1) := dk_79 (dk_at dksX4_carries_1 19 rfl rfl)
theorem dX4_carries_43 : decode cX4_carries 43 = .ok (.aload_n 0, 1) := dk_42 (dk_at dksX4_carries_1 20 rfl rfl)
theorem dX4_carries_44 : decode cX4_carries 44 = .ok (.invokevirtual 256, 3) := dk_182 1 0 (dk_at dksX4_carries_1 21 rfl rfl)
theorem dX4_carries_47 : decode cX4_carries 47 = .ok (.aload_n 0, 1) := dk_42 (dk_at dksX4_carries_2 0 rfl rfl)
theorem dX4_carries_48 : decode cX4_carries 48 = .ok (.getfield 36, 3) := dk_180 0 36 (dk_at dksX4_carries_2 1 rfl rfl)
theorem dX4_carries_51 : decode cX4_carries 51 = .ok (.bipush 9, 2) := dk_16 9 (dk_at dksX4_carries_2 4 rfl rfl)
theorem dX4_carries_53 : decode cX4_carries 53 = .ok (.iload_n 1, 1) := dk_27 (dk_at dksX4_carries_2 6 rfl rfl)
theorem dX4_carries_54 : decode cX4_carries 54 = .ok (.iadd, 1) := dk_96 (dk_at dksX4_carries_2 7 rfl rfl)
theorem dX4_carries_55 : decode cX4_carries 55 = .ok (.iaload, 1) := dk_46 (dk_at dksX4_carries_2 8 rfl rfl)
theorem dX4_carries_56 : decode cX4_carries 56 = .ok (.ireturn, 1) := dk_172 (dk_at dksX4_carries_2 9 rfl rfl)
abbrev cX4_rings : ByteArray := prog_11_method_65_code
def yX4_rings : MethodName := ⟨RX4, "rings", "()I"⟩
def dkwX4_rings_0 : List UInt8 := [42, 3, 181, 0, 1, 42, 182, 0, 250, 42, 182, 1, 29, 60, 27, 158, 0, 7, 42, 182, 1, 0, 27, 172]
abbrev dktX4_rings_0 : List UInt8 := dkwX4_rings_0 ++ []
theorem dksX4_rings_0 : cX4_rings.data.toList.drop 0 = dktX4_rings_0 := by decide +kernel
theorem dX4_rings_0 : decode cX4_rings 0 = .ok (.aload_n 0, 1) := dk_42 (dk_at dksX4_rings_0 0 rfl rfl)
theorem dX4_rings_1 : decode cX4_rings 1 = .ok (.iconst 0, 1) := dk_3 (dk_at dksX4_rings_0 1 rfl rfl)
theorem dX4_rings_2 : decode cX4_rings 2 = .ok (.putfield 1, 3) := dk_181 0 1 (dk_at dksX4_rings_0 2 rfl rfl)
theorem dX4_rings_5 : decode cX4_rings 5 = .ok (.aload_n 0, 1) := dk_42 (dk_at dksX4_rings_0 5 rfl rfl)
theorem dX4_rings_6 : decode cX4_rings 6 = .ok (.invokevirtual 250, 3) := dk_182 0 250 (dk_at dksX4_rings_0 6 rfl rfl)
theorem dX4_rings_9 : decode cX4_rings 9 = .ok (.aload_n 0, 1) := dk_42 (dk_at dksX4_rings_0 9 rfl rfl)
theorem dX4_rings_10 : decode cX4_rings 10 = .ok (.invokevirtual 285, 3) := dk_182 1 29 (dk_at dksX4_rings_0 10 rfl rfl)
theorem dX4_rings_13 : decode cX4_rings 13 = .ok (.istore_n 1, 1) := dk_60 (dk_at dksX4_rings_0 13 rfl rfl)
theorem dX4_rings_14 : decode cX4_rings 14 = .ok (.iload_n 1, 1) := dk_27 (dk_at dksX4_rings_0 14 rfl rfl)
theorem dX4_rings_15 : decode cX4_rings 15 = .ok (.ifCond .le 7, 3) := dk_158 0 7 (dk_at dksX4_rings_0 15 rfl rfl)
theorem dX4_rings_18 : decode cX4_rings 18 = .ok (.aload_n 0, 1) := dk_42 (dk_at dksX4_rings_0 18 rfl rfl)
theorem dX4_rings_19 : decode cX4_rings 19 = .ok (.invokevirtual 256, 3) := dk_182 1 0 (dk_at dksX4_rings_0 19 rfl rfl)
theorem dX4_rings_22 : decode cX4_rings 22 = .ok (.iload_n 1, 1) := dk_27 (dk_at dksX4_rings_0 22 rfl rfl)
theorem dX4_rings_23 : decode cX4_rings 23 = .ok (.ireturn, 1) := dk_172 (dk_at dksX4_rings_0 23 rfl rfl)
abbrev cX4_goesRings : ByteArray := prog_11_method_64_code
def yX4_goesRings : MethodName := ⟨RX4, "goesRings", "()I"⟩
def dkwX4_goesRings_2 : List UInt8 := [180, 0, 13, 16, 35, 28, 96, 42, 180, 0, 39, 28, 46, 79, 132, 2, 1, 167, 255, 202, 27, 172]
abbrev dktX4_goesRings_2 : List UInt8 := dkwX4_goesRings_2 ++ []
def dkwX4_goesRings_1 : List UInt8 := [16, 35, 28, 96, 46, 42, 180, 0, 39, 28, 46, 160, 0, 7, 3, 167, 0, 4, 4, 96, 60, 42]
abbrev dktX4_goesRings_1 : List UInt8 := dkwX4_goesRings_1 ++ dktX4_goesRings_2
def dkwX4_goesRings_0 : List UInt8 := [42, 182, 1, 26, 3, 60, 3, 61, 28, 42, 180, 0, 13, 4, 46, 162, 0, 50, 27, 42, 180, 0, 13]
abbrev dktX4_goesRings_0 : List UInt8 := dkwX4_goesRings_0 ++ dktX4_goesRings_1
theorem dksX4_goesRings_0 : cX4_goesRings.data.toList.drop 0 = dktX4_goesRings_0 := by decide +kernel
theorem dksX4_goesRings_1 : cX4_goesRings.data.toList.drop 23 = dktX4_goesRings_1 := dk_seg dksX4_goesRings_0 23 rfl rfl
theorem dksX4_goesRings_2 : cX4_goesRings.data.toList.drop 45 = dktX4_goesRings_2 := dk_seg dksX4_goesRings_1 22 rfl rfl
theorem dX4_goesRings_0 : decode cX4_goesRings 0 = .ok (.aload_n 0, 1) := dk_42 (dk_at dksX4_goesRings_0 0 rfl rfl)
theorem dX4_goesRings_1 : decode cX4_goesRings 1 = .ok (.invokevirtual 282, 3) := dk_182 1 26 (dk_at dksX4_goesRings_0 1 rfl rfl)
theorem dX4_goesRings_4 : decode cX4_goesRings 4 = .ok (.iconst 0, 1) := dk_3 (dk_at dksX4_goesRings_0 4 rfl rfl)
theorem dX4_goesRings_5 : decode cX4_goesRings 5 = .ok (.istore_n 1, 1) := dk_60 (dk_at dksX4_goesRings_0 5 rfl rfl)
theorem dX4_goesRings_6 : decode cX4_goesRings 6 = .ok (.iconst 0, 1) := dk_3 (dk_at dksX4_goesRings_0 6 rfl rfl)
theorem dX4_goesRings_7 : decode cX4_goesRings 7 = .ok (.istore_n 2, 1) := dk_61 (dk_at dksX4_goesRings_0 7 rfl rfl)
theorem dX4_goesRings_8 : decode cX4_goesRings 8 = .ok (.iload_n 2, 1) := dk_28 (dk_at dksX4_goesRings_0 8 rfl rfl)
theorem dX4_goesRings_9 : decode cX4_goesRings 9 = .ok (.aload_n 0, 1) := dk_42 (dk_at dksX4_goesRings_0 9 rfl rfl)
theorem dX4_goesRings_10 : decode cX4_goesRings 10 = .ok (.getfield 13, 3) := dk_180 0 13 (dk_at dksX4_goesRings_0 10 rfl rfl)
theorem dX4_goesRings_13 : decode cX4_goesRings 13 = .ok (.iconst 1, 1) := dk_4 (dk_at dksX4_goesRings_0 13 rfl rfl)
theorem dX4_goesRings_14 : decode cX4_goesRings 14 = .ok (.iaload, 1) := dk_46 (dk_at dksX4_goesRings_0 14 rfl rfl)
theorem dX4_goesRings_15 : decode cX4_goesRings 15 = .ok (.if_icmp .ge 50, 3) := dk_162 0 50 (dk_at dksX4_goesRings_0 15 rfl rfl)
theorem dX4_goesRings_18 : decode cX4_goesRings 18 = .ok (.iload_n 1, 1) := dk_27 (dk_at dksX4_goesRings_0 18 rfl rfl)
theorem dX4_goesRings_19 : decode cX4_goesRings 19 = .ok (.aload_n 0, 1) := dk_42 (dk_at dksX4_goesRings_0 19 rfl rfl)
theorem dX4_goesRings_20 : decode cX4_goesRings 20 = .ok (.getfield 13, 3) := dk_180 0 13 (dk_at dksX4_goesRings_0 20 rfl rfl)
theorem dX4_goesRings_23 : decode cX4_goesRings 23 = .ok (.bipush 35, 2) := dk_16 35 (dk_at dksX4_goesRings_1 0 rfl rfl)
theorem dX4_goesRings_25 : decode cX4_goesRings 25 = .ok (.iload_n 2, 1) := dk_28 (dk_at dksX4_goesRings_1 2 rfl rfl)
theorem dX4_goesRings_26 : decode cX4_goesRings 26 = .ok (.iadd, 1) := dk_96 (dk_at dksX4_goesRings_1 3 rfl rfl)
theorem dX4_goesRings_27 : decode cX4_goesRings 27 = .ok (.iaload, 1) := dk_46 (dk_at dksX4_goesRings_1 4 rfl rfl)
theorem dX4_goesRings_28 : decode cX4_goesRings 28 = .ok (.aload_n 0, 1) := dk_42 (dk_at dksX4_goesRings_1 5 rfl rfl)
theorem dX4_goesRings_29 : decode cX4_goesRings 29 = .ok (.getfield 39, 3) := dk_180 0 39 (dk_at dksX4_goesRings_1 6 rfl rfl)
theorem dX4_goesRings_32 : decode cX4_goesRings 32 = .ok (.iload_n 2, 1) := dk_28 (dk_at dksX4_goesRings_1 9 rfl rfl)
theorem dX4_goesRings_33 : decode cX4_goesRings 33 = .ok (.iaload, 1) := dk_46 (dk_at dksX4_goesRings_1 10 rfl rfl)
theorem dX4_goesRings_34 : decode cX4_goesRings 34 = .ok (.if_icmp .ne 7, 3) := dk_160 0 7 (dk_at dksX4_goesRings_1 11 rfl rfl)
theorem dX4_goesRings_37 : decode cX4_goesRings 37 = .ok (.iconst 0, 1) := dk_3 (dk_at dksX4_goesRings_1 14 rfl rfl)
theorem dX4_goesRings_38 : decode cX4_goesRings 38 = .ok (.goto 4, 3) := dk_167 0 4 (dk_at dksX4_goesRings_1 15 rfl rfl)
theorem dX4_goesRings_41 : decode cX4_goesRings 41 = .ok (.iconst 1, 1) := dk_4 (dk_at dksX4_goesRings_1 18 rfl rfl)
theorem dX4_goesRings_42 : decode cX4_goesRings 42 = .ok (.iadd, 1) := dk_96 (dk_at dksX4_goesRings_1 19 rfl rfl)
theorem dX4_goesRings_43 : decode cX4_goesRings 43 = .ok (.istore_n 1, 1) := dk_60 (dk_at dksX4_goesRings_1 20 rfl rfl)
theorem dX4_goesRings_44 : decode cX4_goesRings 44 = .ok (.aload_n 0, 1) := dk_42 (dk_at dksX4_goesRings_1 21 rfl rfl)
theorem dX4_goesRings_45 : decode cX4_goesRings 45 = .ok (.getfield 13, 3) := dk_180 0 13 (dk_at dksX4_goesRings_2 0 rfl rfl)
theorem dX4_goesRings_48 : decode cX4_goesRings 48 = .ok (.bipush 35, 2) := dk_16 35 (dk_at dksX4_goesRings_2 3 rfl rfl)
theorem dX4_goesRings_50 : decode cX4_goesRings 50 = .ok (.iload_n 2, 1) := dk_28 (dk_at dksX4_goesRings_2 5 rfl rfl)
theorem dX4_goesRings_51 : decode cX4_goesRings 51 = .ok (.iadd, 1) := dk_96 (dk_at dksX4_goesRings_2 6 rfl rfl)
theorem dX4_goesRings_52 : decode cX4_goesRings 52 = .ok (.aload_n 0, 1) := dk_42 (dk_at dksX4_goesRings_2 7 rfl rfl)
theorem dX4_goesRings_53 : decode cX4_goesRings 53 = .ok (.getfield 39, 3) := dk_180 0 39 (dk_at dksX4_goesRings_2 8 rfl rfl)
theorem dX4_goesRings_56 : decode cX4_goesRings 56 = .ok (.iload_n 2, 1) := dk_28 (dk_at dksX4_goesRings_2 11 rfl rfl)
theorem dX4_goesRings_57 : decode cX4_goesRings 57 = .ok (.iaload, 1) := dk_46 (dk_at dksX4_goesRings_2 12 rfl rfl)
theorem dX4_goesRings_58 : decode cX4_goesRings 58 = .ok (.iastore, 1) := dk_79 (dk_at dksX4_goesRings_2 13 rfl rfl)
theorem dX4_goesRings_59 : decode cX4_goesRings 59 = .ok (.iinc 2 1, 3) := dk_132 2 1 (dk_at dksX4_goesRings_2 14 rfl rfl)
theorem dX4_goesRings_62 : decode cX4_goesRings 62 = .ok (.goto (-54), 3) := dk_167 255 202 (dk_at dksX4_goesRings_2 17 rfl rfl)
theorem dX4_goesRings_65 : decode cX4_goesRings 65 = .ok (.iload_n 1, 1) := dk_27 (dk_at dksX4_goesRings_2 20 rfl rfl)
theorem dX4_goesRings_66 : decode cX4_goesRings 66 = .ok (.ireturn, 1) := dk_172 (dk_at dksX4_goesRings_2 21 rfl rfl)
abbrev cX4_laysRings : ByteArray := prog_11_method_63_code
def yX4_laysRings : MethodName := ⟨RX4, "laysRings", "()V"⟩
def dkwX4_laysRings_7 : List UInt8 := [167, 0, 4, 4, 96, 181, 1, 20, 27, 29, 2, 130, 126, 60, 167, 255, 140, 177]
abbrev dktX4_laysRings_7 : List UInt8 := dkwX4_laysRings_7 ++ []
def dkwX4_laysRings_6 : List UInt8 := [96, 46, 79, 21, 4, 61, 167, 255, 214, 42, 89, 180, 1, 20, 29, 4, 28, 120, 160, 0, 7, 3]
abbrev dktX4_laysRings_6 : List UInt8 := dkwX4_laysRings_6 ++ dktX4_laysRings_7
def dkwX4_laysRings_5 : List UInt8 := [120, 128, 62, 42, 28, 27, 182, 1, 23, 54, 4, 42, 180, 0, 39, 28, 42, 180, 0, 13, 16, 35, 21, 4]
abbrev dktX4_laysRings_5 : List UInt8 := dkwX4_laysRings_5 ++ dktX4_laysRings_6
def dkwX4_laysRings_4 : List UInt8 := [182, 1, 23, 61, 132, 3, 1, 167, 255, 240, 3, 62, 29, 133, 28, 184, 1, 16, 154, 0, 39, 29, 4, 28]
abbrev dktX4_laysRings_4 : List UInt8 := dkwX4_laysRings_4 ++ dktX4_laysRings_5
def dkwX4_laysRings_3 : List UInt8 := [184, 1, 16, 154, 0, 9, 132, 2, 1, 167, 255, 244, 3, 62, 29, 16, 6, 162, 0, 16, 42, 28, 27]
abbrev dktX4_laysRings_3 : List UInt8 := dkwX4_laysRings_3 ++ dktX4_laysRings_4
def dkwX4_laysRings_2 : List UInt8 := [3, 167, 0, 6, 4, 28, 120, 128, 60, 132, 2, 1, 167, 255, 205, 27, 153, 0, 118, 3, 61, 27, 133, 28]
abbrev dktX4_laysRings_2 : List UInt8 := dkwX4_laysRings_2 ++ dktX4_laysRings_3
def dkwX4_laysRings_1 : List UInt8 := [42, 180, 0, 13, 16, 35, 28, 96, 46, 79, 27, 42, 180, 0, 13, 16, 35, 28, 96, 46, 2, 160, 0, 7]
abbrev dktX4_laysRings_1 : List UInt8 := dkwX4_laysRings_1 ++ dktX4_laysRings_2
def dkwX4_laysRings_0 : List UInt8 := [42, 3, 181, 1, 20, 3, 60, 3, 61, 28, 42, 180, 0, 13, 4, 46, 162, 0, 47, 42, 180, 0, 39, 28]
abbrev dktX4_laysRings_0 : List UInt8 := dkwX4_laysRings_0 ++ dktX4_laysRings_1
theorem dksX4_laysRings_0 : cX4_laysRings.data.toList.drop 0 = dktX4_laysRings_0 := by decide +kernel
theorem dksX4_laysRings_1 : cX4_laysRings.data.toList.drop 24 = dktX4_laysRings_1 := dk_seg dksX4_laysRings_0 24 rfl rfl
theorem dksX4_laysRings_2 : cX4_laysRings.data.toList.drop 48 = dktX4_laysRings_2 := dk_seg dksX4_laysRings_1 24 rfl rfl
theorem dksX4_laysRings_3 : cX4_laysRings.data.toList.drop 72 = dktX4_laysRings_3 := dk_seg dksX4_laysRings_2 24 rfl rfl
theorem dksX4_laysRings_4 : cX4_laysRings.data.toList.drop 95 = dktX4_laysRings_4 := dk_seg dksX4_laysRings_3 23 rfl rfl
theorem dksX4_laysRings_5 : cX4_laysRings.data.toList.drop 119 = dktX4_laysRings_5 := dk_seg dksX4_laysRings_4 24 rfl rfl
theorem dksX4_laysRings_6 : cX4_laysRings.data.toList.drop 143 = dktX4_laysRings_6 := dk_seg dksX4_laysRings_5 24 rfl rfl
theorem dksX4_laysRings_7 : cX4_laysRings.data.toList.drop 165 = dktX4_laysRings_7 := dk_seg dksX4_laysRings_6 22 rfl rfl
theorem dX4_laysRings_0 : decode cX4_laysRings 0 = .ok (.aload_n 0, 1) := dk_42 (dk_at dksX4_laysRings_0 0 rfl rfl)
theorem dX4_laysRings_1 : decode cX4_laysRings 1 = .ok (.iconst 0, 1) := dk_3 (dk_at dksX4_laysRings_0 1 rfl rfl)
theorem dX4_laysRings_2 : decode cX4_laysRings 2 = .ok (.putfield 276, 3) := dk_181 1 20 (dk_at dksX4_laysRings_0 2 rfl rfl)
theorem dX4_laysRings_5 : decode cX4_laysRings 5 = .ok (.iconst 0, 1) := dk_3 (dk_at dksX4_laysRings_0 5 rfl rfl)
theorem dX4_laysRings_6 : decode cX4_laysRings 6 = .ok (.istore_n 1, 1) := dk_60 (dk_at dksX4_laysRings_0 6 rfl rfl)
theorem dX4_laysRings_7 : decode cX4_laysRings 7 = .ok (.iconst 0, 1) := dk_3 (dk_at dksX4_laysRings_0 7 rfl rfl)
theorem dX4_laysRings_8 : decode cX4_laysRings 8 = .ok (.istore_n 2, 1) := dk_61 (dk_at dksX4_laysRings_0 8 rfl rfl)
theorem dX4_laysRings_9 : decode cX4_laysRings 9 = .ok (.iload_n 2, 1) := dk_28 (dk_at dksX4_laysRings_0 9 rfl rfl)
theorem dX4_laysRings_10 : decode cX4_laysRings 10 = .ok (.aload_n 0, 1) := dk_42 (dk_at dksX4_laysRings_0 10 rfl rfl)
theorem dX4_laysRings_11 : decode cX4_laysRings 11 = .ok (.getfield 13, 3) := dk_180 0 13 (dk_at dksX4_laysRings_0 11 rfl rfl)
theorem dX4_laysRings_14 : decode cX4_laysRings 14 = .ok (.iconst 1, 1) := dk_4 (dk_at dksX4_laysRings_0 14 rfl rfl)
theorem dX4_laysRings_15 : decode cX4_laysRings 15 = .ok (.iaload, 1) := dk_46 (dk_at dksX4_laysRings_0 15 rfl rfl)
theorem dX4_laysRings_16 : decode cX4_laysRings 16 = .ok (.if_icmp .ge 47, 3) := dk_162 0 47 (dk_at dksX4_laysRings_0 16 rfl rfl)
theorem dX4_laysRings_19 : decode cX4_laysRings 19 = .ok (.aload_n 0, 1) := dk_42 (dk_at dksX4_laysRings_0 19 rfl rfl)
theorem dX4_laysRings_20 : decode cX4_laysRings 20 = .ok (.getfield 39, 3) := dk_180 0 39 (dk_at dksX4_laysRings_0 20 rfl rfl)
theorem dX4_laysRings_23 : decode cX4_laysRings 23 = .ok (.iload_n 2, 1) := dk_28 (dk_at dksX4_laysRings_0 23 rfl rfl)
theorem dX4_laysRings_24 : decode cX4_laysRings 24 = .ok (.aload_n 0, 1) := dk_42 (dk_at dksX4_laysRings_1 0 rfl rfl)
theorem dX4_laysRings_25 : decode cX4_laysRings 25 = .ok (.getfield 13, 3) := dk_180 0 13 (dk_at dksX4_laysRings_1 1 rfl rfl)
theorem dX4_laysRings_28 : decode cX4_laysRings 28 = .ok (.bipush 35, 2) := dk_16 35 (dk_at dksX4_laysRings_1 4 rfl rfl)
theorem dX4_laysRings_30 : decode cX4_laysRings 30 = .ok (.iload_n 2, 1) := dk_28 (dk_at dksX4_laysRings_1 6 rfl rfl)
theorem dX4_laysRings_31 : decode cX4_laysRings 31 = .ok (.iadd, 1) := dk_96 (dk_at dksX4_laysRings_1 7 rfl rfl)
theorem dX4_laysRings_32 : decode cX4_laysRings 32 = .ok (.iaload, 1) := dk_46 (dk_at dksX4_laysRings_1 8 rfl rfl)
theorem dX4_laysRings_33 : decode cX4_laysRings 33 = .ok (.iastore, 1) := dk_79 (dk_at dksX4_laysRings_1 9 rfl rfl)
theorem dX4_laysRings_34 : decode cX4_laysRings 34 = .ok (.iload_n 1, 1) := dk_27 (dk_at dksX4_laysRings_1 10 rfl rfl)
theorem dX4_laysRings_35 : decode cX4_laysRings 35 = .ok (.aload_n 0, 1) := dk_42 (dk_at dksX4_laysRings_1 11 rfl rfl)
theorem dX4_laysRings_36 : decode cX4_laysRings 36 = .ok (.getfield 13, 3) := dk_180 0 13 (dk_at dksX4_laysRings_1 12 rfl rfl)
theorem dX4_laysRings_39 : decode cX4_laysRings 39 = .ok (.bipush 35, 2) := dk_16 35 (dk_at dksX4_laysRings_1 15 rfl rfl)
theorem dX4_laysRings_41 : decode cX4_laysRings 41 = .ok (.iload_n 2, 1) := dk_28 (dk_at dksX4_laysRings_1 17 rfl rfl)
theorem dX4_laysRings_42 : decode cX4_laysRings 42 = .ok (.iadd, 1) := dk_96 (dk_at dksX4_laysRings_1 18 rfl rfl)
theorem dX4_laysRings_43 : decode cX4_laysRings 43 = .ok (.iaload, 1) := dk_46 (dk_at dksX4_laysRings_1 19 rfl rfl)
theorem dX4_laysRings_44 : decode cX4_laysRings 44 = .ok (.iconst (-1), 1) := dk_2 (dk_at dksX4_laysRings_1 20 rfl rfl)
theorem dX4_laysRings_45 : decode cX4_laysRings 45 = .ok (.if_icmp .ne 7, 3) := dk_160 0 7 (dk_at dksX4_laysRings_1 21 rfl rfl)
theorem dX4_laysRings_48 : decode cX4_laysRings 48 = .ok (.iconst 0, 1) := dk_3 (dk_at dksX4_laysRings_2 0 rfl rfl)
theorem dX4_laysRings_49 : decode cX4_laysRings 49 = .ok (.goto 6, 3) := dk_167 0 6 (dk_at dksX4_laysRings_2 1 rfl rfl)
theorem dX4_laysRings_52 : decode cX4_laysRings 52 = .ok (.iconst 1, 1) := dk_4 (dk_at dksX4_laysRings_2 4 rfl rfl)
theorem dX4_laysRings_53 : decode cX4_laysRings 53 = .ok (.iload_n 2, 1) := dk_28 (dk_at dksX4_laysRings_2 5 rfl rfl)
theorem dX4_laysRings_54 : decode cX4_laysRings 54 = .ok (.ishl, 1) := dk_120 (dk_at dksX4_laysRings_2 6 rfl rfl)
theorem dX4_laysRings_55 : decode cX4_laysRings 55 = .ok (.ior, 1) := dk_128 (dk_at dksX4_laysRings_2 7 rfl rfl)
theorem dX4_laysRings_56 : decode cX4_laysRings 56 = .ok (.istore_n 1, 1) := dk_60 (dk_at dksX4_laysRings_2 8 rfl rfl)
theorem dX4_laysRings_57 : decode cX4_laysRings 57 = .ok (.iinc 2 1, 3) := dk_132 2 1 (dk_at dksX4_laysRings_2 9 rfl rfl)
theorem dX4_laysRings_60 : decode cX4_laysRings 60 = .ok (.goto (-51), 3) := dk_167 255 205 (dk_at dksX4_laysRings_2 12 rfl rfl)
theorem dX4_laysRings_63 : decode cX4_laysRings 63 = .ok (.iload_n 1, 1) := dk_27 (dk_at dksX4_laysRings_2 15 rfl rfl)
theorem dX4_laysRings_64 : decode cX4_laysRings 64 = .ok (.ifCond .eq 118, 3) := dk_153 0 118 (dk_at dksX4_laysRings_2 16 rfl rfl)
theorem dX4_laysRings_67 : decode cX4_laysRings 67 = .ok (.iconst 0, 1) := dk_3 (dk_at dksX4_laysRings_2 19 rfl rfl)
theorem dX4_laysRings_68 : decode cX4_laysRings 68 = .ok (.istore_n 2, 1) := dk_61 (dk_at dksX4_laysRings_2 20 rfl rfl)
theorem dX4_laysRings_69 : decode cX4_laysRings 69 = .ok (.iload_n 1, 1) := dk_27 (dk_at dksX4_laysRings_2 21 rfl rfl)
theorem dX4_laysRings_70 : decode cX4_laysRings 70 = .ok (.i2l, 1) := dk_133 (dk_at dksX4_laysRings_2 22 rfl rfl)
theorem dX4_laysRings_71 : decode cX4_laysRings 71 = .ok (.iload_n 2, 1) := dk_28 (dk_at dksX4_laysRings_2 23 rfl rfl)
theorem dX4_laysRings_72 : decode cX4_laysRings 72 = .ok (.invokestatic 272, 3) := dk_184 1 16 (dk_at dksX4_laysRings_3 0 rfl rfl)
theorem dX4_laysRings_75 : decode cX4_laysRings 75 = .ok (.ifCond .ne 9, 3) := dk_154 0 9 (dk_at dksX4_laysRings_3 3 rfl rfl)
theorem dX4_laysRings_78 : decode cX4_laysRings 78 = .ok (.iinc 2 1, 3) := dk_132 2 1 (dk_at dksX4_laysRings_3 6 rfl rfl)
theorem dX4_laysRings_81 : decode cX4_laysRings 81 = .ok (.goto (-12), 3) := dk_167 255 244 (dk_at dksX4_laysRings_3 9 rfl rfl)
theorem dX4_laysRings_84 : decode cX4_laysRings 84 = .ok (.iconst 0, 1) := dk_3 (dk_at dksX4_laysRings_3 12 rfl rfl)
theorem dX4_laysRings_85 : decode cX4_laysRings 85 = .ok (.istore_n 3, 1) := dk_62 (dk_at dksX4_laysRings_3 13 rfl rfl)
theorem dX4_laysRings_86 : decode cX4_laysRings 86 = .ok (.iload_n 3, 1) := dk_29 (dk_at dksX4_laysRings_3 14 rfl rfl)
theorem dX4_laysRings_87 : decode cX4_laysRings 87 = .ok (.bipush 6, 2) := dk_16 6 (dk_at dksX4_laysRings_3 15 rfl rfl)
theorem dX4_laysRings_89 : decode cX4_laysRings 89 = .ok (.if_icmp .ge 16, 3) := dk_162 0 16 (dk_at dksX4_laysRings_3 17 rfl rfl)
theorem dX4_laysRings_92 : decode cX4_laysRings 92 = .ok (.aload_n 0, 1) := dk_42 (dk_at dksX4_laysRings_3 20 rfl rfl)
theorem dX4_laysRings_93 : decode cX4_laysRings 93 = .ok (.iload_n 2, 1) := dk_28 (dk_at dksX4_laysRings_3 21 rfl rfl)
theorem dX4_laysRings_94 : decode cX4_laysRings 94 = .ok (.iload_n 1, 1) := dk_27 (dk_at dksX4_laysRings_3 22 rfl rfl)
theorem dX4_laysRings_95 : decode cX4_laysRings 95 = .ok (.invokevirtual 279, 3) := dk_182 1 23 (dk_at dksX4_laysRings_4 0 rfl rfl)
theorem dX4_laysRings_98 : decode cX4_laysRings 98 = .ok (.istore_n 2, 1) := dk_61 (dk_at dksX4_laysRings_4 3 rfl rfl)
theorem dX4_laysRings_99 : decode cX4_laysRings 99 = .ok (.iinc 3 1, 3) := dk_132 3 1 (dk_at dksX4_laysRings_4 4 rfl rfl)
theorem dX4_laysRings_102 : decode cX4_laysRings 102 = .ok (.goto (-16), 3) := dk_167 255 240 (dk_at dksX4_laysRings_4 7 rfl rfl)
theorem dX4_laysRings_105 : decode cX4_laysRings 105 = .ok (.iconst 0, 1) := dk_3 (dk_at dksX4_laysRings_4 10 rfl rfl)
theorem dX4_laysRings_106 : decode cX4_laysRings 106 = .ok (.istore_n 3, 1) := dk_62 (dk_at dksX4_laysRings_4 11 rfl rfl)
theorem dX4_laysRings_107 : decode cX4_laysRings 107 = .ok (.iload_n 3, 1) := dk_29 (dk_at dksX4_laysRings_4 12 rfl rfl)
theorem dX4_laysRings_108 : decode cX4_laysRings 108 = .ok (.i2l, 1) := dk_133 (dk_at dksX4_laysRings_4 13 rfl rfl)
theorem dX4_laysRings_109 : decode cX4_laysRings 109 = .ok (.iload_n 2, 1) := dk_28 (dk_at dksX4_laysRings_4 14 rfl rfl)
theorem dX4_laysRings_110 : decode cX4_laysRings 110 = .ok (.invokestatic 272, 3) := dk_184 1 16 (dk_at dksX4_laysRings_4 15 rfl rfl)
theorem dX4_laysRings_113 : decode cX4_laysRings 113 = .ok (.ifCond .ne 39, 3) := dk_154 0 39 (dk_at dksX4_laysRings_4 18 rfl rfl)
theorem dX4_laysRings_116 : decode cX4_laysRings 116 = .ok (.iload_n 3, 1) := dk_29 (dk_at dksX4_laysRings_4 21 rfl rfl)
theorem dX4_laysRings_117 : decode cX4_laysRings 117 = .ok (.iconst 1, 1) := dk_4 (dk_at dksX4_laysRings_4 22 rfl rfl)
theorem dX4_laysRings_118 : decode cX4_laysRings 118 = .ok (.iload_n 2, 1) := dk_28 (dk_at dksX4_laysRings_4 23 rfl rfl)
theorem dX4_laysRings_119 : decode cX4_laysRings 119 = .ok (.ishl, 1) := dk_120 (dk_at dksX4_laysRings_5 0 rfl rfl)
theorem dX4_laysRings_120 : decode cX4_laysRings 120 = .ok (.ior, 1) := dk_128 (dk_at dksX4_laysRings_5 1 rfl rfl)
theorem dX4_laysRings_121 : decode cX4_laysRings 121 = .ok (.istore_n 3, 1) := dk_62 (dk_at dksX4_laysRings_5 2 rfl rfl)
theorem dX4_laysRings_122 : decode cX4_laysRings 122 = .ok (.aload_n 0, 1) := dk_42 (dk_at dksX4_laysRings_5 3 rfl rfl)
theorem dX4_laysRings_123 : decode cX4_laysRings 123 = .ok (.iload_n 2, 1) := dk_28 (dk_at dksX4_laysRings_5 4 rfl rfl)
theorem dX4_laysRings_124 : decode cX4_laysRings 124 = .ok (.iload_n 1, 1) := dk_27 (dk_at dksX4_laysRings_5 5 rfl rfl)
theorem dX4_laysRings_125 : decode cX4_laysRings 125 = .ok (.invokevirtual 279, 3) := dk_182 1 23 (dk_at dksX4_laysRings_5 6 rfl rfl)
theorem dX4_laysRings_128 : decode cX4_laysRings 128 = .ok (.istore 4, 2) := dk_54 4 (dk_at dksX4_laysRings_5 9 rfl rfl)
theorem dX4_laysRings_130 : decode cX4_laysRings 130 = .ok (.aload_n 0, 1) := dk_42 (dk_at dksX4_laysRings_5 11 rfl rfl)
theorem dX4_laysRings_131 : decode cX4_laysRings 131 = .ok (.getfield 39, 3) := dk_180 0 39 (dk_at dksX4_laysRings_5 12 rfl rfl)
theorem dX4_laysRings_134 : decode cX4_laysRings 134 = .ok (.iload_n 2, 1) := dk_28 (dk_at dksX4_laysRings_5 15 rfl rfl)
theorem dX4_laysRings_135 : decode cX4_laysRings 135 = .ok (.aload_n 0, 1) := dk_42 (dk_at dksX4_laysRings_5 16 rfl rfl)
theorem dX4_laysRings_136 : decode cX4_laysRings 136 = .ok (.getfield 13, 3) := dk_180 0 13 (dk_at dksX4_laysRings_5 17 rfl rfl)
theorem dX4_laysRings_139 : decode cX4_laysRings 139 = .ok (.bipush 35, 2) := dk_16 35 (dk_at dksX4_laysRings_5 20 rfl rfl)
theorem dX4_laysRings_141 : decode cX4_laysRings 141 = .ok (.iload 4, 2) := dk_21 4 (dk_at dksX4_laysRings_5 22 rfl rfl)
theorem dX4_laysRings_143 : decode cX4_laysRings 143 = .ok (.iadd, 1) := dk_96 (dk_at dksX4_laysRings_6 0 rfl rfl)
theorem dX4_laysRings_144 : decode cX4_laysRings 144 = .ok (.iaload, 1) := dk_46 (dk_at dksX4_laysRings_6 1 rfl rfl)
theorem dX4_laysRings_145 : decode cX4_laysRings 145 = .ok (.iastore, 1) := dk_79 (dk_at dksX4_laysRings_6 2 rfl rfl)
theorem dX4_laysRings_146 : decode cX4_laysRings 146 = .ok (.iload 4, 2) := dk_21 4 (dk_at dksX4_laysRings_6 3 rfl rfl)
theorem dX4_laysRings_148 : decode cX4_laysRings 148 = .ok (.istore_n 2, 1) := dk_61 (dk_at dksX4_laysRings_6 5 rfl rfl)
theorem dX4_laysRings_149 : decode cX4_laysRings 149 = .ok (.goto (-42), 3) := dk_167 255 214 (dk_at dksX4_laysRings_6 6 rfl rfl)
theorem dX4_laysRings_152 : decode cX4_laysRings 152 = .ok (.aload_n 0, 1) := dk_42 (dk_at dksX4_laysRings_6 9 rfl rfl)
theorem dX4_laysRings_153 : decode cX4_laysRings 153 = .ok (.dup, 1) := dk_89 (dk_at dksX4_laysRings_6 10 rfl rfl)
theorem dX4_laysRings_154 : decode cX4_laysRings 154 = .ok (.getfield 276, 3) := dk_180 1 20 (dk_at dksX4_laysRings_6 11 rfl rfl)
theorem dX4_laysRings_157 : decode cX4_laysRings 157 = .ok (.iload_n 3, 1) := dk_29 (dk_at dksX4_laysRings_6 14 rfl rfl)
theorem dX4_laysRings_158 : decode cX4_laysRings 158 = .ok (.iconst 1, 1) := dk_4 (dk_at dksX4_laysRings_6 15 rfl rfl)
theorem dX4_laysRings_159 : decode cX4_laysRings 159 = .ok (.iload_n 2, 1) := dk_28 (dk_at dksX4_laysRings_6 16 rfl rfl)
theorem dX4_laysRings_160 : decode cX4_laysRings 160 = .ok (.ishl, 1) := dk_120 (dk_at dksX4_laysRings_6 17 rfl rfl)
theorem dX4_laysRings_161 : decode cX4_laysRings 161 = .ok (.if_icmp .ne 7, 3) := dk_160 0 7 (dk_at dksX4_laysRings_6 18 rfl rfl)
theorem dX4_laysRings_164 : decode cX4_laysRings 164 = .ok (.iconst 0, 1) := dk_3 (dk_at dksX4_laysRings_6 21 rfl rfl)
theorem dX4_laysRings_165 : decode cX4_laysRings 165 = .ok (.goto 4, 3) := dk_167 0 4 (dk_at dksX4_laysRings_7 0 rfl rfl)
theorem dX4_laysRings_168 : decode cX4_laysRings 168 = .ok (.iconst 1, 1) := dk_4 (dk_at dksX4_laysRings_7 3 rfl rfl)
theorem dX4_laysRings_169 : decode cX4_laysRings 169 = .ok (.iadd, 1) := dk_96 (dk_at dksX4_laysRings_7 4 rfl rfl)
theorem dX4_laysRings_170 : decode cX4_laysRings 170 = .ok (.putfield 276, 3) := dk_181 1 20 (dk_at dksX4_laysRings_7 5 rfl rfl)
theorem dX4_laysRings_173 : decode cX4_laysRings 173 = .ok (.iload_n 1, 1) := dk_27 (dk_at dksX4_laysRings_7 8 rfl rfl)
theorem dX4_laysRings_174 : decode cX4_laysRings 174 = .ok (.iload_n 3, 1) := dk_29 (dk_at dksX4_laysRings_7 9 rfl rfl)
theorem dX4_laysRings_175 : decode cX4_laysRings 175 = .ok (.iconst (-1), 1) := dk_2 (dk_at dksX4_laysRings_7 10 rfl rfl)
theorem dX4_laysRings_176 : decode cX4_laysRings 176 = .ok (.ixor, 1) := dk_130 (dk_at dksX4_laysRings_7 11 rfl rfl)
theorem dX4_laysRings_177 : decode cX4_laysRings 177 = .ok (.iand, 1) := dk_126 (dk_at dksX4_laysRings_7 12 rfl rfl)
theorem dX4_laysRings_178 : decode cX4_laysRings 178 = .ok (.istore_n 1, 1) := dk_60 (dk_at dksX4_laysRings_7 13 rfl rfl)
theorem dX4_laysRings_179 : decode cX4_laysRings 179 = .ok (.goto (-116), 3) := dk_167 255 140 (dk_at dksX4_laysRings_7 14 rfl rfl)
theorem dX4_laysRings_182 : decode cX4_laysRings 182 = .ok (.return_, 1) := dk_177 (dk_at dksX4_laysRings_7 17 rfl rfl)
abbrev cX4_isIn : ByteArray := prog_11_method_15_code
def yX4_isIn : MethodName := ⟨RX4, "isIn", "(JI)Z"⟩
def dkwX4_isIn_0 : List UInt8 := [30, 28, 123, 10, 127, 10, 148, 154, 0, 7, 4, 167, 0, 4, 3, 172]
abbrev dktX4_isIn_0 : List UInt8 := dkwX4_isIn_0 ++ []
theorem dksX4_isIn_0 : cX4_isIn.data.toList.drop 0 = dktX4_isIn_0 := by decide +kernel
theorem dX4_isIn_0 : decode cX4_isIn 0 = .ok (.lload_n 0, 1) := dk_30 (dk_at dksX4_isIn_0 0 rfl rfl)
theorem dX4_isIn_1 : decode cX4_isIn 1 = .ok (.iload_n 2, 1) := dk_28 (dk_at dksX4_isIn_0 1 rfl rfl)
theorem dX4_isIn_2 : decode cX4_isIn 2 = .ok (.lshr, 1) := dk_123 (dk_at dksX4_isIn_0 2 rfl rfl)
theorem dX4_isIn_3 : decode cX4_isIn 3 = .ok (.lconst 1, 1) := dk_10 (dk_at dksX4_isIn_0 3 rfl rfl)
theorem dX4_isIn_4 : decode cX4_isIn 4 = .ok (.land, 1) := dk_127 (dk_at dksX4_isIn_0 4 rfl rfl)
theorem dX4_isIn_5 : decode cX4_isIn 5 = .ok (.lconst 1, 1) := dk_10 (dk_at dksX4_isIn_0 5 rfl rfl)
theorem dX4_isIn_6 : decode cX4_isIn 6 = .ok (.lcmp, 1) := dk_148 (dk_at dksX4_isIn_0 6 rfl rfl)
theorem dX4_isIn_7 : decode cX4_isIn 7 = .ok (.ifCond .ne 7, 3) := dk_154 0 7 (dk_at dksX4_isIn_0 7 rfl rfl)
theorem dX4_isIn_10 : decode cX4_isIn 10 = .ok (.iconst 1, 1) := dk_4 (dk_at dksX4_isIn_0 10 rfl rfl)
theorem dX4_isIn_11 : decode cX4_isIn 11 = .ok (.goto 4, 3) := dk_167 0 4 (dk_at dksX4_isIn_0 11 rfl rfl)
theorem dX4_isIn_14 : decode cX4_isIn 14 = .ok (.iconst 0, 1) := dk_3 (dk_at dksX4_isIn_0 14 rfl rfl)
theorem dX4_isIn_15 : decode cX4_isIn 15 = .ok (.ireturn, 1) := dk_172 (dk_at dksX4_isIn_0 15 rfl rfl)
abbrev cX4_pointsAt : ByteArray := prog_11_method_62_code
def yX4_pointsAt : MethodName := ⟨RX4, "pointsAt", "(II)I"⟩
def dkwX4_pointsAt_3 : List UInt8 := [164, 0, 6, 21, 5, 62, 132, 4, 255, 167, 255, 189, 29, 172]
abbrev dktX4_pointsAt_3 : List UInt8 := dkwX4_pointsAt_3 ++ []
def dkwX4_pointsAt_2 : List UInt8 := [159, 0, 27, 42, 27, 21, 4, 182, 0, 242, 42, 27, 42, 180, 0, 13, 16, 35, 29, 96, 46, 182, 0, 242]
abbrev dktX4_pointsAt_2 : List UInt8 := dkwX4_pointsAt_2 ++ dktX4_pointsAt_3
def dkwX4_pointsAt_1 : List UInt8 := [54, 5, 21, 5, 2, 159, 0, 48, 28, 133, 21, 5, 184, 1, 16, 154, 0, 6, 167, 0, 35, 29, 2]
abbrev dktX4_pointsAt_1 : List UInt8 := dkwX4_pointsAt_1 ++ dktX4_pointsAt_2
def dkwX4_pointsAt_0 : List UInt8 := [2, 62, 42, 180, 0, 13, 16, 20, 46, 4, 100, 54, 4, 21, 4, 155, 0, 68, 42, 21, 4, 182, 0, 226]
abbrev dktX4_pointsAt_0 : List UInt8 := dkwX4_pointsAt_0 ++ dktX4_pointsAt_1
theorem dksX4_pointsAt_0 : cX4_pointsAt.data.toList.drop 0 = dktX4_pointsAt_0 := by decide +kernel
theorem dksX4_pointsAt_1 : cX4_pointsAt.data.toList.drop 24 = dktX4_pointsAt_1 := dk_seg dksX4_pointsAt_0 24 rfl rfl
theorem dksX4_pointsAt_2 : cX4_pointsAt.data.toList.drop 47 = dktX4_pointsAt_2 := dk_seg dksX4_pointsAt_1 23 rfl rfl
theorem dksX4_pointsAt_3 : cX4_pointsAt.data.toList.drop 71 = dktX4_pointsAt_3 := dk_seg dksX4_pointsAt_2 24 rfl rfl
theorem dX4_pointsAt_0 : decode cX4_pointsAt 0 = .ok (.iconst (-1), 1) := dk_2 (dk_at dksX4_pointsAt_0 0 rfl rfl)
theorem dX4_pointsAt_1 : decode cX4_pointsAt 1 = .ok (.istore_n 3, 1) := dk_62 (dk_at dksX4_pointsAt_0 1 rfl rfl)
theorem dX4_pointsAt_2 : decode cX4_pointsAt 2 = .ok (.aload_n 0, 1) := dk_42 (dk_at dksX4_pointsAt_0 2 rfl rfl)
theorem dX4_pointsAt_3 : decode cX4_pointsAt 3 = .ok (.getfield 13, 3) := dk_180 0 13 (dk_at dksX4_pointsAt_0 3 rfl rfl)
theorem dX4_pointsAt_6 : decode cX4_pointsAt 6 = .ok (.bipush 20, 2) := dk_16 20 (dk_at dksX4_pointsAt_0 6 rfl rfl)
theorem dX4_pointsAt_8 : decode cX4_pointsAt 8 = .ok (.iaload, 1) := dk_46 (dk_at dksX4_pointsAt_0 8 rfl rfl)
theorem dX4_pointsAt_9 : decode cX4_pointsAt 9 = .ok (.iconst 1, 1) := dk_4 (dk_at dksX4_pointsAt_0 9 rfl rfl)
theorem dX4_pointsAt_10 : decode cX4_pointsAt 10 = .ok (.isub, 1) := dk_100 (dk_at dksX4_pointsAt_0 10 rfl rfl)
theorem dX4_pointsAt_11 : decode cX4_pointsAt 11 = .ok (.istore 4, 2) := dk_54 4 (dk_at dksX4_pointsAt_0 11 rfl rfl)
theorem dX4_pointsAt_13 : decode cX4_pointsAt 13 = .ok (.iload 4, 2) := dk_21 4 (dk_at dksX4_pointsAt_0 13 rfl rfl)
theorem dX4_pointsAt_15 : decode cX4_pointsAt 15 = .ok (.ifCond .lt 68, 3) := dk_155 0 68 (dk_at dksX4_pointsAt_0 15 rfl rfl)
theorem dX4_pointsAt_18 : decode cX4_pointsAt 18 = .ok (.aload_n 0, 1) := dk_42 (dk_at dksX4_pointsAt_0 18 rfl rfl)
theorem dX4_pointsAt_19 : decode cX4_pointsAt 19 = .ok (.iload 4, 2) := dk_21 4 (dk_at dksX4_pointsAt_0 19 rfl rfl)
theorem dX4_pointsAt_21 : decode cX4_pointsAt 21 = .ok (.invokevirtual 226, 3) := dk_182 0 226 (dk_at dksX4_pointsAt_0 21 rfl rfl)
theorem dX4_pointsAt_24 : decode cX4_pointsAt 24 = .ok (.istore 5, 2) := dk_54 5 (dk_at dksX4_pointsAt_1 0 rfl rfl)
theorem dX4_pointsAt_26 : decode cX4_pointsAt 26 = .ok (.iload 5, 2) := dk_21 5 (dk_at dksX4_pointsAt_1 2 rfl rfl)
theorem dX4_pointsAt_28 : decode cX4_pointsAt 28 = .ok (.iconst (-1), 1) := dk_2 (dk_at dksX4_pointsAt_1 4 rfl rfl)
theorem dX4_pointsAt_29 : decode cX4_pointsAt 29 = .ok (.if_icmp .eq 48, 3) := dk_159 0 48 (dk_at dksX4_pointsAt_1 5 rfl rfl)
theorem dX4_pointsAt_32 : decode cX4_pointsAt 32 = .ok (.iload_n 2, 1) := dk_28 (dk_at dksX4_pointsAt_1 8 rfl rfl)
theorem dX4_pointsAt_33 : decode cX4_pointsAt 33 = .ok (.i2l, 1) := dk_133 (dk_at dksX4_pointsAt_1 9 rfl rfl)
theorem dX4_pointsAt_34 : decode cX4_pointsAt 34 = .ok (.iload 5, 2) := dk_21 5 (dk_at dksX4_pointsAt_1 10 rfl rfl)
theorem dX4_pointsAt_36 : decode cX4_pointsAt 36 = .ok (.invokestatic 272, 3) := dk_184 1 16 (dk_at dksX4_pointsAt_1 12 rfl rfl)
theorem dX4_pointsAt_39 : decode cX4_pointsAt 39 = .ok (.ifCond .ne 6, 3) := dk_154 0 6 (dk_at dksX4_pointsAt_1 15 rfl rfl)
theorem dX4_pointsAt_42 : decode cX4_pointsAt 42 = .ok (.goto 35, 3) := dk_167 0 35 (dk_at dksX4_pointsAt_1 18 rfl rfl)
theorem dX4_pointsAt_45 : decode cX4_pointsAt 45 = .ok (.iload_n 3, 1) := dk_29 (dk_at dksX4_pointsAt_1 21 rfl rfl)
theorem dX4_pointsAt_46 : decode cX4_pointsAt 46 = .ok (.iconst (-1), 1) := dk_2 (dk_at dksX4_pointsAt_1 22 rfl rfl)
theorem dX4_pointsAt_47 : decode cX4_pointsAt 47 = .ok (.if_icmp .eq 27, 3) := dk_159 0 27 (dk_at dksX4_pointsAt_2 0 rfl rfl)
theorem dX4_pointsAt_50 : decode cX4_pointsAt 50 = .ok (.aload_n 0, 1) := dk_42 (dk_at dksX4_pointsAt_2 3 rfl rfl)
theorem dX4_pointsAt_51 : decode cX4_pointsAt 51 = .ok (.iload_n 1, 1) := dk_27 (dk_at dksX4_pointsAt_2 4 rfl rfl)
theorem dX4_pointsAt_52 : decode cX4_pointsAt 52 = .ok (.iload 4, 2) := dk_21 4 (dk_at dksX4_pointsAt_2 5 rfl rfl)
theorem dX4_pointsAt_54 : decode cX4_pointsAt 54 = .ok (.invokevirtual 242, 3) := dk_182 0 242 (dk_at dksX4_pointsAt_2 7 rfl rfl)
theorem dX4_pointsAt_57 : decode cX4_pointsAt 57 = .ok (.aload_n 0, 1) := dk_42 (dk_at dksX4_pointsAt_2 10 rfl rfl)
theorem dX4_pointsAt_58 : decode cX4_pointsAt 58 = .ok (.iload_n 1, 1) := dk_27 (dk_at dksX4_pointsAt_2 11 rfl rfl)
theorem dX4_pointsAt_59 : decode cX4_pointsAt 59 = .ok (.aload_n 0, 1) := dk_42 (dk_at dksX4_pointsAt_2 12 rfl rfl)
theorem dX4_pointsAt_60 : decode cX4_pointsAt 60 = .ok (.getfield 13, 3) := dk_180 0 13 (dk_at dksX4_pointsAt_2 13 rfl rfl)
theorem dX4_pointsAt_63 : decode cX4_pointsAt 63 = .ok (.bipush 35, 2) := dk_16 35 (dk_at dksX4_pointsAt_2 16 rfl rfl)
theorem dX4_pointsAt_65 : decode cX4_pointsAt 65 = .ok (.iload_n 3, 1) := dk_29 (dk_at dksX4_pointsAt_2 18 rfl rfl)
theorem dX4_pointsAt_66 : decode cX4_pointsAt 66 = .ok (.iadd, 1) := dk_96 (dk_at dksX4_pointsAt_2 19 rfl rfl)
theorem dX4_pointsAt_67 : decode cX4_pointsAt 67 = .ok (.iaload, 1) := dk_46 (dk_at dksX4_pointsAt_2 20 rfl rfl)
theorem dX4_pointsAt_68 : decode cX4_pointsAt 68 = .ok (.invokevirtual 242, 3) := dk_182 0 242 (dk_at dksX4_pointsAt_2 21 rfl rfl)
theorem dX4_pointsAt_71 : decode cX4_pointsAt 71 = .ok (.if_icmp .le 6, 3) := dk_164 0 6 (dk_at dksX4_pointsAt_3 0 rfl rfl)
theorem dX4_pointsAt_74 : decode cX4_pointsAt 74 = .ok (.iload 5, 2) := dk_21 5 (dk_at dksX4_pointsAt_3 3 rfl rfl)
theorem dX4_pointsAt_76 : decode cX4_pointsAt 76 = .ok (.istore_n 3, 1) := dk_62 (dk_at dksX4_pointsAt_3 5 rfl rfl)
theorem dX4_pointsAt_77 : decode cX4_pointsAt 77 = .ok (.iinc 4 (-1), 3) := dk_132 4 255 (dk_at dksX4_pointsAt_3 6 rfl rfl)
theorem dX4_pointsAt_80 : decode cX4_pointsAt 80 = .ok (.goto (-67), 3) := dk_167 255 189 (dk_at dksX4_pointsAt_3 9 rfl rfl)
theorem dX4_pointsAt_83 : decode cX4_pointsAt 83 = .ok (.iload_n 3, 1) := dk_29 (dk_at dksX4_pointsAt_3 12 rfl rfl)
theorem dX4_pointsAt_84 : decode cX4_pointsAt 84 = .ok (.ireturn, 1) := dk_172 (dk_at dksX4_pointsAt_3 13 rfl rfl)
abbrev cX4_undo : ByteArray := prog_11_method_66_code
def yX4_undo : MethodName := ⟨RX4, "undo", "(I)I"⟩
def dkwX4_undo_3 : List UInt8 := [16, 66, 46, 104, 96, 28, 96, 46, 79, 132, 2, 1, 167, 255, 218, 42, 180, 0, 13, 16, 66, 46, 172]
abbrev dktX4_undo_3 : List UInt8 := dkwX4_undo_3 ++ []
def dkwX4_undo_2 : List UInt8 := [162, 0, 38, 42, 180, 0, 13, 16, 20, 28, 96, 42, 180, 0, 13, 16, 67, 16, 23, 42, 180, 0, 13]
abbrev dktX4_undo_2 : List UInt8 := dkwX4_undo_2 ++ dktX4_undo_3
def dkwX4_undo_1 : List UInt8 := [46, 164, 0, 6, 16, 253, 172, 42, 180, 0, 13, 16, 66, 92, 46, 27, 100, 79, 3, 61, 28, 16, 23]
abbrev dktX4_undo_1 : List UInt8 := dkwX4_undo_1 ++ dktX4_undo_2
def dkwX4_undo_0 : List UInt8 := [42, 3, 181, 0, 1, 27, 133, 10, 20, 1, 32, 184, 0, 141, 153, 0, 14, 27, 42, 180, 0, 13, 16, 66]
abbrev dktX4_undo_0 : List UInt8 := dkwX4_undo_0 ++ dktX4_undo_1
theorem dksX4_undo_0 : cX4_undo.data.toList.drop 0 = dktX4_undo_0 := by decide +kernel
theorem dksX4_undo_1 : cX4_undo.data.toList.drop 24 = dktX4_undo_1 := dk_seg dksX4_undo_0 24 rfl rfl
theorem dksX4_undo_2 : cX4_undo.data.toList.drop 47 = dktX4_undo_2 := dk_seg dksX4_undo_1 23 rfl rfl
theorem dksX4_undo_3 : cX4_undo.data.toList.drop 70 = dktX4_undo_3 := dk_seg dksX4_undo_2 23 rfl rfl
theorem dX4_undo_0 : decode cX4_undo 0 = .ok (.aload_n 0, 1) := dk_42 (dk_at dksX4_undo_0 0 rfl rfl)
theorem dX4_undo_1 : decode cX4_undo 1 = .ok (.iconst 0, 1) := dk_3 (dk_at dksX4_undo_0 1 rfl rfl)
theorem dX4_undo_2 : decode cX4_undo 2 = .ok (.putfield 1, 3) := dk_181 0 1 (dk_at dksX4_undo_0 2 rfl rfl)
theorem dX4_undo_5 : decode cX4_undo 5 = .ok (.iload_n 1, 1) := dk_27 (dk_at dksX4_undo_0 5 rfl rfl)
theorem dX4_undo_6 : decode cX4_undo 6 = .ok (.i2l, 1) := dk_133 (dk_at dksX4_undo_0 6 rfl rfl)
theorem dX4_undo_7 : decode cX4_undo 7 = .ok (.lconst 1, 1) := dk_10 (dk_at dksX4_undo_0 7 rfl rfl)
theorem dX4_undo_8 : decode cX4_undo 8 = .ok (.ldc2_w 288, 3) := dk_20 1 32 (dk_at dksX4_undo_0 8 rfl rfl)
theorem dX4_undo_11 : decode cX4_undo 11 = .ok (.invokestatic 141, 3) := dk_184 0 141 (dk_at dksX4_undo_0 11 rfl rfl)
theorem dX4_undo_14 : decode cX4_undo 14 = .ok (.ifCond .eq 14, 3) := dk_153 0 14 (dk_at dksX4_undo_0 14 rfl rfl)
theorem dX4_undo_17 : decode cX4_undo 17 = .ok (.iload_n 1, 1) := dk_27 (dk_at dksX4_undo_0 17 rfl rfl)
theorem dX4_undo_18 : decode cX4_undo 18 = .ok (.aload_n 0, 1) := dk_42 (dk_at dksX4_undo_0 18 rfl rfl)
theorem dX4_undo_19 : decode cX4_undo 19 = .ok (.getfield 13, 3) := dk_180 0 13 (dk_at dksX4_undo_0 19 rfl rfl)
theorem dX4_undo_22 : decode cX4_undo 22 = .ok (.bipush 66, 2) := dk_16 66 (dk_at dksX4_undo_0 22 rfl rfl)
theorem dX4_undo_24 : decode cX4_undo 24 = .ok (.iaload, 1) := dk_46 (dk_at dksX4_undo_1 0 rfl rfl)
theorem dX4_undo_25 : decode cX4_undo 25 = .ok (.if_icmp .le 6, 3) := dk_164 0 6 (dk_at dksX4_undo_1 1 rfl rfl)
theorem dX4_undo_28 : decode cX4_undo 28 = .ok (.bipush (-3), 2) := dk_16 253 (dk_at dksX4_undo_1 4 rfl rfl)
theorem dX4_undo_30 : decode cX4_undo 30 = .ok (.ireturn, 1) := dk_172 (dk_at dksX4_undo_1 6 rfl rfl)
theorem dX4_undo_31 : decode cX4_undo 31 = .ok (.aload_n 0, 1) := dk_42 (dk_at dksX4_undo_1 7 rfl rfl)
theorem dX4_undo_32 : decode cX4_undo 32 = .ok (.getfield 13, 3) := dk_180 0 13 (dk_at dksX4_undo_1 8 rfl rfl)
theorem dX4_undo_35 : decode cX4_undo 35 = .ok (.bipush 66, 2) := dk_16 66 (dk_at dksX4_undo_1 11 rfl rfl)
theorem dX4_undo_37 : decode cX4_undo 37 = .ok (.dup2, 1) := dk_92 (dk_at dksX4_undo_1 13 rfl rfl)
theorem dX4_undo_38 : decode cX4_undo 38 = .ok (.iaload, 1) := dk_46 (dk_at dksX4_undo_1 14 rfl rfl)
theorem dX4_undo_39 : decode cX4_undo 39 = .ok (.iload_n 1, 1) := dk_27 (dk_at dksX4_undo_1 15 rfl rfl)
theorem dX4_undo_40 : decode cX4_undo 40 = .ok (.isub, 1) := dk_100 (dk_at dksX4_undo_1 16 rfl rfl)
theorem dX4_undo_41 : decode cX4_undo 41 = .ok (.iastore, 1) := dk_79 (dk_at dksX4_undo_1 17 rfl rfl)
theorem dX4_undo_42 : decode cX4_undo 42 = .ok (.iconst 0, 1) := dk_3 (dk_at dksX4_undo_1 18 rfl rfl)
theorem dX4_undo_43 : decode cX4_undo 43 = .ok (.istore_n 2, 1) := dk_61 (dk_at dksX4_undo_1 19 rfl rfl)
theorem dX4_undo_44 : decode cX4_undo 44 = .ok (.iload_n 2, 1) := dk_28 (dk_at dksX4_undo_1 20 rfl rfl)
theorem dX4_undo_45 : decode cX4_undo 45 = .ok (.bipush 23, 2) := dk_16 23 (dk_at dksX4_undo_1 21 rfl rfl)
theorem dX4_undo_47 : decode cX4_undo 47 = .ok (.if_icmp .ge 38, 3) := dk_162 0 38 (dk_at dksX4_undo_2 0 rfl rfl)
theorem dX4_undo_50 : decode cX4_undo 50 = .ok (.aload_n 0, 1) := dk_42 (dk_at dksX4_undo_2 3 rfl rfl)
theorem dX4_undo_51 : decode cX4_undo 51 = .ok (.getfield 13, 3) := dk_180 0 13 (dk_at dksX4_undo_2 4 rfl rfl)
theorem dX4_undo_54 : decode cX4_undo 54 = .ok (.bipush 20, 2) := dk_16 20 (dk_at dksX4_undo_2 7 rfl rfl)
theorem dX4_undo_56 : decode cX4_undo 56 = .ok (.iload_n 2, 1) := dk_28 (dk_at dksX4_undo_2 9 rfl rfl)
theorem dX4_undo_57 : decode cX4_undo 57 = .ok (.iadd, 1) := dk_96 (dk_at dksX4_undo_2 10 rfl rfl)
theorem dX4_undo_58 : decode cX4_undo 58 = .ok (.aload_n 0, 1) := dk_42 (dk_at dksX4_undo_2 11 rfl rfl)
theorem dX4_undo_59 : decode cX4_undo 59 = .ok (.getfield 13, 3) := dk_180 0 13 (dk_at dksX4_undo_2 12 rfl rfl)
theorem dX4_undo_62 : decode cX4_undo 62 = .ok (.bipush 67, 2) := dk_16 67 (dk_at dksX4_undo_2 15 rfl rfl)
theorem dX4_undo_64 : decode cX4_undo 64 = .ok (.bipush 23, 2) := dk_16 23 (dk_at dksX4_undo_2 17 rfl rfl)
theorem dX4_undo_66 : decode cX4_undo 66 = .ok (.aload_n 0, 1) := dk_42 (dk_at dksX4_undo_2 19 rfl rfl)
theorem dX4_undo_67 : decode cX4_undo 67 = .ok (.getfield 13, 3) := dk_180 0 13 (dk_at dksX4_undo_2 20 rfl rfl)
theorem dX4_undo_70 : decode cX4_undo 70 = .ok (.bipush 66, 2) := dk_16 66 (dk_at dksX4_undo_3 0 rfl rfl)
theorem dX4_undo_72 : decode cX4_undo 72 = .ok (.iaload, 1) := dk_46 (dk_at dksX4_undo_3 2 rfl rfl)
theorem dX4_undo_73 : decode cX4_undo 73 = .ok (.imul, 1) := dk_104 (dk_at dksX4_undo_3 3 rfl rfl)
theorem dX4_undo_74 : decode cX4_undo 74 = .ok (.iadd, 1) := dk_96 (dk_at dksX4_undo_3 4 rfl rfl)
theorem dX4_undo_75 : decode cX4_undo 75 = .ok (.iload_n 2, 1) := dk_28 (dk_at dksX4_undo_3 5 rfl rfl)
theorem dX4_undo_76 : decode cX4_undo 76 = .ok (.iadd, 1) := dk_96 (dk_at dksX4_undo_3 6 rfl rfl)
theorem dX4_undo_77 : decode cX4_undo 77 = .ok (.iaload, 1) := dk_46 (dk_at dksX4_undo_3 7 rfl rfl)
theorem dX4_undo_78 : decode cX4_undo 78 = .ok (.iastore, 1) := dk_79 (dk_at dksX4_undo_3 8 rfl rfl)
theorem dX4_undo_79 : decode cX4_undo 79 = .ok (.iinc 2 1, 3) := dk_132 2 1 (dk_at dksX4_undo_3 9 rfl rfl)
theorem dX4_undo_82 : decode cX4_undo 82 = .ok (.goto (-38), 3) := dk_167 255 218 (dk_at dksX4_undo_3 12 rfl rfl)
theorem dX4_undo_85 : decode cX4_undo 85 = .ok (.aload_n 0, 1) := dk_42 (dk_at dksX4_undo_3 15 rfl rfl)
theorem dX4_undo_86 : decode cX4_undo 86 = .ok (.getfield 13, 3) := dk_180 0 13 (dk_at dksX4_undo_3 16 rfl rfl)
theorem dX4_undo_89 : decode cX4_undo 89 = .ok (.bipush 66, 2) := dk_16 66 (dk_at dksX4_undo_3 19 rfl rfl)
theorem dX4_undo_91 : decode cX4_undo 91 = .ok (.iaload, 1) := dk_46 (dk_at dksX4_undo_3 21 rfl rfl)
theorem dX4_undo_92 : decode cX4_undo 92 = .ok (.ireturn, 1) := dk_172 (dk_at dksX4_undo_3 22 rfl rfl)
abbrev cX4_judge : ByteArray := prog_11_method_71_code
def yX4_judge : MethodName := ⟨RX4, "judge", "(II)I"⟩
def dkwX4_judge_4 : List UInt8 := [42, 180, 1, 52, 167, 0, 15, 28, 5, 160, 0, 8, 21, 5, 167, 0, 5, 21, 6, 172]
abbrev dktX4_judge_4 : List UInt8 := dkwX4_judge_4 ++ []
def dkwX4_judge_3 : List UInt8 := [154, 0, 19, 42, 180, 1, 52, 154, 0, 7, 2, 167, 0, 32, 21, 4, 167, 0, 27, 28, 4, 160, 0, 10]
abbrev dktX4_judge_3 : List UInt8 := dkwX4_judge_3 ++ dktX4_judge_4
def dkwX4_judge_2 : List UInt8 := [180, 0, 13, 16, 41, 46, 54, 5, 42, 180, 0, 13, 16, 42, 46, 54, 6, 42, 182, 1, 69, 28]
abbrev dktX4_judge_2 : List UInt8 := dkwX4_judge_2 ++ dktX4_judge_3
def dkwX4_judge_1 : List UInt8 := [182, 1, 63, 62, 29, 153, 0, 5, 29, 172, 42, 182, 0, 250, 42, 27, 182, 1, 66, 54, 4, 42]
abbrev dktX4_judge_1 : List UInt8 := dkwX4_judge_1 ++ dktX4_judge_2
def dkwX4_judge_0 : List UInt8 := [42, 3, 181, 0, 1, 28, 133, 9, 20, 1, 61, 184, 0, 141, 154, 0, 6, 16, 254, 172, 42, 27]
abbrev dktX4_judge_0 : List UInt8 := dkwX4_judge_0 ++ dktX4_judge_1
theorem dksX4_judge_0 : cX4_judge.data.toList.drop 0 = dktX4_judge_0 := by decide +kernel
theorem dksX4_judge_1 : cX4_judge.data.toList.drop 22 = dktX4_judge_1 := dk_seg dksX4_judge_0 22 rfl rfl
theorem dksX4_judge_2 : cX4_judge.data.toList.drop 44 = dktX4_judge_2 := dk_seg dksX4_judge_1 22 rfl rfl
theorem dksX4_judge_3 : cX4_judge.data.toList.drop 66 = dktX4_judge_3 := dk_seg dksX4_judge_2 22 rfl rfl
theorem dksX4_judge_4 : cX4_judge.data.toList.drop 90 = dktX4_judge_4 := dk_seg dksX4_judge_3 24 rfl rfl
theorem dX4_judge_0 : decode cX4_judge 0 = .ok (.aload_n 0, 1) := dk_42 (dk_at dksX4_judge_0 0 rfl rfl)
theorem dX4_judge_1 : decode cX4_judge 1 = .ok (.iconst 0, 1) := dk_3 (dk_at dksX4_judge_0 1 rfl rfl)
theorem dX4_judge_2 : decode cX4_judge 2 = .ok (.putfield 1, 3) := dk_181 0 1 (dk_at dksX4_judge_0 2 rfl rfl)
theorem dX4_judge_5 : decode cX4_judge 5 = .ok (.iload_n 2, 1) := dk_28 (dk_at dksX4_judge_0 5 rfl rfl)
theorem dX4_judge_6 : decode cX4_judge 6 = .ok (.i2l, 1) := dk_133 (dk_at dksX4_judge_0 6 rfl rfl)
theorem dX4_judge_7 : decode cX4_judge 7 = .ok (.lconst 0, 1) := dk_9 (dk_at dksX4_judge_0 7 rfl rfl)
theorem dX4_judge_8 : decode cX4_judge 8 = .ok (.ldc2_w 317, 3) := dk_20 1 61 (dk_at dksX4_judge_0 8 rfl rfl)
theorem dX4_judge_11 : decode cX4_judge 11 = .ok (.invokestatic 141, 3) := dk_184 0 141 (dk_at dksX4_judge_0 11 rfl rfl)
theorem dX4_judge_14 : decode cX4_judge 14 = .ok (.ifCond .ne 6, 3) := dk_154 0 6 (dk_at dksX4_judge_0 14 rfl rfl)
theorem dX4_judge_17 : decode cX4_judge 17 = .ok (.bipush (-2), 2) := dk_16 254 (dk_at dksX4_judge_0 17 rfl rfl)
theorem dX4_judge_19 : decode cX4_judge 19 = .ok (.ireturn, 1) := dk_172 (dk_at dksX4_judge_0 19 rfl rfl)
theorem dX4_judge_20 : decode cX4_judge 20 = .ok (.aload_n 0, 1) := dk_42 (dk_at dksX4_judge_0 20 rfl rfl)
theorem dX4_judge_21 : decode cX4_judge 21 = .ok (.iload_n 1, 1) := dk_27 (dk_at dksX4_judge_0 21 rfl rfl)
theorem dX4_judge_22 : decode cX4_judge 22 = .ok (.invokevirtual 319, 3) := dk_182 1 63 (dk_at dksX4_judge_1 0 rfl rfl)
theorem dX4_judge_25 : decode cX4_judge 25 = .ok (.istore_n 3, 1) := dk_62 (dk_at dksX4_judge_1 3 rfl rfl)
theorem dX4_judge_26 : decode cX4_judge 26 = .ok (.iload_n 3, 1) := dk_29 (dk_at dksX4_judge_1 4 rfl rfl)
theorem dX4_judge_27 : decode cX4_judge 27 = .ok (.ifCond .eq 5, 3) := dk_153 0 5 (dk_at dksX4_judge_1 5 rfl rfl)
theorem dX4_judge_30 : decode cX4_judge 30 = .ok (.iload_n 3, 1) := dk_29 (dk_at dksX4_judge_1 8 rfl rfl)
theorem dX4_judge_31 : decode cX4_judge 31 = .ok (.ireturn, 1) := dk_172 (dk_at dksX4_judge_1 9 rfl rfl)
theorem dX4_judge_32 : decode cX4_judge 32 = .ok (.aload_n 0, 1) := dk_42 (dk_at dksX4_judge_1 10 rfl rfl)
theorem dX4_judge_33 : decode cX4_judge 33 = .ok (.invokevirtual 250, 3) := dk_182 0 250 (dk_at dksX4_judge_1 11 rfl rfl)
theorem dX4_judge_36 : decode cX4_judge 36 = .ok (.aload_n 0, 1) := dk_42 (dk_at dksX4_judge_1 14 rfl rfl)
theorem dX4_judge_37 : decode cX4_judge 37 = .ok (.iload_n 1, 1) := dk_27 (dk_at dksX4_judge_1 15 rfl rfl)
theorem dX4_judge_38 : decode cX4_judge 38 = .ok (.invokevirtual 322, 3) := dk_182 1 66 (dk_at dksX4_judge_1 16 rfl rfl)
theorem dX4_judge_41 : decode cX4_judge 41 = .ok (.istore 4, 2) := dk_54 4 (dk_at dksX4_judge_1 19 rfl rfl)
theorem dX4_judge_43 : decode cX4_judge 43 = .ok (.aload_n 0, 1) := dk_42 (dk_at dksX4_judge_1 21 rfl rfl)
theorem dX4_judge_44 : decode cX4_judge 44 = .ok (.getfield 13, 3) := dk_180 0 13 (dk_at dksX4_judge_2 0 rfl rfl)
theorem dX4_judge_47 : decode cX4_judge 47 = .ok (.bipush 41, 2) := dk_16 41 (dk_at dksX4_judge_2 3 rfl rfl)
theorem dX4_judge_49 : decode cX4_judge 49 = .ok (.iaload, 1) := dk_46 (dk_at dksX4_judge_2 5 rfl rfl)
theorem dX4_judge_50 : decode cX4_judge 50 = .ok (.istore 5, 2) := dk_54 5 (dk_at dksX4_judge_2 6 rfl rfl)
theorem dX4_judge_52 : decode cX4_judge 52 = .ok (.aload_n 0, 1) := dk_42 (dk_at dksX4_judge_2 8 rfl rfl)
theorem dX4_judge_53 : decode cX4_judge 53 = .ok (.getfield 13, 3) := dk_180 0 13 (dk_at dksX4_judge_2 9 rfl rfl)
theorem dX4_judge_56 : decode cX4_judge 56 = .ok (.bipush 42, 2) := dk_16 42 (dk_at dksX4_judge_2 12 rfl rfl)
theorem dX4_judge_58 : decode cX4_judge 58 = .ok (.iaload, 1) := dk_46 (dk_at dksX4_judge_2 14 rfl rfl)
theorem dX4_judge_59 : decode cX4_judge 59 = .ok (.istore 6, 2) := dk_54 6 (dk_at dksX4_judge_2 15 rfl rfl)
theorem dX4_judge_61 : decode cX4_judge 61 = .ok (.aload_n 0, 1) := dk_42 (dk_at dksX4_judge_2 17 rfl rfl)
theorem dX4_judge_62 : decode cX4_judge 62 = .ok (.invokevirtual 325, 3) := dk_182 1 69 (dk_at dksX4_judge_2 18 rfl rfl)
theorem dX4_judge_65 : decode cX4_judge 65 = .ok (.iload_n 2, 1) := dk_28 (dk_at dksX4_judge_2 21 rfl rfl)
theorem dX4_judge_66 : decode cX4_judge 66 = .ok (.ifCond .ne 19, 3) := dk_154 0 19 (dk_at dksX4_judge_3 0 rfl rfl)
theorem dX4_judge_69 : decode cX4_judge 69 = .ok (.aload_n 0, 1) := dk_42 (dk_at dksX4_judge_3 3 rfl rfl)
theorem dX4_judge_70 : decode cX4_judge 70 = .ok (.getfield 308, 3) := dk_180 1 52 (dk_at dksX4_judge_3 4 rfl rfl)
theorem dX4_judge_73 : decode cX4_judge 73 = .ok (.ifCond .ne 7, 3) := dk_154 0 7 (dk_at dksX4_judge_3 7 rfl rfl)
theorem dX4_judge_76 : decode cX4_judge 76 = .ok (.iconst (-1), 1) := dk_2 (dk_at dksX4_judge_3 10 rfl rfl)
theorem dX4_judge_77 : decode cX4_judge 77 = .ok (.goto 32, 3) := dk_167 0 32 (dk_at dksX4_judge_3 11 rfl rfl)
theorem dX4_judge_80 : decode cX4_judge 80 = .ok (.iload 4, 2) := dk_21 4 (dk_at dksX4_judge_3 14 rfl rfl)
theorem dX4_judge_82 : decode cX4_judge 82 = .ok (.goto 27, 3) := dk_167 0 27 (dk_at dksX4_judge_3 16 rfl rfl)
theorem dX4_judge_85 : decode cX4_judge 85 = .ok (.iload_n 2, 1) := dk_28 (dk_at dksX4_judge_3 19 rfl rfl)
theorem dX4_judge_86 : decode cX4_judge 86 = .ok (.iconst 1, 1) := dk_4 (dk_at dksX4_judge_3 20 rfl rfl)
theorem dX4_judge_87 : decode cX4_judge 87 = .ok (.if_icmp .ne 10, 3) := dk_160 0 10 (dk_at dksX4_judge_3 21 rfl rfl)
theorem dX4_judge_90 : decode cX4_judge 90 = .ok (.aload_n 0, 1) := dk_42 (dk_at dksX4_judge_4 0 rfl rfl)
theorem dX4_judge_91 : decode cX4_judge 91 = .ok (.getfield 308, 3) := dk_180 1 52 (dk_at dksX4_judge_4 1 rfl rfl)
theorem dX4_judge_94 : decode cX4_judge 94 = .ok (.goto 15, 3) := dk_167 0 15 (dk_at dksX4_judge_4 4 rfl rfl)
theorem dX4_judge_97 : decode cX4_judge 97 = .ok (.iload_n 2, 1) := dk_28 (dk_at dksX4_judge_4 7 rfl rfl)
theorem dX4_judge_98 : decode cX4_judge 98 = .ok (.iconst 2, 1) := dk_5 (dk_at dksX4_judge_4 8 rfl rfl)
theorem dX4_judge_99 : decode cX4_judge 99 = .ok (.if_icmp .ne 8, 3) := dk_160 0 8 (dk_at dksX4_judge_4 9 rfl rfl)
theorem dX4_judge_102 : decode cX4_judge 102 = .ok (.iload 5, 2) := dk_21 5 (dk_at dksX4_judge_4 12 rfl rfl)
theorem dX4_judge_104 : decode cX4_judge 104 = .ok (.goto 5, 3) := dk_167 0 5 (dk_at dksX4_judge_4 14 rfl rfl)
theorem dX4_judge_107 : decode cX4_judge 107 = .ok (.iload 6, 2) := dk_21 6 (dk_at dksX4_judge_4 17 rfl rfl)
theorem dX4_judge_109 : decode cX4_judge 109 = .ok (.ireturn, 1) := dk_172 (dk_at dksX4_judge_4 19 rfl rfl)
abbrev cX4_noTray : ByteArray := prog_11_method_70_code
def yX4_noTray : MethodName := ⟨RX4, "noTray", "(I)I"⟩
def dkwX4_noTray_1 : List UInt8 := [160, 0, 8, 16, 250, 167, 0, 4, 3, 172]
abbrev dktX4_noTray_1 : List UInt8 := dkwX4_noTray_1 ++ []
def dkwX4_noTray_0 : List UInt8 := [27, 133, 9, 20, 1, 61, 184, 0, 141, 154, 0, 8, 16, 254, 167, 0, 19, 42, 180, 0, 66, 27, 46, 2]
abbrev dktX4_noTray_0 : List UInt8 := dkwX4_noTray_0 ++ dktX4_noTray_1
theorem dksX4_noTray_0 : cX4_noTray.data.toList.drop 0 = dktX4_noTray_0 := by decide +kernel
theorem dksX4_noTray_1 : cX4_noTray.data.toList.drop 24 = dktX4_noTray_1 := dk_seg dksX4_noTray_0 24 rfl rfl
theorem dX4_noTray_0 : decode cX4_noTray 0 = .ok (.iload_n 1, 1) := dk_27 (dk_at dksX4_noTray_0 0 rfl rfl)
theorem dX4_noTray_1 : decode cX4_noTray 1 = .ok (.i2l, 1) := dk_133 (dk_at dksX4_noTray_0 1 rfl rfl)
theorem dX4_noTray_2 : decode cX4_noTray 2 = .ok (.lconst 0, 1) := dk_9 (dk_at dksX4_noTray_0 2 rfl rfl)
theorem dX4_noTray_3 : decode cX4_noTray 3 = .ok (.ldc2_w 317, 3) := dk_20 1 61 (dk_at dksX4_noTray_0 3 rfl rfl)
theorem dX4_noTray_6 : decode cX4_noTray 6 = .ok (.invokestatic 141, 3) := dk_184 0 141 (dk_at dksX4_noTray_0 6 rfl rfl)
theorem dX4_noTray_9 : decode cX4_noTray 9 = .ok (.ifCond .ne 8, 3) := dk_154 0 8 (dk_at dksX4_noTray_0 9 rfl rfl)
theorem dX4_noTray_12 : decode cX4_noTray 12 = .ok (.bipush (-2), 2) := dk_16 254 (dk_at dksX4_noTray_0 12 rfl rfl)
theorem dX4_noTray_14 : decode cX4_noTray 14 = .ok (.goto 19, 3) := dk_167 0 19 (dk_at dksX4_noTray_0 14 rfl rfl)
theorem dX4_noTray_17 : decode cX4_noTray 17 = .ok (.aload_n 0, 1) := dk_42 (dk_at dksX4_noTray_0 17 rfl rfl)
theorem dX4_noTray_18 : decode cX4_noTray 18 = .ok (.getfield 66, 3) := dk_180 0 66 (dk_at dksX4_noTray_0 18 rfl rfl)
theorem dX4_noTray_21 : decode cX4_noTray 21 = .ok (.iload_n 1, 1) := dk_27 (dk_at dksX4_noTray_0 21 rfl rfl)
theorem dX4_noTray_22 : decode cX4_noTray 22 = .ok (.iaload, 1) := dk_46 (dk_at dksX4_noTray_0 22 rfl rfl)
theorem dX4_noTray_23 : decode cX4_noTray 23 = .ok (.iconst (-1), 1) := dk_2 (dk_at dksX4_noTray_0 23 rfl rfl)
theorem dX4_noTray_24 : decode cX4_noTray 24 = .ok (.if_icmp .ne 8, 3) := dk_160 0 8 (dk_at dksX4_noTray_1 0 rfl rfl)
theorem dX4_noTray_27 : decode cX4_noTray 27 = .ok (.bipush (-6), 2) := dk_16 250 (dk_at dksX4_noTray_1 3 rfl rfl)
theorem dX4_noTray_29 : decode cX4_noTray 29 = .ok (.goto 4, 3) := dk_167 0 4 (dk_at dksX4_noTray_1 5 rfl rfl)
theorem dX4_noTray_32 : decode cX4_noTray 32 = .ok (.iconst 0, 1) := dk_3 (dk_at dksX4_noTray_1 8 rfl rfl)
theorem dX4_noTray_33 : decode cX4_noTray 33 = .ok (.ireturn, 1) := dk_172 (dk_at dksX4_noTray_1 9 rfl rfl)
abbrev cX4_tells : ByteArray := prog_11_method_69_code
def yX4_tells : MethodName := ⟨RX4, "tells", "(I)I"⟩
def dkwX4_tells_3 : List UInt8 := [27, 46, 172]
abbrev dktX4_tells_3 : List UInt8 := dkwX4_tells_3 ++ []
def dkwX4_tells_2 : List UInt8 := [180, 0, 72, 16, 40, 27, 104, 28, 96, 47, 136, 182, 1, 58, 132, 2, 1, 167, 255, 199, 42, 180, 0, 69]
abbrev dktX4_tells_2 : List UInt8 := dkwX4_tells_2 ++ dktX4_tells_3
def dkwX4_tells_1 : List UInt8 := [16, 40, 27, 104, 28, 96, 47, 182, 1, 55, 181, 1, 52, 42, 180, 1, 52, 153, 0, 5, 28, 172, 42, 42]
abbrev dktX4_tells_1 : List UInt8 := dkwX4_tells_1 ++ dktX4_tells_2
def dkwX4_tells_0 : List UInt8 := [42, 3, 181, 1, 52, 3, 61, 28, 42, 180, 0, 69, 27, 46, 162, 0, 53, 42, 42, 42, 180, 0, 72]
abbrev dktX4_tells_0 : List UInt8 := dkwX4_tells_0 ++ dktX4_tells_1
theorem dksX4_tells_0 : cX4_tells.data.toList.drop 0 = dktX4_tells_0 := by decide +kernel
theorem dksX4_tells_1 : cX4_tells.data.toList.drop 23 = dktX4_tells_1 := dk_seg dksX4_tells_0 23 rfl rfl
theorem dksX4_tells_2 : cX4_tells.data.toList.drop 47 = dktX4_tells_2 := dk_seg dksX4_tells_1 24 rfl rfl
theorem dksX4_tells_3 : cX4_tells.data.toList.drop 71 = dktX4_tells_3 := dk_seg dksX4_tells_2 24 rfl rfl
theorem dX4_tells_0 : decode cX4_tells 0 = .ok (.aload_n 0, 1) := dk_42 (dk_at dksX4_tells_0 0 rfl rfl)
theorem dX4_tells_1 : decode cX4_tells 1 = .ok (.iconst 0, 1) := dk_3 (dk_at dksX4_tells_0 1 rfl rfl)
theorem dX4_tells_2 : decode cX4_tells 2 = .ok (.putfield 308, 3) := dk_181 1 52 (dk_at dksX4_tells_0 2 rfl rfl)
theorem dX4_tells_5 : decode cX4_tells 5 = .ok (.iconst 0, 1) := dk_3 (dk_at dksX4_tells_0 5 rfl rfl)
theorem dX4_tells_6 : decode cX4_tells 6 = .ok (.istore_n 2, 1) := dk_61 (dk_at dksX4_tells_0 6 rfl rfl)
theorem dX4_tells_7 : decode cX4_tells 7 = .ok (.iload_n 2, 1) := dk_28 (dk_at dksX4_tells_0 7 rfl rfl)
theorem dX4_tells_8 : decode cX4_tells 8 = .ok (.aload_n 0, 1) := dk_42 (dk_at dksX4_tells_0 8 rfl rfl)
theorem dX4_tells_9 : decode cX4_tells 9 = .ok (.getfield 69, 3) := dk_180 0 69 (dk_at dksX4_tells_0 9 rfl rfl)
theorem dX4_tells_12 : decode cX4_tells 12 = .ok (.iload_n 1, 1) := dk_27 (dk_at dksX4_tells_0 12 rfl rfl)
theorem dX4_tells_13 : decode cX4_tells 13 = .ok (.iaload, 1) := dk_46 (dk_at dksX4_tells_0 13 rfl rfl)
theorem dX4_tells_14 : decode cX4_tells 14 = .ok (.if_icmp .ge 53, 3) := dk_162 0 53 (dk_at dksX4_tells_0 14 rfl rfl)
theorem dX4_tells_17 : decode cX4_tells 17 = .ok (.aload_n 0, 1) := dk_42 (dk_at dksX4_tells_0 17 rfl rfl)
theorem dX4_tells_18 : decode cX4_tells 18 = .ok (.aload_n 0, 1) := dk_42 (dk_at dksX4_tells_0 18 rfl rfl)
theorem dX4_tells_19 : decode cX4_tells 19 = .ok (.aload_n 0, 1) := dk_42 (dk_at dksX4_tells_0 19 rfl rfl)
theorem dX4_tells_20 : decode cX4_tells 20 = .ok (.getfield 72, 3) := dk_180 0 72 (dk_at dksX4_tells_0 20 rfl rfl)
theorem dX4_tells_23 : decode cX4_tells 23 = .ok (.bipush 40, 2) := dk_16 40 (dk_at dksX4_tells_1 0 rfl rfl)
theorem dX4_tells_25 : decode cX4_tells 25 = .ok (.iload_n 1, 1) := dk_27 (dk_at dksX4_tells_1 2 rfl rfl)
theorem dX4_tells_26 : decode cX4_tells 26 = .ok (.imul, 1) := dk_104 (dk_at dksX4_tells_1 3 rfl rfl)
theorem dX4_tells_27 : decode cX4_tells 27 = .ok (.iload_n 2, 1) := dk_28 (dk_at dksX4_tells_1 4 rfl rfl)
theorem dX4_tells_28 : decode cX4_tells 28 = .ok (.iadd, 1) := dk_96 (dk_at dksX4_tells_1 5 rfl rfl)
theorem dX4_tells_29 : decode cX4_tells 29 = .ok (.laload, 1) := dk_47 (dk_at dksX4_tells_1 6 rfl rfl)
theorem dX4_tells_30 : decode cX4_tells 30 = .ok (.invokevirtual 311, 3) := dk_182 1 55 (dk_at dksX4_tells_1 7 rfl rfl)
theorem dX4_tells_33 : decode cX4_tells 33 = .ok (.putfield 308, 3) := dk_181 1 52 (dk_at dksX4_tells_1 10 rfl rfl)
theorem dX4_tells_36 : decode cX4_tells 36 = .ok (.aload_n 0, 1) := dk_42 (dk_at dksX4_tells_1 13 rfl rfl)
theorem dX4_tells_37 : decode cX4_tells 37 = .ok (.getfield 308, 3) := dk_180 1 52 (dk_at dksX4_tells_1 14 rfl rfl)
theorem dX4_tells_40 : decode cX4_tells 40 = .ok (.ifCond .eq 5, 3) := dk_153 0 5 (dk_at dksX4_tells_1 17 rfl rfl)
theorem dX4_tells_43 : decode cX4_tells 43 = .ok (.iload_n 2, 1) := dk_28 (dk_at dksX4_tells_1 20 rfl rfl)
theorem dX4_tells_44 : decode cX4_tells 44 = .ok (.ireturn, 1) := dk_172 (dk_at dksX4_tells_1 21 rfl rfl)
theorem dX4_tells_45 : decode cX4_tells 45 = .ok (.aload_n 0, 1) := dk_42 (dk_at dksX4_tells_1 22 rfl rfl)
theorem dX4_tells_46 : decode cX4_tells 46 = .ok (.aload_n 0, 1) := dk_42 (dk_at dksX4_tells_1 23 rfl rfl)
theorem dX4_tells_47 : decode cX4_tells 47 = .ok (.getfield 72, 3) := dk_180 0 72 (dk_at dksX4_tells_2 0 rfl rfl)
theorem dX4_tells_50 : decode cX4_tells 50 = .ok (.bipush 40, 2) := dk_16 40 (dk_at dksX4_tells_2 3 rfl rfl)
theorem dX4_tells_52 : decode cX4_tells 52 = .ok (.iload_n 1, 1) := dk_27 (dk_at dksX4_tells_2 5 rfl rfl)
theorem dX4_tells_53 : decode cX4_tells 53 = .ok (.imul, 1) := dk_104 (dk_at dksX4_tells_2 6 rfl rfl)
theorem dX4_tells_54 : decode cX4_tells 54 = .ok (.iload_n 2, 1) := dk_28 (dk_at dksX4_tells_2 7 rfl rfl)
theorem dX4_tells_55 : decode cX4_tells 55 = .ok (.iadd, 1) := dk_96 (dk_at dksX4_tells_2 8 rfl rfl)
theorem dX4_tells_56 : decode cX4_tells 56 = .ok (.laload, 1) := dk_47 (dk_at dksX4_tells_2 9 rfl rfl)
theorem dX4_tells_57 : decode cX4_tells 57 = .ok (.l2i, 1) := dk_136 (dk_at dksX4_tells_2 10 rfl rfl)
theorem dX4_tells_58 : decode cX4_tells 58 = .ok (.invokevirtual 314, 3) := dk_182 1 58 (dk_at dksX4_tells_2 11 rfl rfl)
theorem dX4_tells_61 : decode cX4_tells 61 = .ok (.iinc 2 1, 3) := dk_132 2 1 (dk_at dksX4_tells_2 14 rfl rfl)
theorem dX4_tells_64 : decode cX4_tells 64 = .ok (.goto (-57), 3) := dk_167 255 199 (dk_at dksX4_tells_2 17 rfl rfl)
theorem dX4_tells_67 : decode cX4_tells 67 = .ok (.aload_n 0, 1) := dk_42 (dk_at dksX4_tells_2 20 rfl rfl)
theorem dX4_tells_68 : decode cX4_tells 68 = .ok (.getfield 69, 3) := dk_180 0 69 (dk_at dksX4_tells_2 21 rfl rfl)
theorem dX4_tells_71 : decode cX4_tells 71 = .ok (.iload_n 1, 1) := dk_27 (dk_at dksX4_tells_3 0 rfl rfl)
theorem dX4_tells_72 : decode cX4_tells 72 = .ok (.iaload, 1) := dk_46 (dk_at dksX4_tells_3 1 rfl rfl)
theorem dX4_tells_73 : decode cX4_tells 73 = .ok (.ireturn, 1) := dk_172 (dk_at dksX4_tells_3 2 rfl rfl)
abbrev cX4_whyNot : ByteArray := prog_11_method_67_code
def yX4_whyNot : MethodName := ⟨RX4, "whyNot", "(J)I"⟩
def dkwX4_whyNot_5 : List UInt8 := [182, 0, 229, 153, 0, 7, 3, 167, 0, 4, 4, 172]
abbrev dktX4_whyNot_5 : List UInt8 := dkwX4_whyNot_5 ++ []
def dkwX4_whyNot_4 : List UInt8 := [20, 1, 48, 20, 1, 50, 184, 0, 141, 153, 0, 23, 42, 31, 20, 1, 48, 101, 20, 1, 44, 109]
abbrev dktX4_whyNot_4 : List UInt8 := dkwX4_whyNot_4 ++ dktX4_whyNot_5
def dkwX4_whyNot_3 : List UInt8 := [31, 20, 1, 44, 20, 1, 46, 184, 0, 141, 153, 0, 13, 42, 31, 20, 1, 44, 101, 182, 1, 10, 172, 31]
abbrev dktX4_whyNot_3 : List UInt8 := dkwX4_whyNot_3 ++ dktX4_whyNot_4
def dkwX4_whyNot_2 : List UInt8 := [20, 1, 40, 184, 0, 141, 153, 0, 18, 42, 31, 20, 1, 42, 109, 31, 20, 1, 42, 113, 182, 1, 6, 172]
abbrev dktX4_whyNot_2 : List UInt8 := dkwX4_whyNot_2 ++ dktX4_whyNot_3
def dkwX4_whyNot_1 : List UInt8 := [154, 0, 21, 42, 180, 0, 13, 16, 20, 46, 16, 8, 160, 0, 7, 5, 167, 0, 4, 3, 172, 31, 9]
abbrev dktX4_whyNot_1 : List UInt8 := dkwX4_whyNot_1 ++ dktX4_whyNot_2
def dkwX4_whyNot_0 : List UInt8 := [31, 20, 1, 34, 148, 153, 0, 11, 31, 20, 1, 36, 148, 154, 0, 5, 3, 172, 31, 20, 1, 38, 148]
abbrev dktX4_whyNot_0 : List UInt8 := dkwX4_whyNot_0 ++ dktX4_whyNot_1
theorem dksX4_whyNot_0 : cX4_whyNot.data.toList.drop 0 = dktX4_whyNot_0 := by decide +kernel
theorem dksX4_whyNot_1 : cX4_whyNot.data.toList.drop 23 = dktX4_whyNot_1 := dk_seg dksX4_whyNot_0 23 rfl rfl
theorem dksX4_whyNot_2 : cX4_whyNot.data.toList.drop 46 = dktX4_whyNot_2 := dk_seg dksX4_whyNot_1 23 rfl rfl
theorem dksX4_whyNot_3 : cX4_whyNot.data.toList.drop 70 = dktX4_whyNot_3 := dk_seg dksX4_whyNot_2 24 rfl rfl
theorem dksX4_whyNot_4 : cX4_whyNot.data.toList.drop 94 = dktX4_whyNot_4 := dk_seg dksX4_whyNot_3 24 rfl rfl
theorem dksX4_whyNot_5 : cX4_whyNot.data.toList.drop 116 = dktX4_whyNot_5 := dk_seg dksX4_whyNot_4 22 rfl rfl
theorem dX4_whyNot_0 : decode cX4_whyNot 0 = .ok (.lload_n 1, 1) := dk_31 (dk_at dksX4_whyNot_0 0 rfl rfl)
theorem dX4_whyNot_1 : decode cX4_whyNot 1 = .ok (.ldc2_w 290, 3) := dk_20 1 34 (dk_at dksX4_whyNot_0 1 rfl rfl)
theorem dX4_whyNot_4 : decode cX4_whyNot 4 = .ok (.lcmp, 1) := dk_148 (dk_at dksX4_whyNot_0 4 rfl rfl)
theorem dX4_whyNot_5 : decode cX4_whyNot 5 = .ok (.ifCond .eq 11, 3) := dk_153 0 11 (dk_at dksX4_whyNot_0 5 rfl rfl)
theorem dX4_whyNot_8 : decode cX4_whyNot 8 = .ok (.lload_n 1, 1) := dk_31 (dk_at dksX4_whyNot_0 8 rfl rfl)
theorem dX4_whyNot_9 : decode cX4_whyNot 9 = .ok (.ldc2_w 292, 3) := dk_20 1 36 (dk_at dksX4_whyNot_0 9 rfl rfl)
theorem dX4_whyNot_12 : decode cX4_whyNot 12 = .ok (.lcmp, 1) := dk_148 (dk_at dksX4_whyNot_0 12 rfl rfl)
theorem dX4_whyNot_13 : decode cX4_whyNot 13 = .ok (.ifCond .ne 5, 3) := dk_154 0 5 (dk_at dksX4_whyNot_0 13 rfl rfl)
theorem dX4_whyNot_16 : decode cX4_whyNot 16 = .ok (.iconst 0, 1) := dk_3 (dk_at dksX4_whyNot_0 16 rfl rfl)
theorem dX4_whyNot_17 : decode cX4_whyNot 17 = .ok (.ireturn, 1) := dk_172 (dk_at dksX4_whyNot_0 17 rfl rfl)
theorem dX4_whyNot_18 : decode cX4_whyNot 18 = .ok (.lload_n 1, 1) := dk_31 (dk_at dksX4_whyNot_0 18 rfl rfl)
theorem dX4_whyNot_19 : decode cX4_whyNot 19 = .ok (.ldc2_w 294, 3) := dk_20 1 38 (dk_at dksX4_whyNot_0 19 rfl rfl)
theorem dX4_whyNot_22 : decode cX4_whyNot 22 = .ok (.lcmp, 1) := dk_148 (dk_at dksX4_whyNot_0 22 rfl rfl)
theorem dX4_whyNot_23 : decode cX4_whyNot 23 = .ok (.ifCond .ne 21, 3) := dk_154 0 21 (dk_at dksX4_whyNot_1 0 rfl rfl)
theorem dX4_whyNot_26 : decode cX4_whyNot 26 = .ok (.aload_n 0, 1) := dk_42 (dk_at dksX4_whyNot_1 3 rfl rfl)
theorem dX4_whyNot_27 : decode cX4_whyNot 27 = .ok (.getfield 13, 3) := dk_180 0 13 (dk_at dksX4_whyNot_1 4 rfl rfl)
theorem dX4_whyNot_30 : decode cX4_whyNot 30 = .ok (.bipush 20, 2) := dk_16 20 (dk_at dksX4_whyNot_1 7 rfl rfl)
theorem dX4_whyNot_32 : decode cX4_whyNot 32 = .ok (.iaload, 1) := dk_46 (dk_at dksX4_whyNot_1 9 rfl rfl)
theorem dX4_whyNot_33 : decode cX4_whyNot 33 = .ok (.bipush 8, 2) := dk_16 8 (dk_at dksX4_whyNot_1 10 rfl rfl)
theorem dX4_whyNot_35 : decode cX4_whyNot 35 = .ok (.if_icmp .ne 7, 3) := dk_160 0 7 (dk_at dksX4_whyNot_1 12 rfl rfl)
theorem dX4_whyNot_38 : decode cX4_whyNot 38 = .ok (.iconst 2, 1) := dk_5 (dk_at dksX4_whyNot_1 15 rfl rfl)
theorem dX4_whyNot_39 : decode cX4_whyNot 39 = .ok (.goto 4, 3) := dk_167 0 4 (dk_at dksX4_whyNot_1 16 rfl rfl)
theorem dX4_whyNot_42 : decode cX4_whyNot 42 = .ok (.iconst 0, 1) := dk_3 (dk_at dksX4_whyNot_1 19 rfl rfl)
theorem dX4_whyNot_43 : decode cX4_whyNot 43 = .ok (.ireturn, 1) := dk_172 (dk_at dksX4_whyNot_1 20 rfl rfl)
theorem dX4_whyNot_44 : decode cX4_whyNot 44 = .ok (.lload_n 1, 1) := dk_31 (dk_at dksX4_whyNot_1 21 rfl rfl)
theorem dX4_whyNot_45 : decode cX4_whyNot 45 = .ok (.lconst 0, 1) := dk_9 (dk_at dksX4_whyNot_1 22 rfl rfl)
theorem dX4_whyNot_46 : decode cX4_whyNot 46 = .ok (.ldc2_w 296, 3) := dk_20 1 40 (dk_at dksX4_whyNot_2 0 rfl rfl)
theorem dX4_whyNot_49 : decode cX4_whyNot 49 = .ok (.invokestatic 141, 3) := dk_184 0 141 (dk_at dksX4_whyNot_2 3 rfl rfl)
theorem dX4_whyNot_52 : decode cX4_whyNot 52 = .ok (.ifCond .eq 18, 3) := dk_153 0 18 (dk_at dksX4_whyNot_2 6 rfl rfl)
theorem dX4_whyNot_55 : decode cX4_whyNot 55 = .ok (.aload_n 0, 1) := dk_42 (dk_at dksX4_whyNot_2 9 rfl rfl)
theorem dX4_whyNot_56 : decode cX4_whyNot 56 = .ok (.lload_n 1, 1) := dk_31 (dk_at dksX4_whyNot_2 10 rfl rfl)
theorem dX4_whyNot_57 : decode cX4_whyNot 57 = .ok (.ldc2_w 298, 3) := dk_20 1 42 (dk_at dksX4_whyNot_2 11 rfl rfl)
theorem dX4_whyNot_60 : decode cX4_whyNot 60 = .ok (.ldiv, 1) := dk_109 (dk_at dksX4_whyNot_2 14 rfl rfl)
theorem dX4_whyNot_61 : decode cX4_whyNot 61 = .ok (.lload_n 1, 1) := dk_31 (dk_at dksX4_whyNot_2 15 rfl rfl)
theorem dX4_whyNot_62 : decode cX4_whyNot 62 = .ok (.ldc2_w 298, 3) := dk_20 1 42 (dk_at dksX4_whyNot_2 16 rfl rfl)
theorem dX4_whyNot_65 : decode cX4_whyNot 65 = .ok (.lrem, 1) := dk_113 (dk_at dksX4_whyNot_2 19 rfl rfl)
theorem dX4_whyNot_66 : decode cX4_whyNot 66 = .ok (.invokevirtual 262, 3) := dk_182 1 6 (dk_at dksX4_whyNot_2 20 rfl rfl)
theorem dX4_whyNot_69 : decode cX4_whyNot 69 = .ok (.ireturn, 1) := dk_172 (dk_at dksX4_whyNot_2 23 rfl rfl)
theorem dX4_whyNot_70 : decode cX4_whyNot 70 = .ok (.lload_n 1, 1) := dk_31 (dk_at dksX4_whyNot_3 0 rfl rfl)
theorem dX4_whyNot_71 : decode cX4_whyNot 71 = .ok (.ldc2_w 300, 3) := dk_20 1 44 (dk_at dksX4_whyNot_3 1 rfl rfl)
theorem dX4_whyNot_74 : decode cX4_whyNot 74 = .ok (.ldc2_w 302, 3) := dk_20 1 46 (dk_at dksX4_whyNot_3 4 rfl rfl)
theorem dX4_whyNot_77 : decode cX4_whyNot 77 = .ok (.invokestatic 141, 3) := dk_184 0 141 (dk_at dksX4_whyNot_3 7 rfl rfl)
theorem dX4_whyNot_80 : decode cX4_whyNot 80 = .ok (.ifCond .eq 13, 3) := dk_153 0 13 (dk_at dksX4_whyNot_3 10 rfl rfl)
theorem dX4_whyNot_83 : decode cX4_whyNot 83 = .ok (.aload_n 0, 1) := dk_42 (dk_at dksX4_whyNot_3 13 rfl rfl)
theorem dX4_whyNot_84 : decode cX4_whyNot 84 = .ok (.lload_n 1, 1) := dk_31 (dk_at dksX4_whyNot_3 14 rfl rfl)
theorem dX4_whyNot_85 : decode cX4_whyNot 85 = .ok (.ldc2_w 300, 3) := dk_20 1 44 (dk_at dksX4_whyNot_3 15 rfl rfl)
theorem dX4_whyNot_88 : decode cX4_whyNot 88 = .ok (.lsub, 1) := dk_101 (dk_at dksX4_whyNot_3 18 rfl rfl)
theorem dX4_whyNot_89 : decode cX4_whyNot 89 = .ok (.invokevirtual 266, 3) := dk_182 1 10 (dk_at dksX4_whyNot_3 19 rfl rfl)
theorem dX4_whyNot_92 : decode cX4_whyNot 92 = .ok (.ireturn, 1) := dk_172 (dk_at dksX4_whyNot_3 22 rfl rfl)
theorem dX4_whyNot_93 : decode cX4_whyNot 93 = .ok (.lload_n 1, 1) := dk_31 (dk_at dksX4_whyNot_3 23 rfl rfl)
theorem dX4_whyNot_94 : decode cX4_whyNot 94 = .ok (.ldc2_w 304, 3) := dk_20 1 48 (dk_at dksX4_whyNot_4 0 rfl rfl)
theorem dX4_whyNot_97 : decode cX4_whyNot 97 = .ok (.ldc2_w 306, 3) := dk_20 1 50 (dk_at dksX4_whyNot_4 3 rfl rfl)
theorem dX4_whyNot_100 : decode cX4_whyNot 100 = .ok (.invokestatic 141, 3) := dk_184 0 141 (dk_at dksX4_whyNot_4 6 rfl rfl)
theorem dX4_whyNot_103 : decode cX4_whyNot 103 = .ok (.ifCond .eq 23, 3) := dk_153 0 23 (dk_at dksX4_whyNot_4 9 rfl rfl)
theorem dX4_whyNot_106 : decode cX4_whyNot 106 = .ok (.aload_n 0, 1) := dk_42 (dk_at dksX4_whyNot_4 12 rfl rfl)
theorem dX4_whyNot_107 : decode cX4_whyNot 107 = .ok (.lload_n 1, 1) := dk_31 (dk_at dksX4_whyNot_4 13 rfl rfl)
theorem dX4_whyNot_108 : decode cX4_whyNot 108 = .ok (.ldc2_w 304, 3) := dk_20 1 48 (dk_at dksX4_whyNot_4 14 rfl rfl)
theorem dX4_whyNot_111 : decode cX4_whyNot 111 = .ok (.lsub, 1) := dk_101 (dk_at dksX4_whyNot_4 17 rfl rfl)
theorem dX4_whyNot_112 : decode cX4_whyNot 112 = .ok (.ldc2_w 300, 3) := dk_20 1 44 (dk_at dksX4_whyNot_4 18 rfl rfl)
theorem dX4_whyNot_115 : decode cX4_whyNot 115 = .ok (.ldiv, 1) := dk_109 (dk_at dksX4_whyNot_4 21 rfl rfl)
theorem dX4_whyNot_116 : decode cX4_whyNot 116 = .ok (.invokevirtual 229, 3) := dk_182 0 229 (dk_at dksX4_whyNot_5 0 rfl rfl)
theorem dX4_whyNot_119 : decode cX4_whyNot 119 = .ok (.ifCond .eq 7, 3) := dk_153 0 7 (dk_at dksX4_whyNot_5 3 rfl rfl)
theorem dX4_whyNot_122 : decode cX4_whyNot 122 = .ok (.iconst 0, 1) := dk_3 (dk_at dksX4_whyNot_5 6 rfl rfl)
theorem dX4_whyNot_123 : decode cX4_whyNot 123 = .ok (.goto 4, 3) := dk_167 0 4 (dk_at dksX4_whyNot_5 7 rfl rfl)
theorem dX4_whyNot_126 : decode cX4_whyNot 126 = .ok (.iconst 1, 1) := dk_4 (dk_at dksX4_whyNot_5 10 rfl rfl)
theorem dX4_whyNot_127 : decode cX4_whyNot 127 = .ok (.ireturn, 1) := dk_172 (dk_at dksX4_whyNot_5 11 rfl rfl)
abbrev cX4_does : ByteArray := prog_11_method_68_code
def yX4_does : MethodName := ⟨RX4, "does", "(I)V"⟩
def dkwX4_does_4 : List UInt8 := [180, 0, 13, 16, 29, 27, 17, 39, 16, 100, 17, 3, 232, 108, 96, 27, 17, 3, 232, 112, 79, 177]
abbrev dktX4_does_4 : List UInt8 := dkwX4_does_4 ++ []
def dkwX4_does_3 : List UInt8 := [182, 1, 3, 167, 0, 40, 27, 17, 11, 184, 160, 0, 11, 42, 182, 1, 29, 87, 167, 0, 25, 42]
abbrev dktX4_does_3 : List UInt8 := dkwX4_does_3 ++ dktX4_does_4
def dkwX4_does_2 : List UInt8 := [180, 0, 13, 16, 35, 27, 96, 17, 3, 232, 100, 2, 79, 167, 0, 54, 27, 17, 7, 208, 160, 0, 10, 42]
abbrev dktX4_does_2 : List UInt8 := dkwX4_does_2 ++ dktX4_does_3
def dkwX4_does_1 : List UInt8 := [16, 35, 27, 16, 100, 108, 96, 27, 16, 100, 112, 79, 167, 0, 78, 27, 17, 7, 208, 162, 0, 20, 42]
abbrev dktX4_does_1 : List UInt8 := dkwX4_does_1 ++ dktX4_does_2
def dkwX4_does_0 : List UInt8 := [27, 2, 160, 0, 10, 42, 182, 0, 253, 167, 0, 104, 27, 17, 3, 232, 162, 0, 22, 42, 180, 0, 13]
abbrev dktX4_does_0 : List UInt8 := dkwX4_does_0 ++ dktX4_does_1
theorem dksX4_does_0 : cX4_does.data.toList.drop 0 = dktX4_does_0 := by decide +kernel
theorem dksX4_does_1 : cX4_does.data.toList.drop 23 = dktX4_does_1 := dk_seg dksX4_does_0 23 rfl rfl
theorem dksX4_does_2 : cX4_does.data.toList.drop 46 = dktX4_does_2 := dk_seg dksX4_does_1 23 rfl rfl
theorem dksX4_does_3 : cX4_does.data.toList.drop 70 = dktX4_does_3 := dk_seg dksX4_does_2 24 rfl rfl
theorem dksX4_does_4 : cX4_does.data.toList.drop 92 = dktX4_does_4 := dk_seg dksX4_does_3 22 rfl rfl
theorem dX4_does_0 : decode cX4_does 0 = .ok (.iload_n 1, 1) := dk_27 (dk_at dksX4_does_0 0 rfl rfl)
theorem dX4_does_1 : decode cX4_does 1 = .ok (.iconst (-1), 1) := dk_2 (dk_at dksX4_does_0 1 rfl rfl)
theorem dX4_does_2 : decode cX4_does 2 = .ok (.if_icmp .ne 10, 3) := dk_160 0 10 (dk_at dksX4_does_0 2 rfl rfl)
theorem dX4_does_5 : decode cX4_does 5 = .ok (.aload_n 0, 1) := dk_42 (dk_at dksX4_does_0 5 rfl rfl)
theorem dX4_does_6 : decode cX4_does 6 = .ok (.invokevirtual 253, 3) := dk_182 0 253 (dk_at dksX4_does_0 6 rfl rfl)
theorem dX4_does_9 : decode cX4_does 9 = .ok (.goto 104, 3) := dk_167 0 104 (dk_at dksX4_does_0 9 rfl rfl)
theorem dX4_does_12 : decode cX4_does 12 = .ok (.iload_n 1, 1) := dk_27 (dk_at dksX4_does_0 12 rfl rfl)
theorem dX4_does_13 : decode cX4_does 13 = .ok (.sipush 1000, 3) := dk_17 3 232 (dk_at dksX4_does_0 13 rfl rfl)
theorem dX4_does_16 : decode cX4_does 16 = .ok (.if_icmp .ge 22, 3) := dk_162 0 22 (dk_at dksX4_does_0 16 rfl rfl)
theorem dX4_does_19 : decode cX4_does 19 = .ok (.aload_n 0, 1) := dk_42 (dk_at dksX4_does_0 19 rfl rfl)
theorem dX4_does_20 : decode cX4_does 20 = .ok (.getfield 13, 3) := dk_180 0 13 (dk_at dksX4_does_0 20 rfl rfl)
theorem dX4_does_23 : decode cX4_does 23 = .ok (.bipush 35, 2) := dk_16 35 (dk_at dksX4_does_1 0 rfl rfl)
theorem dX4_does_25 : decode cX4_does 25 = .ok (.iload_n 1, 1) := dk_27 (dk_at dksX4_does_1 2 rfl rfl)
theorem dX4_does_26 : decode cX4_does 26 = .ok (.bipush 100, 2) := dk_16 100 (dk_at dksX4_does_1 3 rfl rfl)
theorem dX4_does_28 : decode cX4_does 28 = .ok (.idiv, 1) := dk_108 (dk_at dksX4_does_1 5 rfl rfl)
theorem dX4_does_29 : decode cX4_does 29 = .ok (.iadd, 1) := dk_96 (dk_at dksX4_does_1 6 rfl rfl)
theorem dX4_does_30 : decode cX4_does 30 = .ok (.iload_n 1, 1) := dk_27 (dk_at dksX4_does_1 7 rfl rfl)
theorem dX4_does_31 : decode cX4_does 31 = .ok (.bipush 100, 2) := dk_16 100 (dk_at dksX4_does_1 8 rfl rfl)
theorem dX4_does_33 : decode cX4_does 33 = .ok (.irem, 1) := dk_112 (dk_at dksX4_does_1 10 rfl rfl)
theorem dX4_does_34 : decode cX4_does 34 = .ok (.iastore, 1) := dk_79 (dk_at dksX4_does_1 11 rfl rfl)
theorem dX4_does_35 : decode cX4_does 35 = .ok (.goto 78, 3) := dk_167 0 78 (dk_at dksX4_does_1 12 rfl rfl)
theorem dX4_does_38 : decode cX4_does 38 = .ok (.iload_n 1, 1) := dk_27 (dk_at dksX4_does_1 15 rfl rfl)
theorem dX4_does_39 : decode cX4_does 39 = .ok (.sipush 2000, 3) := dk_17 7 208 (dk_at dksX4_does_1 16 rfl rfl)
theorem dX4_does_42 : decode cX4_does 42 = .ok (.if_icmp .ge 20, 3) := dk_162 0 20 (dk_at dksX4_does_1 19 rfl rfl)
theorem dX4_does_45 : decode cX4_does 45 = .ok (.aload_n 0, 1) := dk_42 (dk_at dksX4_does_1 22 rfl rfl)
theorem dX4_does_46 : decode cX4_does 46 = .ok (.getfield 13, 3) := dk_180 0 13 (dk_at dksX4_does_2 0 rfl rfl)
theorem dX4_does_49 : decode cX4_does 49 = .ok (.bipush 35, 2) := dk_16 35 (dk_at dksX4_does_2 3 rfl rfl)
theorem dX4_does_51 : decode cX4_does 51 = .ok (.iload_n 1, 1) := dk_27 (dk_at dksX4_does_2 5 rfl rfl)
theorem dX4_does_52 : decode cX4_does 52 = .ok (.iadd, 1) := dk_96 (dk_at dksX4_does_2 6 rfl rfl)
theorem dX4_does_53 : decode cX4_does 53 = .ok (.sipush 1000, 3) := dk_17 3 232 (dk_at dksX4_does_2 7 rfl rfl)
theorem dX4_does_56 : decode cX4_does 56 = .ok (.isub, 1) := dk_100 (dk_at dksX4_does_2 10 rfl rfl)
theorem dX4_does_57 : decode cX4_does 57 = .ok (.iconst (-1), 1) := dk_2 (dk_at dksX4_does_2 11 rfl rfl)
theorem dX4_does_58 : decode cX4_does 58 = .ok (.iastore, 1) := dk_79 (dk_at dksX4_does_2 12 rfl rfl)
theorem dX4_does_59 : decode cX4_does 59 = .ok (.goto 54, 3) := dk_167 0 54 (dk_at dksX4_does_2 13 rfl rfl)
theorem dX4_does_62 : decode cX4_does 62 = .ok (.iload_n 1, 1) := dk_27 (dk_at dksX4_does_2 16 rfl rfl)
theorem dX4_does_63 : decode cX4_does 63 = .ok (.sipush 2000, 3) := dk_17 7 208 (dk_at dksX4_does_2 17 rfl rfl)
theorem dX4_does_66 : decode cX4_does 66 = .ok (.if_icmp .ne 10, 3) := dk_160 0 10 (dk_at dksX4_does_2 20 rfl rfl)
theorem dX4_does_69 : decode cX4_does 69 = .ok (.aload_n 0, 1) := dk_42 (dk_at dksX4_does_2 23 rfl rfl)
theorem dX4_does_70 : decode cX4_does 70 = .ok (.invokevirtual 259, 3) := dk_182 1 3 (dk_at dksX4_does_3 0 rfl rfl)
theorem dX4_does_73 : decode cX4_does 73 = .ok (.goto 40, 3) := dk_167 0 40 (dk_at dksX4_does_3 3 rfl rfl)
theorem dX4_does_76 : decode cX4_does 76 = .ok (.iload_n 1, 1) := dk_27 (dk_at dksX4_does_3 6 rfl rfl)
theorem dX4_does_77 : decode cX4_does 77 = .ok (.sipush 3000, 3) := dk_17 11 184 (dk_at dksX4_does_3 7 rfl rfl)
theorem dX4_does_80 : decode cX4_does 80 = .ok (.if_icmp .ne 11, 3) := dk_160 0 11 (dk_at dksX4_does_3 10 rfl rfl)
theorem dX4_does_83 : decode cX4_does 83 = .ok (.aload_n 0, 1) := dk_42 (dk_at dksX4_does_3 13 rfl rfl)
theorem dX4_does_84 : decode cX4_does 84 = .ok (.invokevirtual 285, 3) := dk_182 1 29 (dk_at dksX4_does_3 14 rfl rfl)
theorem dX4_does_87 : decode cX4_does 87 = .ok (.pop, 1) := dk_87 (dk_at dksX4_does_3 17 rfl rfl)
theorem dX4_does_88 : decode cX4_does 88 = .ok (.goto 25, 3) := dk_167 0 25 (dk_at dksX4_does_3 18 rfl rfl)
theorem dX4_does_91 : decode cX4_does 91 = .ok (.aload_n 0, 1) := dk_42 (dk_at dksX4_does_3 21 rfl rfl)
theorem dX4_does_92 : decode cX4_does 92 = .ok (.getfield 13, 3) := dk_180 0 13 (dk_at dksX4_does_4 0 rfl rfl)
theorem dX4_does_95 : decode cX4_does 95 = .ok (.bipush 29, 2) := dk_16 29 (dk_at dksX4_does_4 3 rfl rfl)
theorem dX4_does_97 : decode cX4_does 97 = .ok (.iload_n 1, 1) := dk_27 (dk_at dksX4_does_4 5 rfl rfl)
theorem dX4_does_98 : decode cX4_does 98 = .ok (.sipush 10000, 3) := dk_17 39 16 (dk_at dksX4_does_4 6 rfl rfl)
theorem dX4_does_101 : decode cX4_does 101 = .ok (.isub, 1) := dk_100 (dk_at dksX4_does_4 9 rfl rfl)
theorem dX4_does_102 : decode cX4_does 102 = .ok (.sipush 1000, 3) := dk_17 3 232 (dk_at dksX4_does_4 10 rfl rfl)
theorem dX4_does_105 : decode cX4_does 105 = .ok (.idiv, 1) := dk_108 (dk_at dksX4_does_4 13 rfl rfl)
theorem dX4_does_106 : decode cX4_does 106 = .ok (.iadd, 1) := dk_96 (dk_at dksX4_does_4 14 rfl rfl)
theorem dX4_does_107 : decode cX4_does 107 = .ok (.iload_n 1, 1) := dk_27 (dk_at dksX4_does_4 15 rfl rfl)
theorem dX4_does_108 : decode cX4_does 108 = .ok (.sipush 1000, 3) := dk_17 3 232 (dk_at dksX4_does_4 16 rfl rfl)
theorem dX4_does_111 : decode cX4_does 111 = .ok (.irem, 1) := dk_112 (dk_at dksX4_does_4 19 rfl rfl)
theorem dX4_does_112 : decode cX4_does 112 = .ok (.iastore, 1) := dk_79 (dk_at dksX4_does_4 20 rfl rfl)
theorem dX4_does_113 : decode cX4_does 113 = .ok (.return_, 1) := dk_177 (dk_at dksX4_does_4 21 rfl rfl)
abbrev cX4_isAgain : ByteArray := prog_11_method_51_code
def yX4_isAgain : MethodName := ⟨RX4, "isAgain", "()V"⟩
def dkwX4_isAgain_1 : List UInt8 := [132, 1, 1, 167, 255, 232, 177]
abbrev dktX4_isAgain_1 : List UInt8 := dkwX4_isAgain_1 ++ []
def dkwX4_isAgain_0 : List UInt8 := [3, 60, 27, 16, 23, 162, 0, 24, 42, 180, 0, 13, 16, 20, 27, 96, 42, 180, 0, 36, 27, 46, 79]
abbrev dktX4_isAgain_0 : List UInt8 := dkwX4_isAgain_0 ++ dktX4_isAgain_1
theorem dksX4_isAgain_0 : cX4_isAgain.data.toList.drop 0 = dktX4_isAgain_0 := by decide +kernel
theorem dksX4_isAgain_1 : cX4_isAgain.data.toList.drop 23 = dktX4_isAgain_1 := dk_seg dksX4_isAgain_0 23 rfl rfl
theorem dX4_isAgain_0 : decode cX4_isAgain 0 = .ok (.iconst 0, 1) := dk_3 (dk_at dksX4_isAgain_0 0 rfl rfl)
theorem dX4_isAgain_1 : decode cX4_isAgain 1 = .ok (.istore_n 1, 1) := dk_60 (dk_at dksX4_isAgain_0 1 rfl rfl)
theorem dX4_isAgain_2 : decode cX4_isAgain 2 = .ok (.iload_n 1, 1) := dk_27 (dk_at dksX4_isAgain_0 2 rfl rfl)
theorem dX4_isAgain_3 : decode cX4_isAgain 3 = .ok (.bipush 23, 2) := dk_16 23 (dk_at dksX4_isAgain_0 3 rfl rfl)
theorem dX4_isAgain_5 : decode cX4_isAgain 5 = .ok (.if_icmp .ge 24, 3) := dk_162 0 24 (dk_at dksX4_isAgain_0 5 rfl rfl)
theorem dX4_isAgain_8 : decode cX4_isAgain 8 = .ok (.aload_n 0, 1) := dk_42 (dk_at dksX4_isAgain_0 8 rfl rfl)
theorem dX4_isAgain_9 : decode cX4_isAgain 9 = .ok (.getfield 13, 3) := dk_180 0 13 (dk_at dksX4_isAgain_0 9 rfl rfl)
theorem dX4_isAgain_12 : decode cX4_isAgain 12 = .ok (.bipush 20, 2) := dk_16 20 (dk_at dksX4_isAgain_0 12 rfl rfl)
theorem dX4_isAgain_14 : decode cX4_isAgain 14 = .ok (.iload_n 1, 1) := dk_27 (dk_at dksX4_isAgain_0 14 rfl rfl)
theorem dX4_isAgain_15 : decode cX4_isAgain 15 = .ok (.iadd, 1) := dk_96 (dk_at dksX4_isAgain_0 15 rfl rfl)
theorem dX4_isAgain_16 : decode cX4_isAgain 16 = .ok (.aload_n 0, 1) := dk_42 (dk_at dksX4_isAgain_0 16 rfl rfl)
theorem dX4_isAgain_17 : decode cX4_isAgain 17 = .ok (.getfield 36, 3) := dk_180 0 36 (dk_at dksX4_isAgain_0 17 rfl rfl)
theorem dX4_isAgain_20 : decode cX4_isAgain 20 = .ok (.iload_n 1, 1) := dk_27 (dk_at dksX4_isAgain_0 20 rfl rfl)
theorem dX4_isAgain_21 : decode cX4_isAgain 21 = .ok (.iaload, 1) := dk_46 (dk_at dksX4_isAgain_0 21 rfl rfl)
theorem dX4_isAgain_22 : decode cX4_isAgain 22 = .ok (.iastore, 1) := dk_79 (dk_at dksX4_isAgain_0 22 rfl rfl)
theorem dX4_isAgain_23 : decode cX4_isAgain 23 = .ok (.iinc 1 1, 3) := dk_132 1 1 (dk_at dksX4_isAgain_1 0 rfl rfl)
theorem dX4_isAgain_26 : decode cX4_isAgain 26 = .ok (.goto (-24), 3) := dk_167 255 232 (dk_at dksX4_isAgain_1 3 rfl rfl)
theorem dX4_isAgain_29 : decode cX4_isAgain 29 = .ok (.return_, 1) := dk_177 (dk_at dksX4_isAgain_1 6 rfl rfl)
abbrev cX4_perform : ByteArray := prog_11_method_72_code
def yX4_perform : MethodName := ⟨RX4, "perform", "(I)I"⟩
def dkwX4_perform_1 : List UInt8 := [182, 1, 66, 62, 29, 158, 0, 7, 42, 182, 1, 0, 29, 172]
abbrev dktX4_perform_1 : List UInt8 := dkwX4_perform_1 ++ []
def dkwX4_perform_0 : List UInt8 := [42, 3, 181, 0, 1, 42, 27, 182, 1, 63, 61, 28, 153, 0, 5, 28, 172, 42, 182, 0, 250, 42, 27]
abbrev dktX4_perform_0 : List UInt8 := dkwX4_perform_0 ++ dktX4_perform_1
theorem dksX4_perform_0 : cX4_perform.data.toList.drop 0 = dktX4_perform_0 := by decide +kernel
theorem dksX4_perform_1 : cX4_perform.data.toList.drop 23 = dktX4_perform_1 := dk_seg dksX4_perform_0 23 rfl rfl
theorem dX4_perform_0 : decode cX4_perform 0 = .ok (.aload_n 0, 1) := dk_42 (dk_at dksX4_perform_0 0 rfl rfl)
theorem dX4_perform_1 : decode cX4_perform 1 = .ok (.iconst 0, 1) := dk_3 (dk_at dksX4_perform_0 1 rfl rfl)
theorem dX4_perform_2 : decode cX4_perform 2 = .ok (.putfield 1, 3) := dk_181 0 1 (dk_at dksX4_perform_0 2 rfl rfl)
theorem dX4_perform_5 : decode cX4_perform 5 = .ok (.aload_n 0, 1) := dk_42 (dk_at dksX4_perform_0 5 rfl rfl)
theorem dX4_perform_6 : decode cX4_perform 6 = .ok (.iload_n 1, 1) := dk_27 (dk_at dksX4_perform_0 6 rfl rfl)
theorem dX4_perform_7 : decode cX4_perform 7 = .ok (.invokevirtual 319, 3) := dk_182 1 63 (dk_at dksX4_perform_0 7 rfl rfl)
theorem dX4_perform_10 : decode cX4_perform 10 = .ok (.istore_n 2, 1) := dk_61 (dk_at dksX4_perform_0 10 rfl rfl)
theorem dX4_perform_11 : decode cX4_perform 11 = .ok (.iload_n 2, 1) := dk_28 (dk_at dksX4_perform_0 11 rfl rfl)
theorem dX4_perform_12 : decode cX4_perform 12 = .ok (.ifCond .eq 5, 3) := dk_153 0 5 (dk_at dksX4_perform_0 12 rfl rfl)
theorem dX4_perform_15 : decode cX4_perform 15 = .ok (.iload_n 2, 1) := dk_28 (dk_at dksX4_perform_0 15 rfl rfl)
theorem dX4_perform_16 : decode cX4_perform 16 = .ok (.ireturn, 1) := dk_172 (dk_at dksX4_perform_0 16 rfl rfl)
theorem dX4_perform_17 : decode cX4_perform 17 = .ok (.aload_n 0, 1) := dk_42 (dk_at dksX4_perform_0 17 rfl rfl)
theorem dX4_perform_18 : decode cX4_perform 18 = .ok (.invokevirtual 250, 3) := dk_182 0 250 (dk_at dksX4_perform_0 18 rfl rfl)
theorem dX4_perform_21 : decode cX4_perform 21 = .ok (.aload_n 0, 1) := dk_42 (dk_at dksX4_perform_0 21 rfl rfl)
theorem dX4_perform_22 : decode cX4_perform 22 = .ok (.iload_n 1, 1) := dk_27 (dk_at dksX4_perform_0 22 rfl rfl)
theorem dX4_perform_23 : decode cX4_perform 23 = .ok (.invokevirtual 322, 3) := dk_182 1 66 (dk_at dksX4_perform_1 0 rfl rfl)
theorem dX4_perform_26 : decode cX4_perform 26 = .ok (.istore_n 3, 1) := dk_62 (dk_at dksX4_perform_1 3 rfl rfl)
theorem dX4_perform_27 : decode cX4_perform 27 = .ok (.iload_n 3, 1) := dk_29 (dk_at dksX4_perform_1 4 rfl rfl)
theorem dX4_perform_28 : decode cX4_perform 28 = .ok (.ifCond .le 7, 3) := dk_158 0 7 (dk_at dksX4_perform_1 5 rfl rfl)
theorem dX4_perform_31 : decode cX4_perform 31 = .ok (.aload_n 0, 1) := dk_42 (dk_at dksX4_perform_1 8 rfl rfl)
theorem dX4_perform_32 : decode cX4_perform 32 = .ok (.invokevirtual 256, 3) := dk_182 1 0 (dk_at dksX4_perform_1 9 rfl rfl)
theorem dX4_perform_35 : decode cX4_perform 35 = .ok (.iload_n 3, 1) := dk_29 (dk_at dksX4_perform_1 12 rfl rfl)
theorem dX4_perform_36 : decode cX4_perform 36 = .ok (.ireturn, 1) := dk_172 (dk_at dksX4_perform_1 13 rfl rfl)
abbrev cX4_years : ByteArray := prog_11_method_75_code
def yX4_years : MethodName := ⟨RX4, "years", "(II)I"⟩
def dkwX4_years_4 : List UInt8 := [29, 158, 0, 7, 42, 182, 1, 0, 29, 172]
abbrev dktX4_years_4 : List UInt8 := dkwX4_years_4 ++ []
def dkwX4_years_3 : List UInt8 := [182, 1, 55, 153, 0, 6, 167, 0, 12, 42, 21, 5, 182, 1, 58, 132, 3, 1, 132, 4, 1, 167, 255, 219]
abbrev dktX4_years_3 : List UInt8 := dkwX4_years_3 ++ dktX4_years_4
def dkwX4_years_2 : List UInt8 := [181, 1, 73, 3, 62, 3, 54, 4, 21, 4, 28, 162, 0, 37, 42, 182, 1, 81, 54, 5, 42, 21, 5, 133]
abbrev dktX4_years_2 : List UInt8 := dkwX4_years_2 ++ dktX4_years_3
def dkwX4_years_1 : List UInt8 := [16, 20, 46, 153, 0, 12, 42, 180, 0, 13, 4, 46, 154, 0, 6, 16, 251, 172, 42, 182, 0, 250, 42, 27]
abbrev dktX4_years_1 : List UInt8 := dkwX4_years_1 ++ dktX4_years_2
def dkwX4_years_0 : List UInt8 := [42, 3, 181, 0, 1, 28, 133, 10, 20, 1, 79, 184, 0, 141, 154, 0, 6, 16, 253, 172, 42, 180, 0, 13]
abbrev dktX4_years_0 : List UInt8 := dkwX4_years_0 ++ dktX4_years_1
theorem dksX4_years_0 : cX4_years.data.toList.drop 0 = dktX4_years_0 := by decide +kernel
theorem dksX4_years_1 : cX4_years.data.toList.drop 24 = dktX4_years_1 := dk_seg dksX4_years_0 24 rfl rfl
theorem dksX4_years_2 : cX4_years.data.toList.drop 48 = dktX4_years_2 := dk_seg dksX4_years_1 24 rfl rfl
theorem dksX4_years_3 : cX4_years.data.toList.drop 72 = dktX4_years_3 := dk_seg dksX4_years_2 24 rfl rfl
theorem dksX4_years_4 : cX4_years.data.toList.drop 96 = dktX4_years_4 := dk_seg dksX4_years_3 24 rfl rfl
theorem dX4_years_0 : decode cX4_years 0 = .ok (.aload_n 0, 1) := dk_42 (dk_at dksX4_years_0 0 rfl rfl)
theorem dX4_years_1 : decode cX4_years 1 = .ok (.iconst 0, 1) := dk_3 (dk_at dksX4_years_0 1 rfl rfl)
theorem dX4_years_2 : decode cX4_years 2 = .ok (.putfield 1, 3) := dk_181 0 1 (dk_at dksX4_years_0 2 rfl rfl)
theorem dX4_years_5 : decode cX4_years 5 = .ok (.iload_n 2, 1) := dk_28 (dk_at dksX4_years_0 5 rfl rfl)
theorem dX4_years_6 : decode cX4_years 6 = .ok (.i2l, 1) := dk_133 (dk_at dksX4_years_0 6 rfl rfl)
theorem dX4_years_7 : decode cX4_years 7 = .ok (.lconst 1, 1) := dk_10 (dk_at dksX4_years_0 7 rfl rfl)
theorem dX4_years_8 : decode cX4_years 8 = .ok (.ldc2_w 335, 3) := dk_20 1 79 (dk_at dksX4_years_0 8 rfl rfl)
theorem dX4_years_11 : decode cX4_years 11 = .ok (.invokestatic 141, 3) := dk_184 0 141 (dk_at dksX4_years_0 11 rfl rfl)
theorem dX4_years_14 : decode cX4_years 14 = .ok (.ifCond .ne 6, 3) := dk_154 0 6 (dk_at dksX4_years_0 14 rfl rfl)
theorem dX4_years_17 : decode cX4_years 17 = .ok (.bipush (-3), 2) := dk_16 253 (dk_at dksX4_years_0 17 rfl rfl)
theorem dX4_years_19 : decode cX4_years 19 = .ok (.ireturn, 1) := dk_172 (dk_at dksX4_years_0 19 rfl rfl)
theorem dX4_years_20 : decode cX4_years 20 = .ok (.aload_n 0, 1) := dk_42 (dk_at dksX4_years_0 20 rfl rfl)
theorem dX4_years_21 : decode cX4_years 21 = .ok (.getfield 13, 3) := dk_180 0 13 (dk_at dksX4_years_0 21 rfl rfl)
theorem dX4_years_24 : decode cX4_years 24 = .ok (.bipush 20, 2) := dk_16 20 (dk_at dksX4_years_1 0 rfl rfl)
theorem dX4_years_26 : decode cX4_years 26 = .ok (.iaload, 1) := dk_46 (dk_at dksX4_years_1 2 rfl rfl)
theorem dX4_years_27 : decode cX4_years 27 = .ok (.ifCond .eq 12, 3) := dk_153 0 12 (dk_at dksX4_years_1 3 rfl rfl)
theorem dX4_years_30 : decode cX4_years 30 = .ok (.aload_n 0, 1) := dk_42 (dk_at dksX4_years_1 6 rfl rfl)
theorem dX4_years_31 : decode cX4_years 31 = .ok (.getfield 13, 3) := dk_180 0 13 (dk_at dksX4_years_1 7 rfl rfl)
theorem dX4_years_34 : decode cX4_years 34 = .ok (.iconst 1, 1) := dk_4 (dk_at dksX4_years_1 10 rfl rfl)
theorem dX4_years_35 : decode cX4_years 35 = .ok (.iaload, 1) := dk_46 (dk_at dksX4_years_1 11 rfl rfl)
theorem dX4_years_36 : decode cX4_years 36 = .ok (.ifCond .ne 6, 3) := dk_154 0 6 (dk_at dksX4_years_1 12 rfl rfl)
theorem dX4_years_39 : decode cX4_years 39 = .ok (.bipush (-5), 2) := dk_16 251 (dk_at dksX4_years_1 15 rfl rfl)
theorem dX4_years_41 : decode cX4_years 41 = .ok (.ireturn, 1) := dk_172 (dk_at dksX4_years_1 17 rfl rfl)
theorem dX4_years_42 : decode cX4_years 42 = .ok (.aload_n 0, 1) := dk_42 (dk_at dksX4_years_1 18 rfl rfl)
theorem dX4_years_43 : decode cX4_years 43 = .ok (.invokevirtual 250, 3) := dk_182 0 250 (dk_at dksX4_years_1 19 rfl rfl)
theorem dX4_years_46 : decode cX4_years 46 = .ok (.aload_n 0, 1) := dk_42 (dk_at dksX4_years_1 22 rfl rfl)
theorem dX4_years_47 : decode cX4_years 47 = .ok (.iload_n 1, 1) := dk_27 (dk_at dksX4_years_1 23 rfl rfl)
theorem dX4_years_48 : decode cX4_years 48 = .ok (.putfield 329, 3) := dk_181 1 73 (dk_at dksX4_years_2 0 rfl rfl)
theorem dX4_years_51 : decode cX4_years 51 = .ok (.iconst 0, 1) := dk_3 (dk_at dksX4_years_2 3 rfl rfl)
theorem dX4_years_52 : decode cX4_years 52 = .ok (.istore_n 3, 1) := dk_62 (dk_at dksX4_years_2 4 rfl rfl)
theorem dX4_years_53 : decode cX4_years 53 = .ok (.iconst 0, 1) := dk_3 (dk_at dksX4_years_2 5 rfl rfl)
theorem dX4_years_54 : decode cX4_years 54 = .ok (.istore 4, 2) := dk_54 4 (dk_at dksX4_years_2 6 rfl rfl)
theorem dX4_years_56 : decode cX4_years 56 = .ok (.iload 4, 2) := dk_21 4 (dk_at dksX4_years_2 8 rfl rfl)
theorem dX4_years_58 : decode cX4_years 58 = .ok (.iload_n 2, 1) := dk_28 (dk_at dksX4_years_2 10 rfl rfl)
theorem dX4_years_59 : decode cX4_years 59 = .ok (.if_icmp .ge 37, 3) := dk_162 0 37 (dk_at dksX4_years_2 11 rfl rfl)
theorem dX4_years_62 : decode cX4_years 62 = .ok (.aload_n 0, 1) := dk_42 (dk_at dksX4_years_2 14 rfl rfl)
theorem dX4_years_63 : decode cX4_years 63 = .ok (.invokevirtual 337, 3) := dk_182 1 81 (dk_at dksX4_years_2 15 rfl rfl)
theorem dX4_years_66 : decode cX4_years 66 = .ok (.istore 5, 2) := dk_54 5 (dk_at dksX4_years_2 18 rfl rfl)
theorem dX4_years_68 : decode cX4_years 68 = .ok (.aload_n 0, 1) := dk_42 (dk_at dksX4_years_2 20 rfl rfl)
theorem dX4_years_69 : decode cX4_years 69 = .ok (.iload 5, 2) := dk_21 5 (dk_at dksX4_years_2 21 rfl rfl)
theorem dX4_years_71 : decode cX4_years 71 = .ok (.i2l, 1) := dk_133 (dk_at dksX4_years_2 23 rfl rfl)
theorem dX4_years_72 : decode cX4_years 72 = .ok (.invokevirtual 311, 3) := dk_182 1 55 (dk_at dksX4_years_3 0 rfl rfl)
theorem dX4_years_75 : decode cX4_years 75 = .ok (.ifCond .eq 6, 3) := dk_153 0 6 (dk_at dksX4_years_3 3 rfl rfl)
theorem dX4_years_78 : decode cX4_years 78 = .ok (.goto 12, 3) := dk_167 0 12 (dk_at dksX4_years_3 6 rfl rfl)
theorem dX4_years_81 : decode cX4_years 81 = .ok (.aload_n 0, 1) := dk_42 (dk_at dksX4_years_3 9 rfl rfl)
theorem dX4_years_82 : decode cX4_years 82 = .ok (.iload 5, 2) := dk_21 5 (dk_at dksX4_years_3 10 rfl rfl)
theorem dX4_years_84 : decode cX4_years 84 = .ok (.invokevirtual 314, 3) := dk_182 1 58 (dk_at dksX4_years_3 12 rfl rfl)
theorem dX4_years_87 : decode cX4_years 87 = .ok (.iinc 3 1, 3) := dk_132 3 1 (dk_at dksX4_years_3 15 rfl rfl)
theorem dX4_years_90 : decode cX4_years 90 = .ok (.iinc 4 1, 3) := dk_132 4 1 (dk_at dksX4_years_3 18 rfl rfl)
theorem dX4_years_93 : decode cX4_years 93 = .ok (.goto (-37), 3) := dk_167 255 219 (dk_at dksX4_years_3 21 rfl rfl)
theorem dX4_years_96 : decode cX4_years 96 = .ok (.iload_n 3, 1) := dk_29 (dk_at dksX4_years_4 0 rfl rfl)
theorem dX4_years_97 : decode cX4_years 97 = .ok (.ifCond .le 7, 3) := dk_158 0 7 (dk_at dksX4_years_4 1 rfl rfl)
theorem dX4_years_100 : decode cX4_years 100 = .ok (.aload_n 0, 1) := dk_42 (dk_at dksX4_years_4 4 rfl rfl)
theorem dX4_years_101 : decode cX4_years 101 = .ok (.invokevirtual 256, 3) := dk_182 1 0 (dk_at dksX4_years_4 5 rfl rfl)
theorem dX4_years_104 : decode cX4_years 104 = .ok (.iload_n 3, 1) := dk_29 (dk_at dksX4_years_4 8 rfl rfl)
theorem dX4_years_105 : decode cX4_years 105 = .ok (.ireturn, 1) := dk_172 (dk_at dksX4_years_4 9 rfl rfl)
abbrev cX4_drawn : ByteArray := prog_11_method_74_code
def yX4_drawn : MethodName := ⟨RX4, "drawn", "()I"⟩
def dkwX4_drawn_3 : List UInt8 := [17, 3, 232, 28, 104, 96, 42, 17, 3, 232, 182, 1, 76, 96, 172]
abbrev dktX4_drawn_3 : List UInt8 := dkwX4_drawn_3 ++ []
def dkwX4_drawn_2 : List UInt8 := [16, 100, 28, 104, 42, 42, 180, 0, 13, 16, 20, 46, 182, 1, 76, 96, 167, 0, 20, 17, 39, 16]
abbrev dktX4_drawn_2 : List UInt8 := dkwX4_drawn_2 ++ dktX4_drawn_3
def dkwX4_drawn_1 : List UInt8 := [7, 160, 0, 7, 17, 7, 208, 172, 42, 42, 180, 0, 13, 4, 46, 182, 1, 76, 61, 27, 5, 160, 0, 22]
abbrev dktX4_drawn_1 : List UInt8 := dkwX4_drawn_1 ++ dktX4_drawn_2
def dkwX4_drawn_0 : List UInt8 := [42, 16, 6, 182, 1, 76, 60, 27, 5, 162, 0, 5, 2, 172, 27, 6, 160, 0, 7, 17, 11, 184, 172, 27]
abbrev dktX4_drawn_0 : List UInt8 := dkwX4_drawn_0 ++ dktX4_drawn_1
theorem dksX4_drawn_0 : cX4_drawn.data.toList.drop 0 = dktX4_drawn_0 := by decide +kernel
theorem dksX4_drawn_1 : cX4_drawn.data.toList.drop 24 = dktX4_drawn_1 := dk_seg dksX4_drawn_0 24 rfl rfl
theorem dksX4_drawn_2 : cX4_drawn.data.toList.drop 48 = dktX4_drawn_2 := dk_seg dksX4_drawn_1 24 rfl rfl
theorem dksX4_drawn_3 : cX4_drawn.data.toList.drop 70 = dktX4_drawn_3 := dk_seg dksX4_drawn_2 22 rfl rfl
theorem dX4_drawn_0 : decode cX4_drawn 0 = .ok (.aload_n 0, 1) := dk_42 (dk_at dksX4_drawn_0 0 rfl rfl)
theorem dX4_drawn_1 : decode cX4_drawn 1 = .ok (.bipush 6, 2) := dk_16 6 (dk_at dksX4_drawn_0 1 rfl rfl)
theorem dX4_drawn_3 : decode cX4_drawn 3 = .ok (.invokevirtual 332, 3) := dk_182 1 76 (dk_at dksX4_drawn_0 3 rfl rfl)
theorem dX4_drawn_6 : decode cX4_drawn 6 = .ok (.istore_n 1, 1) := dk_60 (dk_at dksX4_drawn_0 6 rfl rfl)
theorem dX4_drawn_7 : decode cX4_drawn 7 = .ok (.iload_n 1, 1) := dk_27 (dk_at dksX4_drawn_0 7 rfl rfl)
theorem dX4_drawn_8 : decode cX4_drawn 8 = .ok (.iconst 2, 1) := dk_5 (dk_at dksX4_drawn_0 8 rfl rfl)
theorem dX4_drawn_9 : decode cX4_drawn 9 = .ok (.if_icmp .ge 5, 3) := dk_162 0 5 (dk_at dksX4_drawn_0 9 rfl rfl)
theorem dX4_drawn_12 : decode cX4_drawn 12 = .ok (.iconst (-1), 1) := dk_2 (dk_at dksX4_drawn_0 12 rfl rfl)
theorem dX4_drawn_13 : decode cX4_drawn 13 = .ok (.ireturn, 1) := dk_172 (dk_at dksX4_drawn_0 13 rfl rfl)
theorem dX4_drawn_14 : decode cX4_drawn 14 = .ok (.iload_n 1, 1) := dk_27 (dk_at dksX4_drawn_0 14 rfl rfl)
theorem dX4_drawn_15 : decode cX4_drawn 15 = .ok (.iconst 3, 1) := dk_6 (dk_at dksX4_drawn_0 15 rfl rfl)
theorem dX4_drawn_16 : decode cX4_drawn 16 = .ok (.if_icmp .ne 7, 3) := dk_160 0 7 (dk_at dksX4_drawn_0 16 rfl rfl)
theorem dX4_drawn_19 : decode cX4_drawn 19 = .ok (.sipush 3000, 3) := dk_17 11 184 (dk_at dksX4_drawn_0 19 rfl rfl)
theorem dX4_drawn_22 : decode cX4_drawn 22 = .ok (.ireturn, 1) := dk_172 (dk_at dksX4_drawn_0 22 rfl rfl)
theorem dX4_drawn_23 : decode cX4_drawn 23 = .ok (.iload_n 1, 1) := dk_27 (dk_at dksX4_drawn_0 23 rfl rfl)
theorem dX4_drawn_24 : decode cX4_drawn 24 = .ok (.iconst 4, 1) := dk_7 (dk_at dksX4_drawn_1 0 rfl rfl)
theorem dX4_drawn_25 : decode cX4_drawn 25 = .ok (.if_icmp .ne 7, 3) := dk_160 0 7 (dk_at dksX4_drawn_1 1 rfl rfl)
theorem dX4_drawn_28 : decode cX4_drawn 28 = .ok (.sipush 2000, 3) := dk_17 7 208 (dk_at dksX4_drawn_1 4 rfl rfl)
theorem dX4_drawn_31 : decode cX4_drawn 31 = .ok (.ireturn, 1) := dk_172 (dk_at dksX4_drawn_1 7 rfl rfl)
theorem dX4_drawn_32 : decode cX4_drawn 32 = .ok (.aload_n 0, 1) := dk_42 (dk_at dksX4_drawn_1 8 rfl rfl)
theorem dX4_drawn_33 : decode cX4_drawn 33 = .ok (.aload_n 0, 1) := dk_42 (dk_at dksX4_drawn_1 9 rfl rfl)
theorem dX4_drawn_34 : decode cX4_drawn 34 = .ok (.getfield 13, 3) := dk_180 0 13 (dk_at dksX4_drawn_1 10 rfl rfl)
theorem dX4_drawn_37 : decode cX4_drawn 37 = .ok (.iconst 1, 1) := dk_4 (dk_at dksX4_drawn_1 13 rfl rfl)
theorem dX4_drawn_38 : decode cX4_drawn 38 = .ok (.iaload, 1) := dk_46 (dk_at dksX4_drawn_1 14 rfl rfl)
theorem dX4_drawn_39 : decode cX4_drawn 39 = .ok (.invokevirtual 332, 3) := dk_182 1 76 (dk_at dksX4_drawn_1 15 rfl rfl)
theorem dX4_drawn_42 : decode cX4_drawn 42 = .ok (.istore_n 2, 1) := dk_61 (dk_at dksX4_drawn_1 18 rfl rfl)
theorem dX4_drawn_43 : decode cX4_drawn 43 = .ok (.iload_n 1, 1) := dk_27 (dk_at dksX4_drawn_1 19 rfl rfl)
theorem dX4_drawn_44 : decode cX4_drawn 44 = .ok (.iconst 2, 1) := dk_5 (dk_at dksX4_drawn_1 20 rfl rfl)
theorem dX4_drawn_45 : decode cX4_drawn 45 = .ok (.if_icmp .ne 22, 3) := dk_160 0 22 (dk_at dksX4_drawn_1 21 rfl rfl)
theorem dX4_drawn_48 : decode cX4_drawn 48 = .ok (.bipush 100, 2) := dk_16 100 (dk_at dksX4_drawn_2 0 rfl rfl)
theorem dX4_drawn_50 : decode cX4_drawn 50 = .ok (.iload_n 2, 1) := dk_28 (dk_at dksX4_drawn_2 2 rfl rfl)
theorem dX4_drawn_51 : decode cX4_drawn 51 = .ok (.imul, 1) := dk_104 (dk_at dksX4_drawn_2 3 rfl rfl)
theorem dX4_drawn_52 : decode cX4_drawn 52 = .ok (.aload_n 0, 1) := dk_42 (dk_at dksX4_drawn_2 4 rfl rfl)
theorem dX4_drawn_53 : decode cX4_drawn 53 = .ok (.aload_n 0, 1) := dk_42 (dk_at dksX4_drawn_2 5 rfl rfl)
theorem dX4_drawn_54 : decode cX4_drawn 54 = .ok (.getfield 13, 3) := dk_180 0 13 (dk_at dksX4_drawn_2 6 rfl rfl)
theorem dX4_drawn_57 : decode cX4_drawn 57 = .ok (.bipush 20, 2) := dk_16 20 (dk_at dksX4_drawn_2 9 rfl rfl)
theorem dX4_drawn_59 : decode cX4_drawn 59 = .ok (.iaload, 1) := dk_46 (dk_at dksX4_drawn_2 11 rfl rfl)
theorem dX4_drawn_60 : decode cX4_drawn 60 = .ok (.invokevirtual 332, 3) := dk_182 1 76 (dk_at dksX4_drawn_2 12 rfl rfl)
theorem dX4_drawn_63 : decode cX4_drawn 63 = .ok (.iadd, 1) := dk_96 (dk_at dksX4_drawn_2 15 rfl rfl)
theorem dX4_drawn_64 : decode cX4_drawn 64 = .ok (.goto 20, 3) := dk_167 0 20 (dk_at dksX4_drawn_2 16 rfl rfl)
theorem dX4_drawn_67 : decode cX4_drawn 67 = .ok (.sipush 10000, 3) := dk_17 39 16 (dk_at dksX4_drawn_2 19 rfl rfl)
theorem dX4_drawn_70 : decode cX4_drawn 70 = .ok (.sipush 1000, 3) := dk_17 3 232 (dk_at dksX4_drawn_3 0 rfl rfl)
theorem dX4_drawn_73 : decode cX4_drawn 73 = .ok (.iload_n 2, 1) := dk_28 (dk_at dksX4_drawn_3 3 rfl rfl)
theorem dX4_drawn_74 : decode cX4_drawn 74 = .ok (.imul, 1) := dk_104 (dk_at dksX4_drawn_3 4 rfl rfl)
theorem dX4_drawn_75 : decode cX4_drawn 75 = .ok (.iadd, 1) := dk_96 (dk_at dksX4_drawn_3 5 rfl rfl)
theorem dX4_drawn_76 : decode cX4_drawn 76 = .ok (.aload_n 0, 1) := dk_42 (dk_at dksX4_drawn_3 6 rfl rfl)
theorem dX4_drawn_77 : decode cX4_drawn 77 = .ok (.sipush 1000, 3) := dk_17 3 232 (dk_at dksX4_drawn_3 7 rfl rfl)
theorem dX4_drawn_80 : decode cX4_drawn 80 = .ok (.invokevirtual 332, 3) := dk_182 1 76 (dk_at dksX4_drawn_3 10 rfl rfl)
theorem dX4_drawn_83 : decode cX4_drawn 83 = .ok (.iadd, 1) := dk_96 (dk_at dksX4_drawn_3 13 rfl rfl)
theorem dX4_drawn_84 : decode cX4_drawn 84 = .ok (.ireturn, 1) := dk_172 (dk_at dksX4_drawn_3 14 rfl rfl)
abbrev cX4_draw : ByteArray := prog_11_method_73_code
def yX4_draw : MethodName := ⟨RX4, "draw", "(I)I"⟩
def dkwX4_draw_1 : List UInt8 := [112, 172]
abbrev dktX4_draw_1 : List UInt8 := dkwX4_draw_1 ++ []
def dkwX4_draw_0 : List UInt8 := [42, 19, 1, 72, 42, 180, 1, 73, 104, 17, 48, 57, 96, 181, 1, 73, 42, 180, 1, 73, 16, 16, 124, 27]
abbrev dktX4_draw_0 : List UInt8 := dkwX4_draw_0 ++ dktX4_draw_1
theorem dksX4_draw_0 : cX4_draw.data.toList.drop 0 = dktX4_draw_0 := by decide +kernel
theorem dksX4_draw_1 : cX4_draw.data.toList.drop 24 = dktX4_draw_1 := dk_seg dksX4_draw_0 24 rfl rfl
theorem dX4_draw_0 : decode cX4_draw 0 = .ok (.aload_n 0, 1) := dk_42 (dk_at dksX4_draw_0 0 rfl rfl)
theorem dX4_draw_1 : decode cX4_draw 1 = .ok (.ldc_w 328, 3) := dk_19 1 72 (dk_at dksX4_draw_0 1 rfl rfl)
theorem dX4_draw_4 : decode cX4_draw 4 = .ok (.aload_n 0, 1) := dk_42 (dk_at dksX4_draw_0 4 rfl rfl)
theorem dX4_draw_5 : decode cX4_draw 5 = .ok (.getfield 329, 3) := dk_180 1 73 (dk_at dksX4_draw_0 5 rfl rfl)
theorem dX4_draw_8 : decode cX4_draw 8 = .ok (.imul, 1) := dk_104 (dk_at dksX4_draw_0 8 rfl rfl)
theorem dX4_draw_9 : decode cX4_draw 9 = .ok (.sipush 12345, 3) := dk_17 48 57 (dk_at dksX4_draw_0 9 rfl rfl)
theorem dX4_draw_12 : decode cX4_draw 12 = .ok (.iadd, 1) := dk_96 (dk_at dksX4_draw_0 12 rfl rfl)
theorem dX4_draw_13 : decode cX4_draw 13 = .ok (.putfield 329, 3) := dk_181 1 73 (dk_at dksX4_draw_0 13 rfl rfl)
theorem dX4_draw_16 : decode cX4_draw 16 = .ok (.aload_n 0, 1) := dk_42 (dk_at dksX4_draw_0 16 rfl rfl)
theorem dX4_draw_17 : decode cX4_draw 17 = .ok (.getfield 329, 3) := dk_180 1 73 (dk_at dksX4_draw_0 17 rfl rfl)
theorem dX4_draw_20 : decode cX4_draw 20 = .ok (.bipush 16, 2) := dk_16 16 (dk_at dksX4_draw_0 20 rfl rfl)
theorem dX4_draw_22 : decode cX4_draw 22 = .ok (.iushr, 1) := dk_124 (dk_at dksX4_draw_0 22 rfl rfl)
theorem dX4_draw_23 : decode cX4_draw 23 = .ok (.iload_n 1, 1) := dk_27 (dk_at dksX4_draw_0 23 rfl rfl)
theorem dX4_draw_24 : decode cX4_draw 24 = .ok (.irem, 1) := dk_112 (dk_at dksX4_draw_1 0 rfl rfl)
theorem dX4_draw_25 : decode cX4_draw 25 = .ok (.ireturn, 1) := dk_172 (dk_at dksX4_draw_1 1 rfl rfl)
abbrev cX4_sunkIn : ByteArray := prog_11_method_78_code
def yX4_sunkIn : MethodName := ⟨RX4, "sunkIn", "(I)I"⟩
def dkwX4_sunkIn_1 : List UInt8 := [182, 1, 90, 42, 180, 0, 42, 27, 46, 172]
abbrev dktX4_sunkIn_1 : List UInt8 := dkwX4_sunkIn_1 ++ []
def dkwX4_sunkIn_0 : List UInt8 := [42, 3, 181, 0, 1, 27, 133, 9, 20, 1, 88, 184, 0, 141, 154, 0, 6, 16, 253, 172, 42, 27]
abbrev dktX4_sunkIn_0 : List UInt8 := dkwX4_sunkIn_0 ++ dktX4_sunkIn_1
theorem dksX4_sunkIn_0 : cX4_sunkIn.data.toList.drop 0 = dktX4_sunkIn_0 := by decide +kernel
theorem dksX4_sunkIn_1 : cX4_sunkIn.data.toList.drop 22 = dktX4_sunkIn_1 := dk_seg dksX4_sunkIn_0 22 rfl rfl
theorem dX4_sunkIn_0 : decode cX4_sunkIn 0 = .ok (.aload_n 0, 1) := dk_42 (dk_at dksX4_sunkIn_0 0 rfl rfl)
theorem dX4_sunkIn_1 : decode cX4_sunkIn 1 = .ok (.iconst 0, 1) := dk_3 (dk_at dksX4_sunkIn_0 1 rfl rfl)
theorem dX4_sunkIn_2 : decode cX4_sunkIn 2 = .ok (.putfield 1, 3) := dk_181 0 1 (dk_at dksX4_sunkIn_0 2 rfl rfl)
theorem dX4_sunkIn_5 : decode cX4_sunkIn 5 = .ok (.iload_n 1, 1) := dk_27 (dk_at dksX4_sunkIn_0 5 rfl rfl)
theorem dX4_sunkIn_6 : decode cX4_sunkIn 6 = .ok (.i2l, 1) := dk_133 (dk_at dksX4_sunkIn_0 6 rfl rfl)
theorem dX4_sunkIn_7 : decode cX4_sunkIn 7 = .ok (.lconst 0, 1) := dk_9 (dk_at dksX4_sunkIn_0 7 rfl rfl)
theorem dX4_sunkIn_8 : decode cX4_sunkIn 8 = .ok (.ldc2_w 344, 3) := dk_20 1 88 (dk_at dksX4_sunkIn_0 8 rfl rfl)
theorem dX4_sunkIn_11 : decode cX4_sunkIn 11 = .ok (.invokestatic 141, 3) := dk_184 0 141 (dk_at dksX4_sunkIn_0 11 rfl rfl)
theorem dX4_sunkIn_14 : decode cX4_sunkIn 14 = .ok (.ifCond .ne 6, 3) := dk_154 0 6 (dk_at dksX4_sunkIn_0 14 rfl rfl)
theorem dX4_sunkIn_17 : decode cX4_sunkIn 17 = .ok (.bipush (-3), 2) := dk_16 253 (dk_at dksX4_sunkIn_0 17 rfl rfl)
theorem dX4_sunkIn_19 : decode cX4_sunkIn 19 = .ok (.ireturn, 1) := dk_172 (dk_at dksX4_sunkIn_0 19 rfl rfl)
theorem dX4_sunkIn_20 : decode cX4_sunkIn 20 = .ok (.aload_n 0, 1) := dk_42 (dk_at dksX4_sunkIn_0 20 rfl rfl)
theorem dX4_sunkIn_21 : decode cX4_sunkIn 21 = .ok (.iload_n 1, 1) := dk_27 (dk_at dksX4_sunkIn_0 21 rfl rfl)
theorem dX4_sunkIn_22 : decode cX4_sunkIn 22 = .ok (.invokevirtual 346, 3) := dk_182 1 90 (dk_at dksX4_sunkIn_1 0 rfl rfl)
theorem dX4_sunkIn_25 : decode cX4_sunkIn 25 = .ok (.aload_n 0, 1) := dk_42 (dk_at dksX4_sunkIn_1 3 rfl rfl)
theorem dX4_sunkIn_26 : decode cX4_sunkIn 26 = .ok (.getfield 42, 3) := dk_180 0 42 (dk_at dksX4_sunkIn_1 4 rfl rfl)
theorem dX4_sunkIn_29 : decode cX4_sunkIn 29 = .ok (.iload_n 1, 1) := dk_27 (dk_at dksX4_sunkIn_1 7 rfl rfl)
theorem dX4_sunkIn_30 : decode cX4_sunkIn 30 = .ok (.iaload, 1) := dk_46 (dk_at dksX4_sunkIn_1 8 rfl rfl)
theorem dX4_sunkIn_31 : decode cX4_sunkIn 31 = .ok (.ireturn, 1) := dk_172 (dk_at dksX4_sunkIn_1 9 rfl rfl)
abbrev cX4_laysAll : ByteArray := prog_11_method_77_code
def yX4_laysAll : MethodName := ⟨RX4, "laysAll", "(I)V"⟩
def dkwX4_laysAll_0 : List UInt8 := [42, 27, 42, 2, 182, 0, 232, 182, 1, 84, 177]
abbrev dktX4_laysAll_0 : List UInt8 := dkwX4_laysAll_0 ++ []
theorem dksX4_laysAll_0 : cX4_laysAll.data.toList.drop 0 = dktX4_laysAll_0 := by decide +kernel
theorem dX4_laysAll_0 : decode cX4_laysAll 0 = .ok (.aload_n 0, 1) := dk_42 (dk_at dksX4_laysAll_0 0 rfl rfl)
theorem dX4_laysAll_1 : decode cX4_laysAll 1 = .ok (.iload_n 1, 1) := dk_27 (dk_at dksX4_laysAll_0 1 rfl rfl)
theorem dX4_laysAll_2 : decode cX4_laysAll 2 = .ok (.aload_n 0, 1) := dk_42 (dk_at dksX4_laysAll_0 2 rfl rfl)
theorem dX4_laysAll_3 : decode cX4_laysAll 3 = .ok (.iconst (-1), 1) := dk_2 (dk_at dksX4_laysAll_0 3 rfl rfl)
theorem dX4_laysAll_4 : decode cX4_laysAll 4 = .ok (.invokevirtual 232, 3) := dk_182 0 232 (dk_at dksX4_laysAll_0 4 rfl rfl)
theorem dX4_laysAll_7 : decode cX4_laysAll 7 = .ok (.invokevirtual 340, 3) := dk_182 1 84 (dk_at dksX4_laysAll_0 7 rfl rfl)
theorem dX4_laysAll_10 : decode cX4_laysAll 10 = .ok (.return_, 1) := dk_177 (dk_at dksX4_laysAll_0 10 rfl rfl)
abbrev cX4_laysSunk : ByteArray := prog_11_method_76_code
def yX4_laysSunk : MethodName := ⟨RX4, "laysSunk", "(II)V"⟩
def dkwX4_laysSunk_2 : List UInt8 := [42, 180, 0, 13, 16, 42, 46, 29, 96, 182, 0, 235, 184, 0, 245, 79, 132, 3, 1, 167, 255, 204, 177]
abbrev dktX4_laysSunk_2 : List UInt8 := dkwX4_laysSunk_2 ++ []
def dkwX4_laysSunk_1 : List UInt8 := [29, 4, 96, 42, 180, 0, 42, 29, 46, 42, 28, 42, 180, 0, 13, 16, 20, 46, 42, 180, 0, 42, 29, 46]
abbrev dktX4_laysSunk_1 : List UInt8 := dkwX4_laysSunk_1 ++ dktX4_laysSunk_2
def dkwX4_laysSunk_0 : List UInt8 := [42, 180, 0, 42, 3, 42, 180, 0, 13, 16, 41, 46, 79, 3, 62, 29, 27, 162, 0, 53, 42, 180, 0, 42]
abbrev dktX4_laysSunk_0 : List UInt8 := dkwX4_laysSunk_0 ++ dktX4_laysSunk_1
theorem dksX4_laysSunk_0 : cX4_laysSunk.data.toList.drop 0 = dktX4_laysSunk_0 := by decide +kernel
theorem dksX4_laysSunk_1 : cX4_laysSunk.data.toList.drop 24 = dktX4_laysSunk_1 := dk_seg dksX4_laysSunk_0 24 rfl rfl
theorem dksX4_laysSunk_2 : cX4_laysSunk.data.toList.drop 48 = dktX4_laysSunk_2 := dk_seg dksX4_laysSunk_1 24 rfl rfl
theorem dX4_laysSunk_0 : decode cX4_laysSunk 0 = .ok (.aload_n 0, 1) := dk_42 (dk_at dksX4_laysSunk_0 0 rfl rfl)
theorem dX4_laysSunk_1 : decode cX4_laysSunk 1 = .ok (.getfield 42, 3) := dk_180 0 42 (dk_at dksX4_laysSunk_0 1 rfl rfl)
theorem dX4_laysSunk_4 : decode cX4_laysSunk 4 = .ok (.iconst 0, 1) := dk_3 (dk_at dksX4_laysSunk_0 4 rfl rfl)
theorem dX4_laysSunk_5 : decode cX4_laysSunk 5 = .ok (.aload_n 0, 1) := dk_42 (dk_at dksX4_laysSunk_0 5 rfl rfl)
theorem dX4_laysSunk_6 : decode cX4_laysSunk 6 = .ok (.getfield 13, 3) := dk_180 0 13 (dk_at dksX4_laysSunk_0 6 rfl rfl)
theorem dX4_laysSunk_9 : decode cX4_laysSunk 9 = .ok (.bipush 41, 2) := dk_16 41 (dk_at dksX4_laysSunk_0 9 rfl rfl)
theorem dX4_laysSunk_11 : decode cX4_laysSunk 11 = .ok (.iaload, 1) := dk_46 (dk_at dksX4_laysSunk_0 11 rfl rfl)
theorem dX4_laysSunk_12 : decode cX4_laysSunk 12 = .ok (.iastore, 1) := dk_79 (dk_at dksX4_laysSunk_0 12 rfl rfl)
theorem dX4_laysSunk_13 : decode cX4_laysSunk 13 = .ok (.iconst 0, 1) := dk_3 (dk_at dksX4_laysSunk_0 13 rfl rfl)
theorem dX4_laysSunk_14 : decode cX4_laysSunk 14 = .ok (.istore_n 3, 1) := dk_62 (dk_at dksX4_laysSunk_0 14 rfl rfl)
theorem dX4_laysSunk_15 : decode cX4_laysSunk 15 = .ok (.iload_n 3, 1) := dk_29 (dk_at dksX4_laysSunk_0 15 rfl rfl)
theorem dX4_laysSunk_16 : decode cX4_laysSunk 16 = .ok (.iload_n 1, 1) := dk_27 (dk_at dksX4_laysSunk_0 16 rfl rfl)
theorem dX4_laysSunk_17 : decode cX4_laysSunk 17 = .ok (.if_icmp .ge 53, 3) := dk_162 0 53 (dk_at dksX4_laysSunk_0 17 rfl rfl)
theorem dX4_laysSunk_20 : decode cX4_laysSunk 20 = .ok (.aload_n 0, 1) := dk_42 (dk_at dksX4_laysSunk_0 20 rfl rfl)
theorem dX4_laysSunk_21 : decode cX4_laysSunk 21 = .ok (.getfield 42, 3) := dk_180 0 42 (dk_at dksX4_laysSunk_0 21 rfl rfl)
theorem dX4_laysSunk_24 : decode cX4_laysSunk 24 = .ok (.iload_n 3, 1) := dk_29 (dk_at dksX4_laysSunk_1 0 rfl rfl)
theorem dX4_laysSunk_25 : decode cX4_laysSunk 25 = .ok (.iconst 1, 1) := dk_4 (dk_at dksX4_laysSunk_1 1 rfl rfl)
theorem dX4_laysSunk_26 : decode cX4_laysSunk 26 = .ok (.iadd, 1) := dk_96 (dk_at dksX4_laysSunk_1 2 rfl rfl)
theorem dX4_laysSunk_27 : decode cX4_laysSunk 27 = .ok (.aload_n 0, 1) := dk_42 (dk_at dksX4_laysSunk_1 3 rfl rfl)
theorem dX4_laysSunk_28 : decode cX4_laysSunk 28 = .ok (.getfield 42, 3) := dk_180 0 42 (dk_at dksX4_laysSunk_1 4 rfl rfl)
theorem dX4_laysSunk_31 : decode cX4_laysSunk 31 = .ok (.iload_n 3, 1) := dk_29 (dk_at dksX4_laysSunk_1 7 rfl rfl)
theorem dX4_laysSunk_32 : decode cX4_laysSunk 32 = .ok (.iaload, 1) := dk_46 (dk_at dksX4_laysSunk_1 8 rfl rfl)
theorem dX4_laysSunk_33 : decode cX4_laysSunk 33 = .ok (.aload_n 0, 1) := dk_42 (dk_at dksX4_laysSunk_1 9 rfl rfl)
theorem dX4_laysSunk_34 : decode cX4_laysSunk 34 = .ok (.iload_n 2, 1) := dk_28 (dk_at dksX4_laysSunk_1 10 rfl rfl)
theorem dX4_laysSunk_35 : decode cX4_laysSunk 35 = .ok (.aload_n 0, 1) := dk_42 (dk_at dksX4_laysSunk_1 11 rfl rfl)
theorem dX4_laysSunk_36 : decode cX4_laysSunk 36 = .ok (.getfield 13, 3) := dk_180 0 13 (dk_at dksX4_laysSunk_1 12 rfl rfl)
theorem dX4_laysSunk_39 : decode cX4_laysSunk 39 = .ok (.bipush 20, 2) := dk_16 20 (dk_at dksX4_laysSunk_1 15 rfl rfl)
theorem dX4_laysSunk_41 : decode cX4_laysSunk 41 = .ok (.iaload, 1) := dk_46 (dk_at dksX4_laysSunk_1 17 rfl rfl)
theorem dX4_laysSunk_42 : decode cX4_laysSunk 42 = .ok (.aload_n 0, 1) := dk_42 (dk_at dksX4_laysSunk_1 18 rfl rfl)
theorem dX4_laysSunk_43 : decode cX4_laysSunk 43 = .ok (.getfield 42, 3) := dk_180 0 42 (dk_at dksX4_laysSunk_1 19 rfl rfl)
theorem dX4_laysSunk_46 : decode cX4_laysSunk 46 = .ok (.iload_n 3, 1) := dk_29 (dk_at dksX4_laysSunk_1 22 rfl rfl)
theorem dX4_laysSunk_47 : decode cX4_laysSunk 47 = .ok (.iaload, 1) := dk_46 (dk_at dksX4_laysSunk_1 23 rfl rfl)
theorem dX4_laysSunk_48 : decode cX4_laysSunk 48 = .ok (.aload_n 0, 1) := dk_42 (dk_at dksX4_laysSunk_2 0 rfl rfl)
theorem dX4_laysSunk_49 : decode cX4_laysSunk 49 = .ok (.getfield 13, 3) := dk_180 0 13 (dk_at dksX4_laysSunk_2 1 rfl rfl)
theorem dX4_laysSunk_52 : decode cX4_laysSunk 52 = .ok (.bipush 42, 2) := dk_16 42 (dk_at dksX4_laysSunk_2 4 rfl rfl)
theorem dX4_laysSunk_54 : decode cX4_laysSunk 54 = .ok (.iaload, 1) := dk_46 (dk_at dksX4_laysSunk_2 6 rfl rfl)
theorem dX4_laysSunk_55 : decode cX4_laysSunk 55 = .ok (.iload_n 3, 1) := dk_29 (dk_at dksX4_laysSunk_2 7 rfl rfl)
theorem dX4_laysSunk_56 : decode cX4_laysSunk 56 = .ok (.iadd, 1) := dk_96 (dk_at dksX4_laysSunk_2 8 rfl rfl)
theorem dX4_laysSunk_57 : decode cX4_laysSunk 57 = .ok (.invokevirtual 235, 3) := dk_182 0 235 (dk_at dksX4_laysSunk_2 9 rfl rfl)
theorem dX4_laysSunk_60 : decode cX4_laysSunk 60 = .ok (.invokestatic 245, 3) := dk_184 0 245 (dk_at dksX4_laysSunk_2 12 rfl rfl)
theorem dX4_laysSunk_63 : decode cX4_laysSunk 63 = .ok (.iastore, 1) := dk_79 (dk_at dksX4_laysSunk_2 15 rfl rfl)
theorem dX4_laysSunk_64 : decode cX4_laysSunk 64 = .ok (.iinc 3 1, 3) := dk_132 3 1 (dk_at dksX4_laysSunk_2 16 rfl rfl)
theorem dX4_laysSunk_67 : decode cX4_laysSunk 67 = .ok (.goto (-52), 3) := dk_167 255 204 (dk_at dksX4_laysSunk_2 19 rfl rfl)
theorem dX4_laysSunk_70 : decode cX4_laysSunk 70 = .ok (.return_, 1) := dk_177 (dk_at dksX4_laysSunk_2 22 rfl rfl)
abbrev cX4_heightIn : ByteArray := prog_11_method_79_code
def yX4_heightIn : MethodName := ⟨RX4, "heightIn", "(II)I"⟩
def dkwX4_heightIn_2 : List UInt8 := [184, 0, 213, 172]
abbrev dktX4_heightIn_2 : List UInt8 := dkwX4_heightIn_2 ++ []
def dkwX4_heightIn_1 : List UInt8 := [184, 0, 141, 154, 0, 7, 19, 1, 93, 172, 42, 28, 182, 1, 90, 27, 42, 180, 0, 42, 28, 46]
abbrev dktX4_heightIn_1 : List UInt8 := dkwX4_heightIn_1 ++ dktX4_heightIn_2
def dkwX4_heightIn_0 : List UInt8 := [42, 3, 181, 0, 1, 42, 27, 133, 182, 0, 220, 154, 0, 6, 18, 241, 172, 28, 133, 9, 20, 1, 88]
abbrev dktX4_heightIn_0 : List UInt8 := dkwX4_heightIn_0 ++ dktX4_heightIn_1
theorem dksX4_heightIn_0 : cX4_heightIn.data.toList.drop 0 = dktX4_heightIn_0 := by decide +kernel
theorem dksX4_heightIn_1 : cX4_heightIn.data.toList.drop 23 = dktX4_heightIn_1 := dk_seg dksX4_heightIn_0 23 rfl rfl
theorem dksX4_heightIn_2 : cX4_heightIn.data.toList.drop 45 = dktX4_heightIn_2 := dk_seg dksX4_heightIn_1 22 rfl rfl
theorem dX4_heightIn_0 : decode cX4_heightIn 0 = .ok (.aload_n 0, 1) := dk_42 (dk_at dksX4_heightIn_0 0 rfl rfl)
theorem dX4_heightIn_1 : decode cX4_heightIn 1 = .ok (.iconst 0, 1) := dk_3 (dk_at dksX4_heightIn_0 1 rfl rfl)
theorem dX4_heightIn_2 : decode cX4_heightIn 2 = .ok (.putfield 1, 3) := dk_181 0 1 (dk_at dksX4_heightIn_0 2 rfl rfl)
theorem dX4_heightIn_5 : decode cX4_heightIn 5 = .ok (.aload_n 0, 1) := dk_42 (dk_at dksX4_heightIn_0 5 rfl rfl)
theorem dX4_heightIn_6 : decode cX4_heightIn 6 = .ok (.iload_n 1, 1) := dk_27 (dk_at dksX4_heightIn_0 6 rfl rfl)
theorem dX4_heightIn_7 : decode cX4_heightIn 7 = .ok (.i2l, 1) := dk_133 (dk_at dksX4_heightIn_0 7 rfl rfl)
theorem dX4_heightIn_8 : decode cX4_heightIn 8 = .ok (.invokevirtual 220, 3) := dk_182 0 220 (dk_at dksX4_heightIn_0 8 rfl rfl)
theorem dX4_heightIn_11 : decode cX4_heightIn 11 = .ok (.ifCond .ne 6, 3) := dk_154 0 6 (dk_at dksX4_heightIn_0 11 rfl rfl)
theorem dX4_heightIn_14 : decode cX4_heightIn 14 = .ok (.ldc 241, 2) := dk_18 241 (dk_at dksX4_heightIn_0 14 rfl rfl)
theorem dX4_heightIn_16 : decode cX4_heightIn 16 = .ok (.ireturn, 1) := dk_172 (dk_at dksX4_heightIn_0 16 rfl rfl)
theorem dX4_heightIn_17 : decode cX4_heightIn 17 = .ok (.iload_n 2, 1) := dk_28 (dk_at dksX4_heightIn_0 17 rfl rfl)
theorem dX4_heightIn_18 : decode cX4_heightIn 18 = .ok (.i2l, 1) := dk_133 (dk_at dksX4_heightIn_0 18 rfl rfl)
theorem dX4_heightIn_19 : decode cX4_heightIn 19 = .ok (.lconst 0, 1) := dk_9 (dk_at dksX4_heightIn_0 19 rfl rfl)
theorem dX4_heightIn_20 : decode cX4_heightIn 20 = .ok (.ldc2_w 344, 3) := dk_20 1 88 (dk_at dksX4_heightIn_0 20 rfl rfl)
theorem dX4_heightIn_23 : decode cX4_heightIn 23 = .ok (.invokestatic 141, 3) := dk_184 0 141 (dk_at dksX4_heightIn_1 0 rfl rfl)
theorem dX4_heightIn_26 : decode cX4_heightIn 26 = .ok (.ifCond .ne 7, 3) := dk_154 0 7 (dk_at dksX4_heightIn_1 3 rfl rfl)
theorem dX4_heightIn_29 : decode cX4_heightIn 29 = .ok (.ldc_w 349, 3) := dk_19 1 93 (dk_at dksX4_heightIn_1 6 rfl rfl)
theorem dX4_heightIn_32 : decode cX4_heightIn 32 = .ok (.ireturn, 1) := dk_172 (dk_at dksX4_heightIn_1 9 rfl rfl)
theorem dX4_heightIn_33 : decode cX4_heightIn 33 = .ok (.aload_n 0, 1) := dk_42 (dk_at dksX4_heightIn_1 10 rfl rfl)
theorem dX4_heightIn_34 : decode cX4_heightIn 34 = .ok (.iload_n 2, 1) := dk_28 (dk_at dksX4_heightIn_1 11 rfl rfl)
theorem dX4_heightIn_35 : decode cX4_heightIn 35 = .ok (.invokevirtual 346, 3) := dk_182 1 90 (dk_at dksX4_heightIn_1 12 rfl rfl)
theorem dX4_heightIn_38 : decode cX4_heightIn 38 = .ok (.iload_n 1, 1) := dk_27 (dk_at dksX4_heightIn_1 15 rfl rfl)
theorem dX4_heightIn_39 : decode cX4_heightIn 39 = .ok (.aload_n 0, 1) := dk_42 (dk_at dksX4_heightIn_1 16 rfl rfl)
theorem dX4_heightIn_40 : decode cX4_heightIn 40 = .ok (.getfield 42, 3) := dk_180 0 42 (dk_at dksX4_heightIn_1 17 rfl rfl)
theorem dX4_heightIn_43 : decode cX4_heightIn 43 = .ok (.iload_n 2, 1) := dk_28 (dk_at dksX4_heightIn_1 20 rfl rfl)
theorem dX4_heightIn_44 : decode cX4_heightIn 44 = .ok (.iaload, 1) := dk_46 (dk_at dksX4_heightIn_1 21 rfl rfl)
theorem dX4_heightIn_45 : decode cX4_heightIn 45 = .ok (.invokestatic 213, 3) := dk_184 0 213 (dk_at dksX4_heightIn_2 0 rfl rfl)
theorem dX4_heightIn_48 : decode cX4_heightIn 48 = .ok (.ireturn, 1) := dk_172 (dk_at dksX4_heightIn_2 3 rfl rfl)
abbrev cX4_doorIn : ByteArray := prog_11_method_80_code
def yX4_doorIn : MethodName := ⟨RX4, "doorIn", "(I)I"⟩
def dkwX4_doorIn_2 : List UInt8 := [184, 0, 205, 154, 0, 5, 28, 172, 132, 2, 1, 167, 255, 227, 2, 172]
abbrev dktX4_doorIn_2 : List UInt8 := dkwX4_doorIn_2 ++ []
def dkwX4_doorIn_1 : List UInt8 := [182, 1, 90, 3, 61, 28, 42, 180, 0, 13, 16, 20, 46, 162, 0, 24, 28, 42, 180, 0, 42, 27, 46]
abbrev dktX4_doorIn_1 : List UInt8 := dkwX4_doorIn_1 ++ dktX4_doorIn_2
def dkwX4_doorIn_0 : List UInt8 := [42, 3, 181, 0, 1, 27, 133, 9, 20, 1, 88, 184, 0, 141, 154, 0, 6, 16, 253, 172, 42, 27]
abbrev dktX4_doorIn_0 : List UInt8 := dkwX4_doorIn_0 ++ dktX4_doorIn_1
theorem dksX4_doorIn_0 : cX4_doorIn.data.toList.drop 0 = dktX4_doorIn_0 := by decide +kernel
theorem dksX4_doorIn_1 : cX4_doorIn.data.toList.drop 22 = dktX4_doorIn_1 := dk_seg dksX4_doorIn_0 22 rfl rfl
theorem dksX4_doorIn_2 : cX4_doorIn.data.toList.drop 45 = dktX4_doorIn_2 := dk_seg dksX4_doorIn_1 23 rfl rfl
theorem dX4_doorIn_0 : decode cX4_doorIn 0 = .ok (.aload_n 0, 1) := dk_42 (dk_at dksX4_doorIn_0 0 rfl rfl)
theorem dX4_doorIn_1 : decode cX4_doorIn 1 = .ok (.iconst 0, 1) := dk_3 (dk_at dksX4_doorIn_0 1 rfl rfl)
theorem dX4_doorIn_2 : decode cX4_doorIn 2 = .ok (.putfield 1, 3) := dk_181 0 1 (dk_at dksX4_doorIn_0 2 rfl rfl)
theorem dX4_doorIn_5 : decode cX4_doorIn 5 = .ok (.iload_n 1, 1) := dk_27 (dk_at dksX4_doorIn_0 5 rfl rfl)
theorem dX4_doorIn_6 : decode cX4_doorIn 6 = .ok (.i2l, 1) := dk_133 (dk_at dksX4_doorIn_0 6 rfl rfl)
theorem dX4_doorIn_7 : decode cX4_doorIn 7 = .ok (.lconst 0, 1) := dk_9 (dk_at dksX4_doorIn_0 7 rfl rfl)
theorem dX4_doorIn_8 : decode cX4_doorIn 8 = .ok (.ldc2_w 344, 3) := dk_20 1 88 (dk_at dksX4_doorIn_0 8 rfl rfl)
theorem dX4_doorIn_11 : decode cX4_doorIn 11 = .ok (.invokestatic 141, 3) := dk_184 0 141 (dk_at dksX4_doorIn_0 11 rfl rfl)
theorem dX4_doorIn_14 : decode cX4_doorIn 14 = .ok (.ifCond .ne 6, 3) := dk_154 0 6 (dk_at dksX4_doorIn_0 14 rfl rfl)
theorem dX4_doorIn_17 : decode cX4_doorIn 17 = .ok (.bipush (-3), 2) := dk_16 253 (dk_at dksX4_doorIn_0 17 rfl rfl)
theorem dX4_doorIn_19 : decode cX4_doorIn 19 = .ok (.ireturn, 1) := dk_172 (dk_at dksX4_doorIn_0 19 rfl rfl)
theorem dX4_doorIn_20 : decode cX4_doorIn 20 = .ok (.aload_n 0, 1) := dk_42 (dk_at dksX4_doorIn_0 20 rfl rfl)
theorem dX4_doorIn_21 : decode cX4_doorIn 21 = .ok (.iload_n 1, 1) := dk_27 (dk_at dksX4_doorIn_0 21 rfl rfl)
theorem dX4_doorIn_22 : decode cX4_doorIn 22 = .ok (.invokevirtual 346, 3) := dk_182 1 90 (dk_at dksX4_doorIn_1 0 rfl rfl)
theorem dX4_doorIn_25 : decode cX4_doorIn 25 = .ok (.iconst 0, 1) := dk_3 (dk_at dksX4_doorIn_1 3 rfl rfl)
theorem dX4_doorIn_26 : decode cX4_doorIn 26 = .ok (.istore_n 2, 1) := dk_61 (dk_at dksX4_doorIn_1 4 rfl rfl)
theorem dX4_doorIn_27 : decode cX4_doorIn 27 = .ok (.iload_n 2, 1) := dk_28 (dk_at dksX4_doorIn_1 5 rfl rfl)
theorem dX4_doorIn_28 : decode cX4_doorIn 28 = .ok (.aload_n 0, 1) := dk_42 (dk_at dksX4_doorIn_1 6 rfl rfl)
theorem dX4_doorIn_29 : decode cX4_doorIn 29 = .ok (.getfield 13, 3) := dk_180 0 13 (dk_at dksX4_doorIn_1 7 rfl rfl)
theorem dX4_doorIn_32 : decode cX4_doorIn 32 = .ok (.bipush 20, 2) := dk_16 20 (dk_at dksX4_doorIn_1 10 rfl rfl)
theorem dX4_doorIn_34 : decode cX4_doorIn 34 = .ok (.iaload, 1) := dk_46 (dk_at dksX4_doorIn_1 12 rfl rfl)
theorem dX4_doorIn_35 : decode cX4_doorIn 35 = .ok (.if_icmp .ge 24, 3) := dk_162 0 24 (dk_at dksX4_doorIn_1 13 rfl rfl)
theorem dX4_doorIn_38 : decode cX4_doorIn 38 = .ok (.iload_n 2, 1) := dk_28 (dk_at dksX4_doorIn_1 16 rfl rfl)
theorem dX4_doorIn_39 : decode cX4_doorIn 39 = .ok (.aload_n 0, 1) := dk_42 (dk_at dksX4_doorIn_1 17 rfl rfl)
theorem dX4_doorIn_40 : decode cX4_doorIn 40 = .ok (.getfield 42, 3) := dk_180 0 42 (dk_at dksX4_doorIn_1 18 rfl rfl)
theorem dX4_doorIn_43 : decode cX4_doorIn 43 = .ok (.iload_n 1, 1) := dk_27 (dk_at dksX4_doorIn_1 21 rfl rfl)
theorem dX4_doorIn_44 : decode cX4_doorIn 44 = .ok (.iaload, 1) := dk_46 (dk_at dksX4_doorIn_1 22 rfl rfl)
theorem dX4_doorIn_45 : decode cX4_doorIn 45 = .ok (.invokestatic 205, 3) := dk_184 0 205 (dk_at dksX4_doorIn_2 0 rfl rfl)
theorem dX4_doorIn_48 : decode cX4_doorIn 48 = .ok (.ifCond .ne 5, 3) := dk_154 0 5 (dk_at dksX4_doorIn_2 3 rfl rfl)
theorem dX4_doorIn_51 : decode cX4_doorIn 51 = .ok (.iload_n 2, 1) := dk_28 (dk_at dksX4_doorIn_2 6 rfl rfl)
theorem dX4_doorIn_52 : decode cX4_doorIn 52 = .ok (.ireturn, 1) := dk_172 (dk_at dksX4_doorIn_2 7 rfl rfl)
theorem dX4_doorIn_53 : decode cX4_doorIn 53 = .ok (.iinc 2 1, 3) := dk_132 2 1 (dk_at dksX4_doorIn_2 8 rfl rfl)
theorem dX4_doorIn_56 : decode cX4_doorIn 56 = .ok (.goto (-29), 3) := dk_167 255 227 (dk_at dksX4_doorIn_2 11 rfl rfl)
theorem dX4_doorIn_59 : decode cX4_doorIn 59 = .ok (.iconst (-1), 1) := dk_2 (dk_at dksX4_doorIn_2 14 rfl rfl)
theorem dX4_doorIn_60 : decode cX4_doorIn 60 = .ok (.ireturn, 1) := dk_172 (dk_at dksX4_doorIn_2 15 rfl rfl)
abbrev cX4_buriedIn : ByteArray := prog_11_method_82_code
def yX4_buriedIn : MethodName := ⟨RX4, "buriedIn", "(I)I"⟩
def dkwX4_buriedIn_1 : List UInt8 := [182, 1, 94, 167, 0, 5, 16, 254, 172]
abbrev dktX4_buriedIn_1 : List UInt8 := dkwX4_buriedIn_1 ++ []
def dkwX4_buriedIn_0 : List UInt8 := [42, 3, 181, 0, 1, 42, 27, 133, 182, 0, 220, 153, 0, 17, 42, 17, 0, 144, 27, 4, 96, 104]
abbrev dktX4_buriedIn_0 : List UInt8 := dkwX4_buriedIn_0 ++ dktX4_buriedIn_1
theorem dksX4_buriedIn_0 : cX4_buriedIn.data.toList.drop 0 = dktX4_buriedIn_0 := by decide +kernel
theorem dksX4_buriedIn_1 : cX4_buriedIn.data.toList.drop 22 = dktX4_buriedIn_1 := dk_seg dksX4_buriedIn_0 22 rfl rfl
theorem dX4_buriedIn_0 : decode cX4_buriedIn 0 = .ok (.aload_n 0, 1) := dk_42 (dk_at dksX4_buriedIn_0 0 rfl rfl)
theorem dX4_buriedIn_1 : decode cX4_buriedIn 1 = .ok (.iconst 0, 1) := dk_3 (dk_at dksX4_buriedIn_0 1 rfl rfl)
theorem dX4_buriedIn_2 : decode cX4_buriedIn 2 = .ok (.putfield 1, 3) := dk_181 0 1 (dk_at dksX4_buriedIn_0 2 rfl rfl)
theorem dX4_buriedIn_5 : decode cX4_buriedIn 5 = .ok (.aload_n 0, 1) := dk_42 (dk_at dksX4_buriedIn_0 5 rfl rfl)
theorem dX4_buriedIn_6 : decode cX4_buriedIn 6 = .ok (.iload_n 1, 1) := dk_27 (dk_at dksX4_buriedIn_0 6 rfl rfl)
theorem dX4_buriedIn_7 : decode cX4_buriedIn 7 = .ok (.i2l, 1) := dk_133 (dk_at dksX4_buriedIn_0 7 rfl rfl)
theorem dX4_buriedIn_8 : decode cX4_buriedIn 8 = .ok (.invokevirtual 220, 3) := dk_182 0 220 (dk_at dksX4_buriedIn_0 8 rfl rfl)
theorem dX4_buriedIn_11 : decode cX4_buriedIn 11 = .ok (.ifCond .eq 17, 3) := dk_153 0 17 (dk_at dksX4_buriedIn_0 11 rfl rfl)
theorem dX4_buriedIn_14 : decode cX4_buriedIn 14 = .ok (.aload_n 0, 1) := dk_42 (dk_at dksX4_buriedIn_0 14 rfl rfl)
theorem dX4_buriedIn_15 : decode cX4_buriedIn 15 = .ok (.sipush 144, 3) := dk_17 0 144 (dk_at dksX4_buriedIn_0 15 rfl rfl)
theorem dX4_buriedIn_18 : decode cX4_buriedIn 18 = .ok (.iload_n 1, 1) := dk_27 (dk_at dksX4_buriedIn_0 18 rfl rfl)
theorem dX4_buriedIn_19 : decode cX4_buriedIn 19 = .ok (.iconst 1, 1) := dk_4 (dk_at dksX4_buriedIn_0 19 rfl rfl)
theorem dX4_buriedIn_20 : decode cX4_buriedIn 20 = .ok (.iadd, 1) := dk_96 (dk_at dksX4_buriedIn_0 20 rfl rfl)
theorem dX4_buriedIn_21 : decode cX4_buriedIn 21 = .ok (.imul, 1) := dk_104 (dk_at dksX4_buriedIn_0 21 rfl rfl)
theorem dX4_buriedIn_22 : decode cX4_buriedIn 22 = .ok (.invokevirtual 350, 3) := dk_182 1 94 (dk_at dksX4_buriedIn_1 0 rfl rfl)
theorem dX4_buriedIn_25 : decode cX4_buriedIn 25 = .ok (.goto 5, 3) := dk_167 0 5 (dk_at dksX4_buriedIn_1 3 rfl rfl)
theorem dX4_buriedIn_28 : decode cX4_buriedIn 28 = .ok (.bipush (-2), 2) := dk_16 254 (dk_at dksX4_buriedIn_1 6 rfl rfl)
theorem dX4_buriedIn_30 : decode cX4_buriedIn 30 = .ok (.ireturn, 1) := dk_172 (dk_at dksX4_buriedIn_1 8 rfl rfl)
abbrev cX4_sunkFirst : ByteArray := prog_11_method_81_code
def yX4_sunkFirst : MethodName := ⟨RX4, "sunkFirst", "(I)I"⟩
def dkwX4_sunkFirst_1 : List UInt8 := [161, 0, 5, 28, 172, 132, 2, 1, 167, 255, 234, 2, 172]
abbrev dktX4_sunkFirst_1 : List UInt8 := dkwX4_sunkFirst_1 ++ []
def dkwX4_sunkFirst_0 : List UInt8 := [42, 17, 2, 88, 182, 1, 90, 3, 61, 28, 17, 2, 88, 163, 0, 21, 42, 180, 0, 42, 28, 46, 27]
abbrev dktX4_sunkFirst_0 : List UInt8 := dkwX4_sunkFirst_0 ++ dktX4_sunkFirst_1
theorem dksX4_sunkFirst_0 : cX4_sunkFirst.data.toList.drop 0 = dktX4_sunkFirst_0 := by decide +kernel
theorem dksX4_sunkFirst_1 : cX4_sunkFirst.data.toList.drop 23 = dktX4_sunkFirst_1 := dk_seg dksX4_sunkFirst_0 23 rfl rfl
theorem dX4_sunkFirst_0 : decode cX4_sunkFirst 0 = .ok (.aload_n 0, 1) := dk_42 (dk_at dksX4_sunkFirst_0 0 rfl rfl)
theorem dX4_sunkFirst_1 : decode cX4_sunkFirst 1 = .ok (.sipush 600, 3) := dk_17 2 88 (dk_at dksX4_sunkFirst_0 1 rfl rfl)
theorem dX4_sunkFirst_4 : decode cX4_sunkFirst 4 = .ok (.invokevirtual 346, 3) := dk_182 1 90 (dk_at dksX4_sunkFirst_0 4 rfl rfl)
theorem dX4_sunkFirst_7 : decode cX4_sunkFirst 7 = .ok (.iconst 0, 1) := dk_3 (dk_at dksX4_sunkFirst_0 7 rfl rfl)
theorem dX4_sunkFirst_8 : decode cX4_sunkFirst 8 = .ok (.istore_n 2, 1) := dk_61 (dk_at dksX4_sunkFirst_0 8 rfl rfl)
theorem dX4_sunkFirst_9 : decode cX4_sunkFirst 9 = .ok (.iload_n 2, 1) := dk_28 (dk_at dksX4_sunkFirst_0 9 rfl rfl)
theorem dX4_sunkFirst_10 : decode cX4_sunkFirst 10 = .ok (.sipush 600, 3) := dk_17 2 88 (dk_at dksX4_sunkFirst_0 10 rfl rfl)
theorem dX4_sunkFirst_13 : decode cX4_sunkFirst 13 = .ok (.if_icmp .gt 21, 3) := dk_163 0 21 (dk_at dksX4_sunkFirst_0 13 rfl rfl)
theorem dX4_sunkFirst_16 : decode cX4_sunkFirst 16 = .ok (.aload_n 0, 1) := dk_42 (dk_at dksX4_sunkFirst_0 16 rfl rfl)
theorem dX4_sunkFirst_17 : decode cX4_sunkFirst 17 = .ok (.getfield 42, 3) := dk_180 0 42 (dk_at dksX4_sunkFirst_0 17 rfl rfl)
theorem dX4_sunkFirst_20 : decode cX4_sunkFirst 20 = .ok (.iload_n 2, 1) := dk_28 (dk_at dksX4_sunkFirst_0 20 rfl rfl)
theorem dX4_sunkFirst_21 : decode cX4_sunkFirst 21 = .ok (.iaload, 1) := dk_46 (dk_at dksX4_sunkFirst_0 21 rfl rfl)
theorem dX4_sunkFirst_22 : decode cX4_sunkFirst 22 = .ok (.iload_n 1, 1) := dk_27 (dk_at dksX4_sunkFirst_0 22 rfl rfl)
theorem dX4_sunkFirst_23 : decode cX4_sunkFirst 23 = .ok (.if_icmp .lt 5, 3) := dk_161 0 5 (dk_at dksX4_sunkFirst_1 0 rfl rfl)
theorem dX4_sunkFirst_26 : decode cX4_sunkFirst 26 = .ok (.iload_n 2, 1) := dk_28 (dk_at dksX4_sunkFirst_1 3 rfl rfl)
theorem dX4_sunkFirst_27 : decode cX4_sunkFirst 27 = .ok (.ireturn, 1) := dk_172 (dk_at dksX4_sunkFirst_1 4 rfl rfl)
theorem dX4_sunkFirst_28 : decode cX4_sunkFirst 28 = .ok (.iinc 2 1, 3) := dk_132 2 1 (dk_at dksX4_sunkFirst_1 5 rfl rfl)
theorem dX4_sunkFirst_31 : decode cX4_sunkFirst 31 = .ok (.goto (-22), 3) := dk_167 255 234 (dk_at dksX4_sunkFirst_1 8 rfl rfl)
theorem dX4_sunkFirst_34 : decode cX4_sunkFirst 34 = .ok (.iconst (-1), 1) := dk_2 (dk_at dksX4_sunkFirst_1 11 rfl rfl)
theorem dX4_sunkFirst_35 : decode cX4_sunkFirst 35 = .ok (.ireturn, 1) := dk_172 (dk_at dksX4_sunkFirst_1 12 rfl rfl)
abbrev cX4_sunkBy : ByteArray := prog_11_method_83_code
def yX4_sunkBy : MethodName := ⟨RX4, "sunkBy", "(I)I"⟩
def dkwX4_sunkBy_0 : List UInt8 := [42, 3, 181, 0, 1, 27, 156, 0, 8, 16, 253, 167, 0, 8, 42, 27, 182, 1, 94, 172]
abbrev dktX4_sunkBy_0 : List UInt8 := dkwX4_sunkBy_0 ++ []
theorem dksX4_sunkBy_0 : cX4_sunkBy.data.toList.drop 0 = dktX4_sunkBy_0 := by decide +kernel
theorem dX4_sunkBy_0 : decode cX4_sunkBy 0 = .ok (.aload_n 0, 1) := dk_42 (dk_at dksX4_sunkBy_0 0 rfl rfl)
theorem dX4_sunkBy_1 : decode cX4_sunkBy 1 = .ok (.iconst 0, 1) := dk_3 (dk_at dksX4_sunkBy_0 1 rfl rfl)
theorem dX4_sunkBy_2 : decode cX4_sunkBy 2 = .ok (.putfield 1, 3) := dk_181 0 1 (dk_at dksX4_sunkBy_0 2 rfl rfl)
theorem dX4_sunkBy_5 : decode cX4_sunkBy 5 = .ok (.iload_n 1, 1) := dk_27 (dk_at dksX4_sunkBy_0 5 rfl rfl)
theorem dX4_sunkBy_6 : decode cX4_sunkBy 6 = .ok (.ifCond .ge 8, 3) := dk_156 0 8 (dk_at dksX4_sunkBy_0 6 rfl rfl)
theorem dX4_sunkBy_9 : decode cX4_sunkBy 9 = .ok (.bipush (-3), 2) := dk_16 253 (dk_at dksX4_sunkBy_0 9 rfl rfl)
theorem dX4_sunkBy_11 : decode cX4_sunkBy 11 = .ok (.goto 8, 3) := dk_167 0 8 (dk_at dksX4_sunkBy_0 11 rfl rfl)
theorem dX4_sunkBy_14 : decode cX4_sunkBy 14 = .ok (.aload_n 0, 1) := dk_42 (dk_at dksX4_sunkBy_0 14 rfl rfl)
theorem dX4_sunkBy_15 : decode cX4_sunkBy 15 = .ok (.iload_n 1, 1) := dk_27 (dk_at dksX4_sunkBy_0 15 rfl rfl)
theorem dX4_sunkBy_16 : decode cX4_sunkBy 16 = .ok (.invokevirtual 350, 3) := dk_182 1 94 (dk_at dksX4_sunkBy_0 16 rfl rfl)
theorem dX4_sunkBy_19 : decode cX4_sunkBy 19 = .ok (.ireturn, 1) := dk_172 (dk_at dksX4_sunkBy_0 19 rfl rfl)
abbrev cX4_fastest : ByteArray := prog_11_method_84_code
def yX4_fastest : MethodName := ⟨RX4, "fastest", "()I"⟩
def dkwX4_fastest_2 : List UInt8 := [180, 0, 42, 27, 46, 100, 164, 0, 5, 28, 60, 132, 2, 1, 167, 255, 211, 27, 172]
abbrev dktX4_fastest_2 : List UInt8 := dkwX4_fastest_2 ++ []
def dkwX4_fastest_1 : List UInt8 := [180, 0, 42, 28, 4, 96, 46, 42, 180, 0, 42, 28, 46, 100, 42, 180, 0, 42, 27, 4, 96, 46, 42]
abbrev dktX4_fastest_1 : List UInt8 := dkwX4_fastest_1 ++ dktX4_fastest_2
def dkwX4_fastest_0 : List UInt8 := [42, 3, 181, 0, 1, 42, 17, 2, 89, 182, 1, 90, 3, 60, 4, 61, 28, 17, 2, 88, 163, 0, 44, 42]
abbrev dktX4_fastest_0 : List UInt8 := dkwX4_fastest_0 ++ dktX4_fastest_1
theorem dksX4_fastest_0 : cX4_fastest.data.toList.drop 0 = dktX4_fastest_0 := by decide +kernel
theorem dksX4_fastest_1 : cX4_fastest.data.toList.drop 24 = dktX4_fastest_1 := dk_seg dksX4_fastest_0 24 rfl rfl
theorem dksX4_fastest_2 : cX4_fastest.data.toList.drop 47 = dktX4_fastest_2 := dk_seg dksX4_fastest_1 23 rfl rfl
theorem dX4_fastest_0 : decode cX4_fastest 0 = .ok (.aload_n 0, 1) := dk_42 (dk_at dksX4_fastest_0 0 rfl rfl)
theorem dX4_fastest_1 : decode cX4_fastest 1 = .ok (.iconst 0, 1) := dk_3 (dk_at dksX4_fastest_0 1 rfl rfl)
theorem dX4_fastest_2 : decode cX4_fastest 2 = .ok (.putfield 1, 3) := dk_181 0 1 (dk_at dksX4_fastest_0 2 rfl rfl)
theorem dX4_fastest_5 : decode cX4_fastest 5 = .ok (.aload_n 0, 1) := dk_42 (dk_at dksX4_fastest_0 5 rfl rfl)
theorem dX4_fastest_6 : decode cX4_fastest 6 = .ok (.sipush 601, 3) := dk_17 2 89 (dk_at dksX4_fastest_0 6 rfl rfl)
theorem dX4_fastest_9 : decode cX4_fastest 9 = .ok (.invokevirtual 346, 3) := dk_182 1 90 (dk_at dksX4_fastest_0 9 rfl rfl)
theorem dX4_fastest_12 : decode cX4_fastest 12 = .ok (.iconst 0, 1) := dk_3 (dk_at dksX4_fastest_0 12 rfl rfl)
theorem dX4_fastest_13 : decode cX4_fastest 13 = .ok (.istore_n 1, 1) := dk_60 (dk_at dksX4_fastest_0 13 rfl rfl)
theorem dX4_fastest_14 : decode cX4_fastest 14 = .ok (.iconst 1, 1) := dk_4 (dk_at dksX4_fastest_0 14 rfl rfl)
theorem dX4_fastest_15 : decode cX4_fastest 15 = .ok (.istore_n 2, 1) := dk_61 (dk_at dksX4_fastest_0 15 rfl rfl)
theorem dX4_fastest_16 : decode cX4_fastest 16 = .ok (.iload_n 2, 1) := dk_28 (dk_at dksX4_fastest_0 16 rfl rfl)
theorem dX4_fastest_17 : decode cX4_fastest 17 = .ok (.sipush 600, 3) := dk_17 2 88 (dk_at dksX4_fastest_0 17 rfl rfl)
theorem dX4_fastest_20 : decode cX4_fastest 20 = .ok (.if_icmp .gt 44, 3) := dk_163 0 44 (dk_at dksX4_fastest_0 20 rfl rfl)
theorem dX4_fastest_23 : decode cX4_fastest 23 = .ok (.aload_n 0, 1) := dk_42 (dk_at dksX4_fastest_0 23 rfl rfl)
theorem dX4_fastest_24 : decode cX4_fastest 24 = .ok (.getfield 42, 3) := dk_180 0 42 (dk_at dksX4_fastest_1 0 rfl rfl)
theorem dX4_fastest_27 : decode cX4_fastest 27 = .ok (.iload_n 2, 1) := dk_28 (dk_at dksX4_fastest_1 3 rfl rfl)
theorem dX4_fastest_28 : decode cX4_fastest 28 = .ok (.iconst 1, 1) := dk_4 (dk_at dksX4_fastest_1 4 rfl rfl)
theorem dX4_fastest_29 : decode cX4_fastest 29 = .ok (.iadd, 1) := dk_96 (dk_at dksX4_fastest_1 5 rfl rfl)
theorem dX4_fastest_30 : decode cX4_fastest 30 = .ok (.iaload, 1) := dk_46 (dk_at dksX4_fastest_1 6 rfl rfl)
theorem dX4_fastest_31 : decode cX4_fastest 31 = .ok (.aload_n 0, 1) := dk_42 (dk_at dksX4_fastest_1 7 rfl rfl)
theorem dX4_fastest_32 : decode cX4_fastest 32 = .ok (.getfield 42, 3) := dk_180 0 42 (dk_at dksX4_fastest_1 8 rfl rfl)
theorem dX4_fastest_35 : decode cX4_fastest 35 = .ok (.iload_n 2, 1) := dk_28 (dk_at dksX4_fastest_1 11 rfl rfl)
theorem dX4_fastest_36 : decode cX4_fastest 36 = .ok (.iaload, 1) := dk_46 (dk_at dksX4_fastest_1 12 rfl rfl)
theorem dX4_fastest_37 : decode cX4_fastest 37 = .ok (.isub, 1) := dk_100 (dk_at dksX4_fastest_1 13 rfl rfl)
theorem dX4_fastest_38 : decode cX4_fastest 38 = .ok (.aload_n 0, 1) := dk_42 (dk_at dksX4_fastest_1 14 rfl rfl)
theorem dX4_fastest_39 : decode cX4_fastest 39 = .ok (.getfield 42, 3) := dk_180 0 42 (dk_at dksX4_fastest_1 15 rfl rfl)
theorem dX4_fastest_42 : decode cX4_fastest 42 = .ok (.iload_n 1, 1) := dk_27 (dk_at dksX4_fastest_1 18 rfl rfl)
theorem dX4_fastest_43 : decode cX4_fastest 43 = .ok (.iconst 1, 1) := dk_4 (dk_at dksX4_fastest_1 19 rfl rfl)
theorem dX4_fastest_44 : decode cX4_fastest 44 = .ok (.iadd, 1) := dk_96 (dk_at dksX4_fastest_1 20 rfl rfl)
theorem dX4_fastest_45 : decode cX4_fastest 45 = .ok (.iaload, 1) := dk_46 (dk_at dksX4_fastest_1 21 rfl rfl)
theorem dX4_fastest_46 : decode cX4_fastest 46 = .ok (.aload_n 0, 1) := dk_42 (dk_at dksX4_fastest_1 22 rfl rfl)
theorem dX4_fastest_47 : decode cX4_fastest 47 = .ok (.getfield 42, 3) := dk_180 0 42 (dk_at dksX4_fastest_2 0 rfl rfl)
theorem dX4_fastest_50 : decode cX4_fastest 50 = .ok (.iload_n 1, 1) := dk_27 (dk_at dksX4_fastest_2 3 rfl rfl)
theorem dX4_fastest_51 : decode cX4_fastest 51 = .ok (.iaload, 1) := dk_46 (dk_at dksX4_fastest_2 4 rfl rfl)
theorem dX4_fastest_52 : decode cX4_fastest 52 = .ok (.isub, 1) := dk_100 (dk_at dksX4_fastest_2 5 rfl rfl)
theorem dX4_fastest_53 : decode cX4_fastest 53 = .ok (.if_icmp .le 5, 3) := dk_164 0 5 (dk_at dksX4_fastest_2 6 rfl rfl)
theorem dX4_fastest_56 : decode cX4_fastest 56 = .ok (.iload_n 2, 1) := dk_28 (dk_at dksX4_fastest_2 9 rfl rfl)
theorem dX4_fastest_57 : decode cX4_fastest 57 = .ok (.istore_n 1, 1) := dk_60 (dk_at dksX4_fastest_2 10 rfl rfl)
theorem dX4_fastest_58 : decode cX4_fastest 58 = .ok (.iinc 2 1, 3) := dk_132 2 1 (dk_at dksX4_fastest_2 11 rfl rfl)
theorem dX4_fastest_61 : decode cX4_fastest 61 = .ok (.goto (-45), 3) := dk_167 255 211 (dk_at dksX4_fastest_2 14 rfl rfl)
theorem dX4_fastest_64 : decode cX4_fastest 64 = .ok (.iload_n 1, 1) := dk_27 (dk_at dksX4_fastest_2 17 rfl rfl)
theorem dX4_fastest_65 : decode cX4_fastest 65 = .ok (.ireturn, 1) := dk_172 (dk_at dksX4_fastest_2 18 rfl rfl)
abbrev cX4_paid : ByteArray := prog_11_method_85_code
def yX4_paid : MethodName := ⟨RX4, "paid", "(I)J"⟩
def dkwX4_paid_4 : List UInt8 := [167, 255, 204, 132, 4, 1, 167, 255, 189, 32, 173]
abbrev dktX4_paid_4 : List UInt8 := dkwX4_paid_4 ++ []
def dkwX4_paid_3 : List UInt8 := [21, 4, 46, 42, 180, 0, 13, 16, 42, 46, 21, 4, 96, 182, 0, 238, 133, 97, 65, 132, 5, 1]
abbrev dktX4_paid_3 : List UInt8 := dkwX4_paid_3 ++ dktX4_paid_4
def dkwX4_paid_2 : List UInt8 := [16, 20, 46, 162, 0, 46, 42, 21, 5, 182, 0, 226, 2, 159, 0, 30, 32, 42, 21, 5, 42, 180, 0, 42]
abbrev dktX4_paid_2 : List UInt8 := dkwX4_paid_2 ++ dktX4_paid_3
def dkwX4_paid_1 : List UInt8 := [182, 1, 90, 9, 65, 3, 54, 4, 21, 4, 27, 162, 0, 67, 3, 54, 5, 21, 5, 42, 180, 0, 13]
abbrev dktX4_paid_1 : List UInt8 := dkwX4_paid_1 ++ dktX4_paid_2
def dkwX4_paid_0 : List UInt8 := [42, 3, 181, 0, 1, 27, 133, 10, 20, 1, 88, 184, 0, 141, 154, 0, 7, 20, 1, 97, 173, 42, 27]
abbrev dktX4_paid_0 : List UInt8 := dkwX4_paid_0 ++ dktX4_paid_1
theorem dksX4_paid_0 : cX4_paid.data.toList.drop 0 = dktX4_paid_0 := by decide +kernel
theorem dksX4_paid_1 : cX4_paid.data.toList.drop 23 = dktX4_paid_1 := dk_seg dksX4_paid_0 23 rfl rfl
theorem dksX4_paid_2 : cX4_paid.data.toList.drop 46 = dktX4_paid_2 := dk_seg dksX4_paid_1 23 rfl rfl
theorem dksX4_paid_3 : cX4_paid.data.toList.drop 70 = dktX4_paid_3 := dk_seg dksX4_paid_2 24 rfl rfl
theorem dksX4_paid_4 : cX4_paid.data.toList.drop 92 = dktX4_paid_4 := dk_seg dksX4_paid_3 22 rfl rfl
theorem dX4_paid_0 : decode cX4_paid 0 = .ok (.aload_n 0, 1) := dk_42 (dk_at dksX4_paid_0 0 rfl rfl)
theorem dX4_paid_1 : decode cX4_paid 1 = .ok (.iconst 0, 1) := dk_3 (dk_at dksX4_paid_0 1 rfl rfl)
theorem dX4_paid_2 : decode cX4_paid 2 = .ok (.putfield 1, 3) := dk_181 0 1 (dk_at dksX4_paid_0 2 rfl rfl)
theorem dX4_paid_5 : decode cX4_paid 5 = .ok (.iload_n 1, 1) := dk_27 (dk_at dksX4_paid_0 5 rfl rfl)
theorem dX4_paid_6 : decode cX4_paid 6 = .ok (.i2l, 1) := dk_133 (dk_at dksX4_paid_0 6 rfl rfl)
theorem dX4_paid_7 : decode cX4_paid 7 = .ok (.lconst 1, 1) := dk_10 (dk_at dksX4_paid_0 7 rfl rfl)
theorem dX4_paid_8 : decode cX4_paid 8 = .ok (.ldc2_w 344, 3) := dk_20 1 88 (dk_at dksX4_paid_0 8 rfl rfl)
theorem dX4_paid_11 : decode cX4_paid 11 = .ok (.invokestatic 141, 3) := dk_184 0 141 (dk_at dksX4_paid_0 11 rfl rfl)
theorem dX4_paid_14 : decode cX4_paid 14 = .ok (.ifCond .ne 7, 3) := dk_154 0 7 (dk_at dksX4_paid_0 14 rfl rfl)
theorem dX4_paid_17 : decode cX4_paid 17 = .ok (.ldc2_w 353, 3) := dk_20 1 97 (dk_at dksX4_paid_0 17 rfl rfl)
theorem dX4_paid_20 : decode cX4_paid 20 = .ok (.lreturn, 1) := dk_173 (dk_at dksX4_paid_0 20 rfl rfl)
theorem dX4_paid_21 : decode cX4_paid 21 = .ok (.aload_n 0, 1) := dk_42 (dk_at dksX4_paid_0 21 rfl rfl)
theorem dX4_paid_22 : decode cX4_paid 22 = .ok (.iload_n 1, 1) := dk_27 (dk_at dksX4_paid_0 22 rfl rfl)
theorem dX4_paid_23 : decode cX4_paid 23 = .ok (.invokevirtual 346, 3) := dk_182 1 90 (dk_at dksX4_paid_1 0 rfl rfl)
theorem dX4_paid_26 : decode cX4_paid 26 = .ok (.lconst 0, 1) := dk_9 (dk_at dksX4_paid_1 3 rfl rfl)
theorem dX4_paid_27 : decode cX4_paid 27 = .ok (.lstore_n 2, 1) := dk_65 (dk_at dksX4_paid_1 4 rfl rfl)
theorem dX4_paid_28 : decode cX4_paid 28 = .ok (.iconst 0, 1) := dk_3 (dk_at dksX4_paid_1 5 rfl rfl)
theorem dX4_paid_29 : decode cX4_paid 29 = .ok (.istore 4, 2) := dk_54 4 (dk_at dksX4_paid_1 6 rfl rfl)
theorem dX4_paid_31 : decode cX4_paid 31 = .ok (.iload 4, 2) := dk_21 4 (dk_at dksX4_paid_1 8 rfl rfl)
theorem dX4_paid_33 : decode cX4_paid 33 = .ok (.iload_n 1, 1) := dk_27 (dk_at dksX4_paid_1 10 rfl rfl)
theorem dX4_paid_34 : decode cX4_paid 34 = .ok (.if_icmp .ge 67, 3) := dk_162 0 67 (dk_at dksX4_paid_1 11 rfl rfl)
theorem dX4_paid_37 : decode cX4_paid 37 = .ok (.iconst 0, 1) := dk_3 (dk_at dksX4_paid_1 14 rfl rfl)
theorem dX4_paid_38 : decode cX4_paid 38 = .ok (.istore 5, 2) := dk_54 5 (dk_at dksX4_paid_1 15 rfl rfl)
theorem dX4_paid_40 : decode cX4_paid 40 = .ok (.iload 5, 2) := dk_21 5 (dk_at dksX4_paid_1 17 rfl rfl)
theorem dX4_paid_42 : decode cX4_paid 42 = .ok (.aload_n 0, 1) := dk_42 (dk_at dksX4_paid_1 19 rfl rfl)
theorem dX4_paid_43 : decode cX4_paid 43 = .ok (.getfield 13, 3) := dk_180 0 13 (dk_at dksX4_paid_1 20 rfl rfl)
theorem dX4_paid_46 : decode cX4_paid 46 = .ok (.bipush 20, 2) := dk_16 20 (dk_at dksX4_paid_2 0 rfl rfl)
theorem dX4_paid_48 : decode cX4_paid 48 = .ok (.iaload, 1) := dk_46 (dk_at dksX4_paid_2 2 rfl rfl)
theorem dX4_paid_49 : decode cX4_paid 49 = .ok (.if_icmp .ge 46, 3) := dk_162 0 46 (dk_at dksX4_paid_2 3 rfl rfl)
theorem dX4_paid_52 : decode cX4_paid 52 = .ok (.aload_n 0, 1) := dk_42 (dk_at dksX4_paid_2 6 rfl rfl)
theorem dX4_paid_53 : decode cX4_paid 53 = .ok (.iload 5, 2) := dk_21 5 (dk_at dksX4_paid_2 7 rfl rfl)
theorem dX4_paid_55 : decode cX4_paid 55 = .ok (.invokevirtual 226, 3) := dk_182 0 226 (dk_at dksX4_paid_2 9 rfl rfl)
theorem dX4_paid_58 : decode cX4_paid 58 = .ok (.iconst (-1), 1) := dk_2 (dk_at dksX4_paid_2 12 rfl rfl)
theorem dX4_paid_59 : decode cX4_paid 59 = .ok (.if_icmp .eq 30, 3) := dk_159 0 30 (dk_at dksX4_paid_2 13 rfl rfl)
theorem dX4_paid_62 : decode cX4_paid 62 = .ok (.lload_n 2, 1) := dk_32 (dk_at dksX4_paid_2 16 rfl rfl)
theorem dX4_paid_63 : decode cX4_paid 63 = .ok (.aload_n 0, 1) := dk_42 (dk_at dksX4_paid_2 17 rfl rfl)
theorem dX4_paid_64 : decode cX4_paid 64 = .ok (.iload 5, 2) := dk_21 5 (dk_at dksX4_paid_2 18 rfl rfl)
theorem dX4_paid_66 : decode cX4_paid 66 = .ok (.aload_n 0, 1) := dk_42 (dk_at dksX4_paid_2 20 rfl rfl)
theorem dX4_paid_67 : decode cX4_paid 67 = .ok (.getfield 42, 3) := dk_180 0 42 (dk_at dksX4_paid_2 21 rfl rfl)
theorem dX4_paid_70 : decode cX4_paid 70 = .ok (.iload 4, 2) := dk_21 4 (dk_at dksX4_paid_3 0 rfl rfl)
theorem dX4_paid_72 : decode cX4_paid 72 = .ok (.iaload, 1) := dk_46 (dk_at dksX4_paid_3 2 rfl rfl)
theorem dX4_paid_73 : decode cX4_paid 73 = .ok (.aload_n 0, 1) := dk_42 (dk_at dksX4_paid_3 3 rfl rfl)
theorem dX4_paid_74 : decode cX4_paid 74 = .ok (.getfield 13, 3) := dk_180 0 13 (dk_at dksX4_paid_3 4 rfl rfl)
theorem dX4_paid_77 : decode cX4_paid 77 = .ok (.bipush 42, 2) := dk_16 42 (dk_at dksX4_paid_3 7 rfl rfl)
theorem dX4_paid_79 : decode cX4_paid 79 = .ok (.iaload, 1) := dk_46 (dk_at dksX4_paid_3 9 rfl rfl)
theorem dX4_paid_80 : decode cX4_paid 80 = .ok (.iload 4, 2) := dk_21 4 (dk_at dksX4_paid_3 10 rfl rfl)
theorem dX4_paid_82 : decode cX4_paid 82 = .ok (.iadd, 1) := dk_96 (dk_at dksX4_paid_3 12 rfl rfl)
theorem dX4_paid_83 : decode cX4_paid 83 = .ok (.invokevirtual 238, 3) := dk_182 0 238 (dk_at dksX4_paid_3 13 rfl rfl)
theorem dX4_paid_86 : decode cX4_paid 86 = .ok (.i2l, 1) := dk_133 (dk_at dksX4_paid_3 16 rfl rfl)
theorem dX4_paid_87 : decode cX4_paid 87 = .ok (.ladd, 1) := dk_97 (dk_at dksX4_paid_3 17 rfl rfl)
theorem dX4_paid_88 : decode cX4_paid 88 = .ok (.lstore_n 2, 1) := dk_65 (dk_at dksX4_paid_3 18 rfl rfl)
theorem dX4_paid_89 : decode cX4_paid 89 = .ok (.iinc 5 1, 3) := dk_132 5 1 (dk_at dksX4_paid_3 19 rfl rfl)
theorem dX4_paid_92 : decode cX4_paid 92 = .ok (.goto (-52), 3) := dk_167 255 204 (dk_at dksX4_paid_4 0 rfl rfl)
theorem dX4_paid_95 : decode cX4_paid 95 = .ok (.iinc 4 1, 3) := dk_132 4 1 (dk_at dksX4_paid_4 3 rfl rfl)
theorem dX4_paid_98 : decode cX4_paid 98 = .ok (.goto (-67), 3) := dk_167 255 189 (dk_at dksX4_paid_4 6 rfl rfl)
theorem dX4_paid_101 : decode cX4_paid 101 = .ok (.lload_n 2, 1) := dk_32 (dk_at dksX4_paid_4 9 rfl rfl)
theorem dX4_paid_102 : decode cX4_paid 102 = .ok (.lreturn, 1) := dk_173 (dk_at dksX4_paid_4 10 rfl rfl)
abbrev cX4_share : ByteArray := prog_11_method_87_code
def yX4_share : MethodName := ⟨RX4, "share", "(II)I"⟩
def dkwX4_share_1 : List UInt8 := [184, 0, 141, 153, 0, 12, 42, 27, 28, 182, 1, 99, 167, 0, 6, 19, 1, 93, 172]
abbrev dktX4_share_1 : List UInt8 := dkwX4_share_1 ++ []
def dkwX4_share_0 : List UInt8 := [42, 3, 181, 0, 1, 42, 27, 133, 182, 0, 229, 154, 0, 6, 18, 241, 172, 28, 133, 10, 20, 1, 88]
abbrev dktX4_share_0 : List UInt8 := dkwX4_share_0 ++ dktX4_share_1
theorem dksX4_share_0 : cX4_share.data.toList.drop 0 = dktX4_share_0 := by decide +kernel
theorem dksX4_share_1 : cX4_share.data.toList.drop 23 = dktX4_share_1 := dk_seg dksX4_share_0 23 rfl rfl
theorem dX4_share_0 : decode cX4_share 0 = .ok (.aload_n 0, 1) := dk_42 (dk_at dksX4_share_0 0 rfl rfl)
theorem dX4_share_1 : decode cX4_share 1 = .ok (.iconst 0, 1) := dk_3 (dk_at dksX4_share_0 1 rfl rfl)
theorem dX4_share_2 : decode cX4_share 2 = .ok (.putfield 1, 3) := dk_181 0 1 (dk_at dksX4_share_0 2 rfl rfl)
theorem dX4_share_5 : decode cX4_share 5 = .ok (.aload_n 0, 1) := dk_42 (dk_at dksX4_share_0 5 rfl rfl)
theorem dX4_share_6 : decode cX4_share 6 = .ok (.iload_n 1, 1) := dk_27 (dk_at dksX4_share_0 6 rfl rfl)
theorem dX4_share_7 : decode cX4_share 7 = .ok (.i2l, 1) := dk_133 (dk_at dksX4_share_0 7 rfl rfl)
theorem dX4_share_8 : decode cX4_share 8 = .ok (.invokevirtual 229, 3) := dk_182 0 229 (dk_at dksX4_share_0 8 rfl rfl)
theorem dX4_share_11 : decode cX4_share 11 = .ok (.ifCond .ne 6, 3) := dk_154 0 6 (dk_at dksX4_share_0 11 rfl rfl)
theorem dX4_share_14 : decode cX4_share 14 = .ok (.ldc 241, 2) := dk_18 241 (dk_at dksX4_share_0 14 rfl rfl)
theorem dX4_share_16 : decode cX4_share 16 = .ok (.ireturn, 1) := dk_172 (dk_at dksX4_share_0 16 rfl rfl)
theorem dX4_share_17 : decode cX4_share 17 = .ok (.iload_n 2, 1) := dk_28 (dk_at dksX4_share_0 17 rfl rfl)
theorem dX4_share_18 : decode cX4_share 18 = .ok (.i2l, 1) := dk_133 (dk_at dksX4_share_0 18 rfl rfl)
theorem dX4_share_19 : decode cX4_share 19 = .ok (.lconst 1, 1) := dk_10 (dk_at dksX4_share_0 19 rfl rfl)
theorem dX4_share_20 : decode cX4_share 20 = .ok (.ldc2_w 344, 3) := dk_20 1 88 (dk_at dksX4_share_0 20 rfl rfl)
theorem dX4_share_23 : decode cX4_share 23 = .ok (.invokestatic 141, 3) := dk_184 0 141 (dk_at dksX4_share_1 0 rfl rfl)
theorem dX4_share_26 : decode cX4_share 26 = .ok (.ifCond .eq 12, 3) := dk_153 0 12 (dk_at dksX4_share_1 3 rfl rfl)
theorem dX4_share_29 : decode cX4_share 29 = .ok (.aload_n 0, 1) := dk_42 (dk_at dksX4_share_1 6 rfl rfl)
theorem dX4_share_30 : decode cX4_share 30 = .ok (.iload_n 1, 1) := dk_27 (dk_at dksX4_share_1 7 rfl rfl)
theorem dX4_share_31 : decode cX4_share 31 = .ok (.iload_n 2, 1) := dk_28 (dk_at dksX4_share_1 8 rfl rfl)
theorem dX4_share_32 : decode cX4_share 32 = .ok (.invokevirtual 355, 3) := dk_182 1 99 (dk_at dksX4_share_1 9 rfl rfl)
theorem dX4_share_35 : decode cX4_share 35 = .ok (.goto 6, 3) := dk_167 0 6 (dk_at dksX4_share_1 12 rfl rfl)
theorem dX4_share_38 : decode cX4_share 38 = .ok (.ldc_w 349, 3) := dk_19 1 93 (dk_at dksX4_share_1 15 rfl rfl)
theorem dX4_share_41 : decode cX4_share 41 = .ok (.ireturn, 1) := dk_172 (dk_at dksX4_share_1 18 rfl rfl)
abbrev cX4_shareOf : ByteArray := prog_11_method_86_code
def yX4_shareOf : MethodName := ⟨RX4, "shareOf", "(II)I"⟩
def dkwX4_shareOf_1 : List UInt8 := [28, 46, 62, 42, 28, 42, 27, 182, 0, 232, 182, 1, 84, 29, 42, 180, 0, 42, 28, 46, 100, 172]
abbrev dktX4_shareOf_1 : List UInt8 := dkwX4_shareOf_1 ++ []
def dkwX4_shareOf_0 : List UInt8 := [42, 180, 0, 13, 16, 35, 27, 96, 46, 2, 160, 0, 5, 3, 172, 42, 28, 182, 1, 90, 42, 180, 0, 42]
abbrev dktX4_shareOf_0 : List UInt8 := dkwX4_shareOf_0 ++ dktX4_shareOf_1
theorem dksX4_shareOf_0 : cX4_shareOf.data.toList.drop 0 = dktX4_shareOf_0 := by decide +kernel
theorem dksX4_shareOf_1 : cX4_shareOf.data.toList.drop 24 = dktX4_shareOf_1 := dk_seg dksX4_shareOf_0 24 rfl rfl
theorem dX4_shareOf_0 : decode cX4_shareOf 0 = .ok (.aload_n 0, 1) := dk_42 (dk_at dksX4_shareOf_0 0 rfl rfl)
theorem dX4_shareOf_1 : decode cX4_shareOf 1 = .ok (.getfield 13, 3) := dk_180 0 13 (dk_at dksX4_shareOf_0 1 rfl rfl)
theorem dX4_shareOf_4 : decode cX4_shareOf 4 = .ok (.bipush 35, 2) := dk_16 35 (dk_at dksX4_shareOf_0 4 rfl rfl)
theorem dX4_shareOf_6 : decode cX4_shareOf 6 = .ok (.iload_n 1, 1) := dk_27 (dk_at dksX4_shareOf_0 6 rfl rfl)
theorem dX4_shareOf_7 : decode cX4_shareOf 7 = .ok (.iadd, 1) := dk_96 (dk_at dksX4_shareOf_0 7 rfl rfl)
theorem dX4_shareOf_8 : decode cX4_shareOf 8 = .ok (.iaload, 1) := dk_46 (dk_at dksX4_shareOf_0 8 rfl rfl)
theorem dX4_shareOf_9 : decode cX4_shareOf 9 = .ok (.iconst (-1), 1) := dk_2 (dk_at dksX4_shareOf_0 9 rfl rfl)
theorem dX4_shareOf_10 : decode cX4_shareOf 10 = .ok (.if_icmp .ne 5, 3) := dk_160 0 5 (dk_at dksX4_shareOf_0 10 rfl rfl)
theorem dX4_shareOf_13 : decode cX4_shareOf 13 = .ok (.iconst 0, 1) := dk_3 (dk_at dksX4_shareOf_0 13 rfl rfl)
theorem dX4_shareOf_14 : decode cX4_shareOf 14 = .ok (.ireturn, 1) := dk_172 (dk_at dksX4_shareOf_0 14 rfl rfl)
theorem dX4_shareOf_15 : decode cX4_shareOf 15 = .ok (.aload_n 0, 1) := dk_42 (dk_at dksX4_shareOf_0 15 rfl rfl)
theorem dX4_shareOf_16 : decode cX4_shareOf 16 = .ok (.iload_n 2, 1) := dk_28 (dk_at dksX4_shareOf_0 16 rfl rfl)
theorem dX4_shareOf_17 : decode cX4_shareOf 17 = .ok (.invokevirtual 346, 3) := dk_182 1 90 (dk_at dksX4_shareOf_0 17 rfl rfl)
theorem dX4_shareOf_20 : decode cX4_shareOf 20 = .ok (.aload_n 0, 1) := dk_42 (dk_at dksX4_shareOf_0 20 rfl rfl)
theorem dX4_shareOf_21 : decode cX4_shareOf 21 = .ok (.getfield 42, 3) := dk_180 0 42 (dk_at dksX4_shareOf_0 21 rfl rfl)
theorem dX4_shareOf_24 : decode cX4_shareOf 24 = .ok (.iload_n 2, 1) := dk_28 (dk_at dksX4_shareOf_1 0 rfl rfl)
theorem dX4_shareOf_25 : decode cX4_shareOf 25 = .ok (.iaload, 1) := dk_46 (dk_at dksX4_shareOf_1 1 rfl rfl)
theorem dX4_shareOf_26 : decode cX4_shareOf 26 = .ok (.istore_n 3, 1) := dk_62 (dk_at dksX4_shareOf_1 2 rfl rfl)
theorem dX4_shareOf_27 : decode cX4_shareOf 27 = .ok (.aload_n 0, 1) := dk_42 (dk_at dksX4_shareOf_1 3 rfl rfl)
theorem dX4_shareOf_28 : decode cX4_shareOf 28 = .ok (.iload_n 2, 1) := dk_28 (dk_at dksX4_shareOf_1 4 rfl rfl)
theorem dX4_shareOf_29 : decode cX4_shareOf 29 = .ok (.aload_n 0, 1) := dk_42 (dk_at dksX4_shareOf_1 5 rfl rfl)
theorem dX4_shareOf_30 : decode cX4_shareOf 30 = .ok (.iload_n 1, 1) := dk_27 (dk_at dksX4_shareOf_1 6 rfl rfl)
theorem dX4_shareOf_31 : decode cX4_shareOf 31 = .ok (.invokevirtual 232, 3) := dk_182 0 232 (dk_at dksX4_shareOf_1 7 rfl rfl)
theorem dX4_shareOf_34 : decode cX4_shareOf 34 = .ok (.invokevirtual 340, 3) := dk_182 1 84 (dk_at dksX4_shareOf_1 10 rfl rfl)
theorem dX4_shareOf_37 : decode cX4_shareOf 37 = .ok (.iload_n 3, 1) := dk_29 (dk_at dksX4_shareOf_1 13 rfl rfl)
theorem dX4_shareOf_38 : decode cX4_shareOf 38 = .ok (.aload_n 0, 1) := dk_42 (dk_at dksX4_shareOf_1 14 rfl rfl)
theorem dX4_shareOf_39 : decode cX4_shareOf 39 = .ok (.getfield 42, 3) := dk_180 0 42 (dk_at dksX4_shareOf_1 15 rfl rfl)
theorem dX4_shareOf_42 : decode cX4_shareOf 42 = .ok (.iload_n 2, 1) := dk_28 (dk_at dksX4_shareOf_1 18 rfl rfl)
theorem dX4_shareOf_43 : decode cX4_shareOf 43 = .ok (.iaload, 1) := dk_46 (dk_at dksX4_shareOf_1 19 rfl rfl)
theorem dX4_shareOf_44 : decode cX4_shareOf 44 = .ok (.isub, 1) := dk_100 (dk_at dksX4_shareOf_1 20 rfl rfl)
theorem dX4_shareOf_45 : decode cX4_shareOf 45 = .ok (.ireturn, 1) := dk_172 (dk_at dksX4_shareOf_1 21 rfl rfl)
abbrev cX4_heaviest : ByteArray := prog_11_method_88_code
def yX4_heaviest : MethodName := ⟨RX4, "heaviest", "(I)I"⟩
def dkwX4_heaviest_2 : List UInt8 := [21, 5, 29, 163, 0, 6, 167, 0, 9, 21, 4, 61, 21, 5, 62, 132, 4, 1, 167, 255, 218, 28, 172]
abbrev dktX4_heaviest_2 : List UInt8 := dkwX4_heaviest_2 ++ []
def dkwX4_heaviest_1 : List UInt8 := [3, 54, 4, 21, 4, 42, 180, 0, 13, 4, 46, 162, 0, 33, 42, 21, 4, 27, 182, 1, 99, 54, 5]
abbrev dktX4_heaviest_1 : List UInt8 := dkwX4_heaviest_1 ++ dktX4_heaviest_2
def dkwX4_heaviest_0 : List UInt8 := [42, 3, 181, 0, 1, 27, 133, 10, 20, 1, 88, 184, 0, 141, 154, 0, 6, 16, 253, 172, 2, 61, 3, 62]
abbrev dktX4_heaviest_0 : List UInt8 := dkwX4_heaviest_0 ++ dktX4_heaviest_1
theorem dksX4_heaviest_0 : cX4_heaviest.data.toList.drop 0 = dktX4_heaviest_0 := by decide +kernel
theorem dksX4_heaviest_1 : cX4_heaviest.data.toList.drop 24 = dktX4_heaviest_1 := dk_seg dksX4_heaviest_0 24 rfl rfl
theorem dksX4_heaviest_2 : cX4_heaviest.data.toList.drop 47 = dktX4_heaviest_2 := dk_seg dksX4_heaviest_1 23 rfl rfl
theorem dX4_heaviest_0 : decode cX4_heaviest 0 = .ok (.aload_n 0, 1) := dk_42 (dk_at dksX4_heaviest_0 0 rfl rfl)
theorem dX4_heaviest_1 : decode cX4_heaviest 1 = .ok (.iconst 0, 1) := dk_3 (dk_at dksX4_heaviest_0 1 rfl rfl)
theorem dX4_heaviest_2 : decode cX4_heaviest 2 = .ok (.putfield 1, 3) := dk_181 0 1 (dk_at dksX4_heaviest_0 2 rfl rfl)
theorem dX4_heaviest_5 : decode cX4_heaviest 5 = .ok (.iload_n 1, 1) := dk_27 (dk_at dksX4_heaviest_0 5 rfl rfl)
theorem dX4_heaviest_6 : decode cX4_heaviest 6 = .ok (.i2l, 1) := dk_133 (dk_at dksX4_heaviest_0 6 rfl rfl)
theorem dX4_heaviest_7 : decode cX4_heaviest 7 = .ok (.lconst 1, 1) := dk_10 (dk_at dksX4_heaviest_0 7 rfl rfl)
theorem dX4_heaviest_8 : decode cX4_heaviest 8 = .ok (.ldc2_w 344, 3) := dk_20 1 88 (dk_at dksX4_heaviest_0 8 rfl rfl)
theorem dX4_heaviest_11 : decode cX4_heaviest 11 = .ok (.invokestatic 141, 3) := dk_184 0 141 (dk_at dksX4_heaviest_0 11 rfl rfl)
theorem dX4_heaviest_14 : decode cX4_heaviest 14 = .ok (.ifCond .ne 6, 3) := dk_154 0 6 (dk_at dksX4_heaviest_0 14 rfl rfl)
theorem dX4_heaviest_17 : decode cX4_heaviest 17 = .ok (.bipush (-3), 2) := dk_16 253 (dk_at dksX4_heaviest_0 17 rfl rfl)
theorem dX4_heaviest_19 : decode cX4_heaviest 19 = .ok (.ireturn, 1) := dk_172 (dk_at dksX4_heaviest_0 19 rfl rfl)
theorem dX4_heaviest_20 : decode cX4_heaviest 20 = .ok (.iconst (-1), 1) := dk_2 (dk_at dksX4_heaviest_0 20 rfl rfl)
theorem dX4_heaviest_21 : decode cX4_heaviest 21 = .ok (.istore_n 2, 1) := dk_61 (dk_at dksX4_heaviest_0 21 rfl rfl)
theorem dX4_heaviest_22 : decode cX4_heaviest 22 = .ok (.iconst 0, 1) := dk_3 (dk_at dksX4_heaviest_0 22 rfl rfl)
theorem dX4_heaviest_23 : decode cX4_heaviest 23 = .ok (.istore_n 3, 1) := dk_62 (dk_at dksX4_heaviest_0 23 rfl rfl)
theorem dX4_heaviest_24 : decode cX4_heaviest 24 = .ok (.iconst 0, 1) := dk_3 (dk_at dksX4_heaviest_1 0 rfl rfl)
theorem dX4_heaviest_25 : decode cX4_heaviest 25 = .ok (.istore 4, 2) := dk_54 4 (dk_at dksX4_heaviest_1 1 rfl rfl)
theorem dX4_heaviest_27 : decode cX4_heaviest 27 = .ok (.iload 4, 2) := dk_21 4 (dk_at dksX4_heaviest_1 3 rfl rfl)
theorem dX4_heaviest_29 : decode cX4_heaviest 29 = .ok (.aload_n 0, 1) := dk_42 (dk_at dksX4_heaviest_1 5 rfl rfl)
theorem dX4_heaviest_30 : decode cX4_heaviest 30 = .ok (.getfield 13, 3) := dk_180 0 13 (dk_at dksX4_heaviest_1 6 rfl rfl)
theorem dX4_heaviest_33 : decode cX4_heaviest 33 = .ok (.iconst 1, 1) := dk_4 (dk_at dksX4_heaviest_1 9 rfl rfl)
theorem dX4_heaviest_34 : decode cX4_heaviest 34 = .ok (.iaload, 1) := dk_46 (dk_at dksX4_heaviest_1 10 rfl rfl)
theorem dX4_heaviest_35 : decode cX4_heaviest 35 = .ok (.if_icmp .ge 33, 3) := dk_162 0 33 (dk_at dksX4_heaviest_1 11 rfl rfl)
theorem dX4_heaviest_38 : decode cX4_heaviest 38 = .ok (.aload_n 0, 1) := dk_42 (dk_at dksX4_heaviest_1 14 rfl rfl)
theorem dX4_heaviest_39 : decode cX4_heaviest 39 = .ok (.iload 4, 2) := dk_21 4 (dk_at dksX4_heaviest_1 15 rfl rfl)
theorem dX4_heaviest_41 : decode cX4_heaviest 41 = .ok (.iload_n 1, 1) := dk_27 (dk_at dksX4_heaviest_1 17 rfl rfl)
theorem dX4_heaviest_42 : decode cX4_heaviest 42 = .ok (.invokevirtual 355, 3) := dk_182 1 99 (dk_at dksX4_heaviest_1 18 rfl rfl)
theorem dX4_heaviest_45 : decode cX4_heaviest 45 = .ok (.istore 5, 2) := dk_54 5 (dk_at dksX4_heaviest_1 21 rfl rfl)
theorem dX4_heaviest_47 : decode cX4_heaviest 47 = .ok (.iload 5, 2) := dk_21 5 (dk_at dksX4_heaviest_2 0 rfl rfl)
theorem dX4_heaviest_49 : decode cX4_heaviest 49 = .ok (.iload_n 3, 1) := dk_29 (dk_at dksX4_heaviest_2 2 rfl rfl)
theorem dX4_heaviest_50 : decode cX4_heaviest 50 = .ok (.if_icmp .gt 6, 3) := dk_163 0 6 (dk_at dksX4_heaviest_2 3 rfl rfl)
theorem dX4_heaviest_53 : decode cX4_heaviest 53 = .ok (.goto 9, 3) := dk_167 0 9 (dk_at dksX4_heaviest_2 6 rfl rfl)
theorem dX4_heaviest_56 : decode cX4_heaviest 56 = .ok (.iload 4, 2) := dk_21 4 (dk_at dksX4_heaviest_2 9 rfl rfl)
theorem dX4_heaviest_58 : decode cX4_heaviest 58 = .ok (.istore_n 2, 1) := dk_61 (dk_at dksX4_heaviest_2 11 rfl rfl)
theorem dX4_heaviest_59 : decode cX4_heaviest 59 = .ok (.iload 5, 2) := dk_21 5 (dk_at dksX4_heaviest_2 12 rfl rfl)
theorem dX4_heaviest_61 : decode cX4_heaviest 61 = .ok (.istore_n 3, 1) := dk_62 (dk_at dksX4_heaviest_2 14 rfl rfl)
theorem dX4_heaviest_62 : decode cX4_heaviest 62 = .ok (.iinc 4 1, 3) := dk_132 4 1 (dk_at dksX4_heaviest_2 15 rfl rfl)
theorem dX4_heaviest_65 : decode cX4_heaviest 65 = .ok (.goto (-38), 3) := dk_167 255 218 (dk_at dksX4_heaviest_2 18 rfl rfl)
theorem dX4_heaviest_68 : decode cX4_heaviest 68 = .ok (.iload_n 2, 1) := dk_28 (dk_at dksX4_heaviest_2 21 rfl rfl)
theorem dX4_heaviest_69 : decode cX4_heaviest 69 = .ok (.ireturn, 1) := dk_172 (dk_at dksX4_heaviest_2 22 rfl rfl)
abbrev cX4_bears : ByteArray := prog_11_method_89_code
def yX4_bears : MethodName := ⟨RX4, "bears", "(II)I"⟩
def dkwX4_bears_3 : List UInt8 := [132, 4, 255, 167, 255, 218, 2, 172]
abbrev dktX4_bears_3 : List UInt8 := dkwX4_bears_3 ++ []
def dkwX4_bears_2 : List UInt8 := [182, 1, 84, 42, 180, 0, 42, 28, 46, 42, 180, 0, 13, 16, 41, 46, 100, 27, 163, 0, 6, 21, 4, 172]
abbrev dktX4_bears_2 : List UInt8 := dkwX4_bears_2 ++ dktX4_bears_3
def dkwX4_bears_1 : List UInt8 := [42, 2, 182, 0, 232, 62, 17, 3, 231, 54, 4, 21, 4, 155, 0, 39, 42, 28, 29, 21, 4, 96]
abbrev dktX4_bears_1 : List UInt8 := dkwX4_bears_1 ++ dktX4_bears_2
def dkwX4_bears_0 : List UInt8 := [42, 3, 181, 0, 1, 27, 155, 0, 15, 28, 133, 10, 20, 1, 102, 184, 0, 141, 154, 0, 6, 16, 253, 172]
abbrev dktX4_bears_0 : List UInt8 := dkwX4_bears_0 ++ dktX4_bears_1
theorem dksX4_bears_0 : cX4_bears.data.toList.drop 0 = dktX4_bears_0 := by decide +kernel
theorem dksX4_bears_1 : cX4_bears.data.toList.drop 24 = dktX4_bears_1 := dk_seg dksX4_bears_0 24 rfl rfl
theorem dksX4_bears_2 : cX4_bears.data.toList.drop 46 = dktX4_bears_2 := dk_seg dksX4_bears_1 22 rfl rfl
theorem dksX4_bears_3 : cX4_bears.data.toList.drop 70 = dktX4_bears_3 := dk_seg dksX4_bears_2 24 rfl rfl
theorem dX4_bears_0 : decode cX4_bears 0 = .ok (.aload_n 0, 1) := dk_42 (dk_at dksX4_bears_0 0 rfl rfl)
theorem dX4_bears_1 : decode cX4_bears 1 = .ok (.iconst 0, 1) := dk_3 (dk_at dksX4_bears_0 1 rfl rfl)
theorem dX4_bears_2 : decode cX4_bears 2 = .ok (.putfield 1, 3) := dk_181 0 1 (dk_at dksX4_bears_0 2 rfl rfl)
theorem dX4_bears_5 : decode cX4_bears 5 = .ok (.iload_n 1, 1) := dk_27 (dk_at dksX4_bears_0 5 rfl rfl)
theorem dX4_bears_6 : decode cX4_bears 6 = .ok (.ifCond .lt 15, 3) := dk_155 0 15 (dk_at dksX4_bears_0 6 rfl rfl)
theorem dX4_bears_9 : decode cX4_bears 9 = .ok (.iload_n 2, 1) := dk_28 (dk_at dksX4_bears_0 9 rfl rfl)
theorem dX4_bears_10 : decode cX4_bears 10 = .ok (.i2l, 1) := dk_133 (dk_at dksX4_bears_0 10 rfl rfl)
theorem dX4_bears_11 : decode cX4_bears 11 = .ok (.lconst 1, 1) := dk_10 (dk_at dksX4_bears_0 11 rfl rfl)
theorem dX4_bears_12 : decode cX4_bears 12 = .ok (.ldc2_w 358, 3) := dk_20 1 102 (dk_at dksX4_bears_0 12 rfl rfl)
theorem dX4_bears_15 : decode cX4_bears 15 = .ok (.invokestatic 141, 3) := dk_184 0 141 (dk_at dksX4_bears_0 15 rfl rfl)
theorem dX4_bears_18 : decode cX4_bears 18 = .ok (.ifCond .ne 6, 3) := dk_154 0 6 (dk_at dksX4_bears_0 18 rfl rfl)
theorem dX4_bears_21 : decode cX4_bears 21 = .ok (.bipush (-3), 2) := dk_16 253 (dk_at dksX4_bears_0 21 rfl rfl)
theorem dX4_bears_23 : decode cX4_bears 23 = .ok (.ireturn, 1) := dk_172 (dk_at dksX4_bears_0 23 rfl rfl)
theorem dX4_bears_24 : decode cX4_bears 24 = .ok (.aload_n 0, 1) := dk_42 (dk_at dksX4_bears_1 0 rfl rfl)
theorem dX4_bears_25 : decode cX4_bears 25 = .ok (.iconst (-1), 1) := dk_2 (dk_at dksX4_bears_1 1 rfl rfl)
theorem dX4_bears_26 : decode cX4_bears 26 = .ok (.invokevirtual 232, 3) := dk_182 0 232 (dk_at dksX4_bears_1 2 rfl rfl)
theorem dX4_bears_29 : decode cX4_bears 29 = .ok (.istore_n 3, 1) := dk_62 (dk_at dksX4_bears_1 5 rfl rfl)
theorem dX4_bears_30 : decode cX4_bears 30 = .ok (.sipush 999, 3) := dk_17 3 231 (dk_at dksX4_bears_1 6 rfl rfl)
theorem dX4_bears_33 : decode cX4_bears 33 = .ok (.istore 4, 2) := dk_54 4 (dk_at dksX4_bears_1 9 rfl rfl)
theorem dX4_bears_35 : decode cX4_bears 35 = .ok (.iload 4, 2) := dk_21 4 (dk_at dksX4_bears_1 11 rfl rfl)
theorem dX4_bears_37 : decode cX4_bears 37 = .ok (.ifCond .lt 39, 3) := dk_155 0 39 (dk_at dksX4_bears_1 13 rfl rfl)
theorem dX4_bears_40 : decode cX4_bears 40 = .ok (.aload_n 0, 1) := dk_42 (dk_at dksX4_bears_1 16 rfl rfl)
theorem dX4_bears_41 : decode cX4_bears 41 = .ok (.iload_n 2, 1) := dk_28 (dk_at dksX4_bears_1 17 rfl rfl)
theorem dX4_bears_42 : decode cX4_bears 42 = .ok (.iload_n 3, 1) := dk_29 (dk_at dksX4_bears_1 18 rfl rfl)
theorem dX4_bears_43 : decode cX4_bears 43 = .ok (.iload 4, 2) := dk_21 4 (dk_at dksX4_bears_1 19 rfl rfl)
theorem dX4_bears_45 : decode cX4_bears 45 = .ok (.iadd, 1) := dk_96 (dk_at dksX4_bears_1 21 rfl rfl)
theorem dX4_bears_46 : decode cX4_bears 46 = .ok (.invokevirtual 340, 3) := dk_182 1 84 (dk_at dksX4_bears_2 0 rfl rfl)
theorem dX4_bears_49 : decode cX4_bears 49 = .ok (.aload_n 0, 1) := dk_42 (dk_at dksX4_bears_2 3 rfl rfl)
theorem dX4_bears_50 : decode cX4_bears 50 = .ok (.getfield 42, 3) := dk_180 0 42 (dk_at dksX4_bears_2 4 rfl rfl)
theorem dX4_bears_53 : decode cX4_bears 53 = .ok (.iload_n 2, 1) := dk_28 (dk_at dksX4_bears_2 7 rfl rfl)
theorem dX4_bears_54 : decode cX4_bears 54 = .ok (.iaload, 1) := dk_46 (dk_at dksX4_bears_2 8 rfl rfl)
theorem dX4_bears_55 : decode cX4_bears 55 = .ok (.aload_n 0, 1) := dk_42 (dk_at dksX4_bears_2 9 rfl rfl)
theorem dX4_bears_56 : decode cX4_bears 56 = .ok (.getfield 13, 3) := dk_180 0 13 (dk_at dksX4_bears_2 10 rfl rfl)
theorem dX4_bears_59 : decode cX4_bears 59 = .ok (.bipush 41, 2) := dk_16 41 (dk_at dksX4_bears_2 13 rfl rfl)
theorem dX4_bears_61 : decode cX4_bears 61 = .ok (.iaload, 1) := dk_46 (dk_at dksX4_bears_2 15 rfl rfl)
theorem dX4_bears_62 : decode cX4_bears 62 = .ok (.isub, 1) := dk_100 (dk_at dksX4_bears_2 16 rfl rfl)
theorem dX4_bears_63 : decode cX4_bears 63 = .ok (.iload_n 1, 1) := dk_27 (dk_at dksX4_bears_2 17 rfl rfl)
theorem dX4_bears_64 : decode cX4_bears 64 = .ok (.if_icmp .gt 6, 3) := dk_163 0 6 (dk_at dksX4_bears_2 18 rfl rfl)
theorem dX4_bears_67 : decode cX4_bears 67 = .ok (.iload 4, 2) := dk_21 4 (dk_at dksX4_bears_2 21 rfl rfl)
theorem dX4_bears_69 : decode cX4_bears 69 = .ok (.ireturn, 1) := dk_172 (dk_at dksX4_bears_2 23 rfl rfl)
theorem dX4_bears_70 : decode cX4_bears 70 = .ok (.iinc 4 (-1), 3) := dk_132 4 255 (dk_at dksX4_bears_3 0 rfl rfl)
theorem dX4_bears_73 : decode cX4_bears 73 = .ok (.goto (-38), 3) := dk_167 255 218 (dk_at dksX4_bears_3 3 rfl rfl)
theorem dX4_bears_76 : decode cX4_bears 76 = .ok (.iconst (-1), 1) := dk_2 (dk_at dksX4_bears_3 6 rfl rfl)
theorem dX4_bears_77 : decode cX4_bears 77 = .ok (.ireturn, 1) := dk_172 (dk_at dksX4_bears_3 7 rfl rfl)
abbrev cX4_stays : ByteArray := prog_11_method_97_code
def yX4_stays : MethodName := ⟨RX4, "stays", "(II)J"⟩
def dkwX4_stays_2 : List UInt8 := [182, 1, 134, 47, 173]
abbrev dktX4_stays_2 : List UInt8 := dkwX4_stays_2 ++ []
def dkwX4_stays_1 : List UInt8 := [184, 0, 141, 154, 0, 7, 20, 1, 97, 173, 42, 27, 28, 182, 1, 131, 42, 180, 0, 45, 42, 27]
abbrev dktX4_stays_1 : List UInt8 := dkwX4_stays_1 ++ dktX4_stays_2
def dkwX4_stays_0 : List UInt8 := [42, 3, 181, 0, 1, 42, 27, 133, 182, 0, 229, 154, 0, 7, 20, 1, 127, 173, 28, 133, 10, 20, 1, 129]
abbrev dktX4_stays_0 : List UInt8 := dkwX4_stays_0 ++ dktX4_stays_1
theorem dksX4_stays_0 : cX4_stays.data.toList.drop 0 = dktX4_stays_0 := by decide +kernel
theorem dksX4_stays_1 : cX4_stays.data.toList.drop 24 = dktX4_stays_1 := dk_seg dksX4_stays_0 24 rfl rfl
theorem dksX4_stays_2 : cX4_stays.data.toList.drop 46 = dktX4_stays_2 := dk_seg dksX4_stays_1 22 rfl rfl
theorem dX4_stays_0 : decode cX4_stays 0 = .ok (.aload_n 0, 1) := dk_42 (dk_at dksX4_stays_0 0 rfl rfl)
theorem dX4_stays_1 : decode cX4_stays 1 = .ok (.iconst 0, 1) := dk_3 (dk_at dksX4_stays_0 1 rfl rfl)
theorem dX4_stays_2 : decode cX4_stays 2 = .ok (.putfield 1, 3) := dk_181 0 1 (dk_at dksX4_stays_0 2 rfl rfl)
theorem dX4_stays_5 : decode cX4_stays 5 = .ok (.aload_n 0, 1) := dk_42 (dk_at dksX4_stays_0 5 rfl rfl)
theorem dX4_stays_6 : decode cX4_stays 6 = .ok (.iload_n 1, 1) := dk_27 (dk_at dksX4_stays_0 6 rfl rfl)
theorem dX4_stays_7 : decode cX4_stays 7 = .ok (.i2l, 1) := dk_133 (dk_at dksX4_stays_0 7 rfl rfl)
theorem dX4_stays_8 : decode cX4_stays 8 = .ok (.invokevirtual 229, 3) := dk_182 0 229 (dk_at dksX4_stays_0 8 rfl rfl)
theorem dX4_stays_11 : decode cX4_stays 11 = .ok (.ifCond .ne 7, 3) := dk_154 0 7 (dk_at dksX4_stays_0 11 rfl rfl)
theorem dX4_stays_14 : decode cX4_stays 14 = .ok (.ldc2_w 383, 3) := dk_20 1 127 (dk_at dksX4_stays_0 14 rfl rfl)
theorem dX4_stays_17 : decode cX4_stays 17 = .ok (.lreturn, 1) := dk_173 (dk_at dksX4_stays_0 17 rfl rfl)
theorem dX4_stays_18 : decode cX4_stays 18 = .ok (.iload_n 2, 1) := dk_28 (dk_at dksX4_stays_0 18 rfl rfl)
theorem dX4_stays_19 : decode cX4_stays 19 = .ok (.i2l, 1) := dk_133 (dk_at dksX4_stays_0 19 rfl rfl)
theorem dX4_stays_20 : decode cX4_stays 20 = .ok (.lconst 1, 1) := dk_10 (dk_at dksX4_stays_0 20 rfl rfl)
theorem dX4_stays_21 : decode cX4_stays 21 = .ok (.ldc2_w 385, 3) := dk_20 1 129 (dk_at dksX4_stays_0 21 rfl rfl)
theorem dX4_stays_24 : decode cX4_stays 24 = .ok (.invokestatic 141, 3) := dk_184 0 141 (dk_at dksX4_stays_1 0 rfl rfl)
theorem dX4_stays_27 : decode cX4_stays 27 = .ok (.ifCond .ne 7, 3) := dk_154 0 7 (dk_at dksX4_stays_1 3 rfl rfl)
theorem dX4_stays_30 : decode cX4_stays 30 = .ok (.ldc2_w 353, 3) := dk_20 1 97 (dk_at dksX4_stays_1 6 rfl rfl)
theorem dX4_stays_33 : decode cX4_stays 33 = .ok (.lreturn, 1) := dk_173 (dk_at dksX4_stays_1 9 rfl rfl)
theorem dX4_stays_34 : decode cX4_stays 34 = .ok (.aload_n 0, 1) := dk_42 (dk_at dksX4_stays_1 10 rfl rfl)
theorem dX4_stays_35 : decode cX4_stays 35 = .ok (.iload_n 1, 1) := dk_27 (dk_at dksX4_stays_1 11 rfl rfl)
theorem dX4_stays_36 : decode cX4_stays 36 = .ok (.iload_n 2, 1) := dk_28 (dk_at dksX4_stays_1 12 rfl rfl)
theorem dX4_stays_37 : decode cX4_stays 37 = .ok (.invokevirtual 387, 3) := dk_182 1 131 (dk_at dksX4_stays_1 13 rfl rfl)
theorem dX4_stays_40 : decode cX4_stays 40 = .ok (.aload_n 0, 1) := dk_42 (dk_at dksX4_stays_1 16 rfl rfl)
theorem dX4_stays_41 : decode cX4_stays 41 = .ok (.getfield 45, 3) := dk_180 0 45 (dk_at dksX4_stays_1 17 rfl rfl)
theorem dX4_stays_44 : decode cX4_stays 44 = .ok (.aload_n 0, 1) := dk_42 (dk_at dksX4_stays_1 20 rfl rfl)
theorem dX4_stays_45 : decode cX4_stays 45 = .ok (.iload_n 1, 1) := dk_27 (dk_at dksX4_stays_1 21 rfl rfl)
theorem dX4_stays_46 : decode cX4_stays 46 = .ok (.invokevirtual 390, 3) := dk_182 1 134 (dk_at dksX4_stays_2 0 rfl rfl)
theorem dX4_stays_49 : decode cX4_stays 49 = .ok (.laload, 1) := dk_47 (dk_at dksX4_stays_2 3 rfl rfl)
theorem dX4_stays_50 : decode cX4_stays 50 = .ok (.lreturn, 1) := dk_173 (dk_at dksX4_stays_2 4 rfl rfl)
abbrev cX4_laysMost : ByteArray := prog_11_method_94_code
def yX4_laysMost : MethodName := ⟨RX4, "laysMost", "(II)V"⟩
def dkwX4_laysMost_9 : List UInt8 := [29, 104, 21, 4, 96, 22, 5, 80, 132, 4, 1, 167, 255, 148, 132, 3, 255, 167, 255, 135, 177]
abbrev dktX4_laysMost_9 : List UInt8 := dkwX4_laysMost_9 ++ []
def dkwX4_laysMost_8 : List UInt8 := [158, 0, 8, 22, 8, 167, 0, 5, 22, 5, 55, 5, 132, 7, 1, 167, 255, 183, 42, 180, 0, 45, 16, 9]
abbrev dktX4_laysMost_8 : List UInt8 := dkwX4_laysMost_8 ++ dktX4_laysMost_9
def dkwX4_laysMost_7 : List UInt8 := [154, 0, 6, 167, 0, 32, 42, 27, 29, 21, 4, 21, 7, 182, 1, 123, 55, 8, 22, 8, 22, 5, 148]
abbrev dktX4_laysMost_7 : List UInt8 := dkwX4_laysMost_7 ++ dktX4_laysMost_8
def dkwX4_laysMost_6 : List UInt8 := [159, 0, 15, 21, 4, 42, 180, 0, 13, 16, 20, 46, 162, 0, 47, 42, 29, 21, 4, 21, 7, 182, 1, 119]
abbrev dktX4_laysMost_6 : List UInt8 := dkwX4_laysMost_6 ++ dktX4_laysMost_7
def dkwX4_laysMost_5 : List UInt8 := [16, 8, 163, 0, 107, 20, 1, 117, 55, 5, 3, 54, 7, 21, 7, 16, 8, 163, 0, 72, 21, 4, 16, 8]
abbrev dktX4_laysMost_5 : List UInt8 := dkwX4_laysMost_5 ++ dktX4_laysMost_6
def dkwX4_laysMost_4 : List UInt8 := [9, 80, 132, 3, 1, 167, 255, 232, 42, 180, 1, 114, 4, 100, 62, 29, 155, 0, 123, 3, 54, 4, 21, 4]
abbrev dktX4_laysMost_4 : List UInt8 := dkwX4_laysMost_4 ++ dktX4_laysMost_5
def dkwX4_laysMost_3 : List UInt8 := [167, 255, 208, 3, 62, 29, 16, 8, 163, 0, 24, 42, 180, 0, 45, 16, 9, 42, 180, 1, 114, 104, 29, 96]
abbrev dktX4_laysMost_3 : List UInt8 := dkwX4_laysMost_3 ++ dktX4_laysMost_4
def dkwX4_laysMost_2 : List UInt8 := [42, 29, 182, 0, 226, 27, 160, 0, 9, 4, 29, 120, 167, 0, 4, 3, 128, 181, 1, 107, 132, 3, 1]
abbrev dktX4_laysMost_2 : List UInt8 := dkwX4_laysMost_2 ++ dktX4_laysMost_3
def dkwX4_laysMost_1 : List UInt8 := [42, 180, 0, 13, 16, 20, 46, 162, 0, 43, 42, 89, 180, 1, 107, 42, 29, 182, 0, 226, 2, 159, 0, 12]
abbrev dktX4_laysMost_1 : List UInt8 := dkwX4_laysMost_1 ++ dktX4_laysMost_2
def dkwX4_laysMost_0 : List UInt8 := [42, 16, 12, 28, 104, 181, 1, 114, 42, 42, 180, 1, 114, 182, 1, 90, 42, 3, 181, 1, 107, 3, 62, 29]
abbrev dktX4_laysMost_0 : List UInt8 := dkwX4_laysMost_0 ++ dktX4_laysMost_1
theorem dksX4_laysMost_0 : cX4_laysMost.data.toList.drop 0 = dktX4_laysMost_0 := by decide +kernel
theorem dksX4_laysMost_1 : cX4_laysMost.data.toList.drop 24 = dktX4_laysMost_1 := dk_seg dksX4_laysMost_0 24 rfl rfl
theorem dksX4_laysMost_2 : cX4_laysMost.data.toList.drop 48 = dktX4_laysMost_2 := dk_seg dksX4_laysMost_1 24 rfl rfl
theorem dksX4_laysMost_3 : cX4_laysMost.data.toList.drop 71 = dktX4_laysMost_3 := dk_seg dksX4_laysMost_2 23 rfl rfl
theorem dksX4_laysMost_4 : cX4_laysMost.data.toList.drop 95 = dktX4_laysMost_4 := dk_seg dksX4_laysMost_3 24 rfl rfl
theorem dksX4_laysMost_5 : cX4_laysMost.data.toList.drop 119 = dktX4_laysMost_5 := dk_seg dksX4_laysMost_4 24 rfl rfl
theorem dksX4_laysMost_6 : cX4_laysMost.data.toList.drop 143 = dktX4_laysMost_6 := dk_seg dksX4_laysMost_5 24 rfl rfl
theorem dksX4_laysMost_7 : cX4_laysMost.data.toList.drop 167 = dktX4_laysMost_7 := dk_seg dksX4_laysMost_6 24 rfl rfl
theorem dksX4_laysMost_8 : cX4_laysMost.data.toList.drop 190 = dktX4_laysMost_8 := dk_seg dksX4_laysMost_7 23 rfl rfl
theorem dksX4_laysMost_9 : cX4_laysMost.data.toList.drop 214 = dktX4_laysMost_9 := dk_seg dksX4_laysMost_8 24 rfl rfl
theorem dX4_laysMost_0 : decode cX4_laysMost 0 = .ok (.aload_n 0, 1) := dk_42 (dk_at dksX4_laysMost_0 0 rfl rfl)
theorem dX4_laysMost_1 : decode cX4_laysMost 1 = .ok (.bipush 12, 2) := dk_16 12 (dk_at dksX4_laysMost_0 1 rfl rfl)
theorem dX4_laysMost_3 : decode cX4_laysMost 3 = .ok (.iload_n 2, 1) := dk_28 (dk_at dksX4_laysMost_0 3 rfl rfl)
theorem dX4_laysMost_4 : decode cX4_laysMost 4 = .ok (.imul, 1) := dk_104 (dk_at dksX4_laysMost_0 4 rfl rfl)
theorem dX4_laysMost_5 : decode cX4_laysMost 5 = .ok (.putfield 370, 3) := dk_181 1 114 (dk_at dksX4_laysMost_0 5 rfl rfl)
theorem dX4_laysMost_8 : decode cX4_laysMost 8 = .ok (.aload_n 0, 1) := dk_42 (dk_at dksX4_laysMost_0 8 rfl rfl)
theorem dX4_laysMost_9 : decode cX4_laysMost 9 = .ok (.aload_n 0, 1) := dk_42 (dk_at dksX4_laysMost_0 9 rfl rfl)
theorem dX4_laysMost_10 : decode cX4_laysMost 10 = .ok (.getfield 370, 3) := dk_180 1 114 (dk_at dksX4_laysMost_0 10 rfl rfl)
theorem dX4_laysMost_13 : decode cX4_laysMost 13 = .ok (.invokevirtual 346, 3) := dk_182 1 90 (dk_at dksX4_laysMost_0 13 rfl rfl)
theorem dX4_laysMost_16 : decode cX4_laysMost 16 = .ok (.aload_n 0, 1) := dk_42 (dk_at dksX4_laysMost_0 16 rfl rfl)
theorem dX4_laysMost_17 : decode cX4_laysMost 17 = .ok (.iconst 0, 1) := dk_3 (dk_at dksX4_laysMost_0 17 rfl rfl)
theorem dX4_laysMost_18 : decode cX4_laysMost 18 = .ok (.putfield 363, 3) := dk_181 1 107 (dk_at dksX4_laysMost_0 18 rfl rfl)
theorem dX4_laysMost_21 : decode cX4_laysMost 21 = .ok (.iconst 0, 1) := dk_3 (dk_at dksX4_laysMost_0 21 rfl rfl)
theorem dX4_laysMost_22 : decode cX4_laysMost 22 = .ok (.istore_n 3, 1) := dk_62 (dk_at dksX4_laysMost_0 22 rfl rfl)
theorem dX4_laysMost_23 : decode cX4_laysMost 23 = .ok (.iload_n 3, 1) := dk_29 (dk_at dksX4_laysMost_0 23 rfl rfl)
theorem dX4_laysMost_24 : decode cX4_laysMost 24 = .ok (.aload_n 0, 1) := dk_42 (dk_at dksX4_laysMost_1 0 rfl rfl)
theorem dX4_laysMost_25 : decode cX4_laysMost 25 = .ok (.getfield 13, 3) := dk_180 0 13 (dk_at dksX4_laysMost_1 1 rfl rfl)
theorem dX4_laysMost_28 : decode cX4_laysMost 28 = .ok (.bipush 20, 2) := dk_16 20 (dk_at dksX4_laysMost_1 4 rfl rfl)
theorem dX4_laysMost_30 : decode cX4_laysMost 30 = .ok (.iaload, 1) := dk_46 (dk_at dksX4_laysMost_1 6 rfl rfl)
theorem dX4_laysMost_31 : decode cX4_laysMost 31 = .ok (.if_icmp .ge 43, 3) := dk_162 0 43 (dk_at dksX4_laysMost_1 7 rfl rfl)
theorem dX4_laysMost_34 : decode cX4_laysMost 34 = .ok (.aload_n 0, 1) := dk_42 (dk_at dksX4_laysMost_1 10 rfl rfl)
theorem dX4_laysMost_35 : decode cX4_laysMost 35 = .ok (.dup, 1) := dk_89 (dk_at dksX4_laysMost_1 11 rfl rfl)
theorem dX4_laysMost_36 : decode cX4_laysMost 36 = .ok (.getfield 363, 3) := dk_180 1 107 (dk_at dksX4_laysMost_1 12 rfl rfl)
theorem dX4_laysMost_39 : decode cX4_laysMost 39 = .ok (.aload_n 0, 1) := dk_42 (dk_at dksX4_laysMost_1 15 rfl rfl)
theorem dX4_laysMost_40 : decode cX4_laysMost 40 = .ok (.iload_n 3, 1) := dk_29 (dk_at dksX4_laysMost_1 16 rfl rfl)
theorem dX4_laysMost_41 : decode cX4_laysMost 41 = .ok (.invokevirtual 226, 3) := dk_182 0 226 (dk_at dksX4_laysMost_1 17 rfl rfl)
theorem dX4_laysMost_44 : decode cX4_laysMost 44 = .ok (.iconst (-1), 1) := dk_2 (dk_at dksX4_laysMost_1 20 rfl rfl)
theorem dX4_laysMost_45 : decode cX4_laysMost 45 = .ok (.if_icmp .eq 12, 3) := dk_159 0 12 (dk_at dksX4_laysMost_1 21 rfl rfl)
theorem dX4_laysMost_48 : decode cX4_laysMost 48 = .ok (.aload_n 0, 1) := dk_42 (dk_at dksX4_laysMost_2 0 rfl rfl)
theorem dX4_laysMost_49 : decode cX4_laysMost 49 = .ok (.iload_n 3, 1) := dk_29 (dk_at dksX4_laysMost_2 1 rfl rfl)
theorem dX4_laysMost_50 : decode cX4_laysMost 50 = .ok (.invokevirtual 226, 3) := dk_182 0 226 (dk_at dksX4_laysMost_2 2 rfl rfl)
theorem dX4_laysMost_53 : decode cX4_laysMost 53 = .ok (.iload_n 1, 1) := dk_27 (dk_at dksX4_laysMost_2 5 rfl rfl)
theorem dX4_laysMost_54 : decode cX4_laysMost 54 = .ok (.if_icmp .ne 9, 3) := dk_160 0 9 (dk_at dksX4_laysMost_2 6 rfl rfl)
theorem dX4_laysMost_57 : decode cX4_laysMost 57 = .ok (.iconst 1, 1) := dk_4 (dk_at dksX4_laysMost_2 9 rfl rfl)
theorem dX4_laysMost_58 : decode cX4_laysMost 58 = .ok (.iload_n 3, 1) := dk_29 (dk_at dksX4_laysMost_2 10 rfl rfl)
theorem dX4_laysMost_59 : decode cX4_laysMost 59 = .ok (.ishl, 1) := dk_120 (dk_at dksX4_laysMost_2 11 rfl rfl)
theorem dX4_laysMost_60 : decode cX4_laysMost 60 = .ok (.goto 4, 3) := dk_167 0 4 (dk_at dksX4_laysMost_2 12 rfl rfl)
theorem dX4_laysMost_63 : decode cX4_laysMost 63 = .ok (.iconst 0, 1) := dk_3 (dk_at dksX4_laysMost_2 15 rfl rfl)
theorem dX4_laysMost_64 : decode cX4_laysMost 64 = .ok (.ior, 1) := dk_128 (dk_at dksX4_laysMost_2 16 rfl rfl)
theorem dX4_laysMost_65 : decode cX4_laysMost 65 = .ok (.putfield 363, 3) := dk_181 1 107 (dk_at dksX4_laysMost_2 17 rfl rfl)
theorem dX4_laysMost_68 : decode cX4_laysMost 68 = .ok (.iinc 3 1, 3) := dk_132 3 1 (dk_at dksX4_laysMost_2 20 rfl rfl)
theorem dX4_laysMost_71 : decode cX4_laysMost 71 = .ok (.goto (-48), 3) := dk_167 255 208 (dk_at dksX4_laysMost_3 0 rfl rfl)
theorem dX4_laysMost_74 : decode cX4_laysMost 74 = .ok (.iconst 0, 1) := dk_3 (dk_at dksX4_laysMost_3 3 rfl rfl)
theorem dX4_laysMost_75 : decode cX4_laysMost 75 = .ok (.istore_n 3, 1) := dk_62 (dk_at dksX4_laysMost_3 4 rfl rfl)
theorem dX4_laysMost_76 : decode cX4_laysMost 76 = .ok (.iload_n 3, 1) := dk_29 (dk_at dksX4_laysMost_3 5 rfl rfl)
theorem dX4_laysMost_77 : decode cX4_laysMost 77 = .ok (.bipush 8, 2) := dk_16 8 (dk_at dksX4_laysMost_3 6 rfl rfl)
theorem dX4_laysMost_79 : decode cX4_laysMost 79 = .ok (.if_icmp .gt 24, 3) := dk_163 0 24 (dk_at dksX4_laysMost_3 8 rfl rfl)
theorem dX4_laysMost_82 : decode cX4_laysMost 82 = .ok (.aload_n 0, 1) := dk_42 (dk_at dksX4_laysMost_3 11 rfl rfl)
theorem dX4_laysMost_83 : decode cX4_laysMost 83 = .ok (.getfield 45, 3) := dk_180 0 45 (dk_at dksX4_laysMost_3 12 rfl rfl)
theorem dX4_laysMost_86 : decode cX4_laysMost 86 = .ok (.bipush 9, 2) := dk_16 9 (dk_at dksX4_laysMost_3 15 rfl rfl)
theorem dX4_laysMost_88 : decode cX4_laysMost 88 = .ok (.aload_n 0, 1) := dk_42 (dk_at dksX4_laysMost_3 17 rfl rfl)
theorem dX4_laysMost_89 : decode cX4_laysMost 89 = .ok (.getfield 370, 3) := dk_180 1 114 (dk_at dksX4_laysMost_3 18 rfl rfl)
theorem dX4_laysMost_92 : decode cX4_laysMost 92 = .ok (.imul, 1) := dk_104 (dk_at dksX4_laysMost_3 21 rfl rfl)
theorem dX4_laysMost_93 : decode cX4_laysMost 93 = .ok (.iload_n 3, 1) := dk_29 (dk_at dksX4_laysMost_3 22 rfl rfl)
theorem dX4_laysMost_94 : decode cX4_laysMost 94 = .ok (.iadd, 1) := dk_96 (dk_at dksX4_laysMost_3 23 rfl rfl)
theorem dX4_laysMost_95 : decode cX4_laysMost 95 = .ok (.lconst 0, 1) := dk_9 (dk_at dksX4_laysMost_4 0 rfl rfl)
theorem dX4_laysMost_96 : decode cX4_laysMost 96 = .ok (.lastore, 1) := dk_80 (dk_at dksX4_laysMost_4 1 rfl rfl)
theorem dX4_laysMost_97 : decode cX4_laysMost 97 = .ok (.iinc 3 1, 3) := dk_132 3 1 (dk_at dksX4_laysMost_4 2 rfl rfl)
theorem dX4_laysMost_100 : decode cX4_laysMost 100 = .ok (.goto (-24), 3) := dk_167 255 232 (dk_at dksX4_laysMost_4 5 rfl rfl)
theorem dX4_laysMost_103 : decode cX4_laysMost 103 = .ok (.aload_n 0, 1) := dk_42 (dk_at dksX4_laysMost_4 8 rfl rfl)
theorem dX4_laysMost_104 : decode cX4_laysMost 104 = .ok (.getfield 370, 3) := dk_180 1 114 (dk_at dksX4_laysMost_4 9 rfl rfl)
theorem dX4_laysMost_107 : decode cX4_laysMost 107 = .ok (.iconst 1, 1) := dk_4 (dk_at dksX4_laysMost_4 12 rfl rfl)
theorem dX4_laysMost_108 : decode cX4_laysMost 108 = .ok (.isub, 1) := dk_100 (dk_at dksX4_laysMost_4 13 rfl rfl)
theorem dX4_laysMost_109 : decode cX4_laysMost 109 = .ok (.istore_n 3, 1) := dk_62 (dk_at dksX4_laysMost_4 14 rfl rfl)
theorem dX4_laysMost_110 : decode cX4_laysMost 110 = .ok (.iload_n 3, 1) := dk_29 (dk_at dksX4_laysMost_4 15 rfl rfl)
theorem dX4_laysMost_111 : decode cX4_laysMost 111 = .ok (.ifCond .lt 123, 3) := dk_155 0 123 (dk_at dksX4_laysMost_4 16 rfl rfl)
theorem dX4_laysMost_114 : decode cX4_laysMost 114 = .ok (.iconst 0, 1) := dk_3 (dk_at dksX4_laysMost_4 19 rfl rfl)
theorem dX4_laysMost_115 : decode cX4_laysMost 115 = .ok (.istore 4, 2) := dk_54 4 (dk_at dksX4_laysMost_4 20 rfl rfl)
theorem dX4_laysMost_117 : decode cX4_laysMost 117 = .ok (.iload 4, 2) := dk_21 4 (dk_at dksX4_laysMost_4 22 rfl rfl)
theorem dX4_laysMost_119 : decode cX4_laysMost 119 = .ok (.bipush 8, 2) := dk_16 8 (dk_at dksX4_laysMost_5 0 rfl rfl)
theorem dX4_laysMost_121 : decode cX4_laysMost 121 = .ok (.if_icmp .gt 107, 3) := dk_163 0 107 (dk_at dksX4_laysMost_5 2 rfl rfl)
theorem dX4_laysMost_124 : decode cX4_laysMost 124 = .ok (.ldc2_w 373, 3) := dk_20 1 117 (dk_at dksX4_laysMost_5 5 rfl rfl)
theorem dX4_laysMost_127 : decode cX4_laysMost 127 = .ok (.lstore 5, 2) := dk_55 5 (dk_at dksX4_laysMost_5 8 rfl rfl)
theorem dX4_laysMost_129 : decode cX4_laysMost 129 = .ok (.iconst 0, 1) := dk_3 (dk_at dksX4_laysMost_5 10 rfl rfl)
theorem dX4_laysMost_130 : decode cX4_laysMost 130 = .ok (.istore 7, 2) := dk_54 7 (dk_at dksX4_laysMost_5 11 rfl rfl)
theorem dX4_laysMost_132 : decode cX4_laysMost 132 = .ok (.iload 7, 2) := dk_21 7 (dk_at dksX4_laysMost_5 13 rfl rfl)
theorem dX4_laysMost_134 : decode cX4_laysMost 134 = .ok (.bipush 8, 2) := dk_16 8 (dk_at dksX4_laysMost_5 15 rfl rfl)
theorem dX4_laysMost_136 : decode cX4_laysMost 136 = .ok (.if_icmp .gt 72, 3) := dk_163 0 72 (dk_at dksX4_laysMost_5 17 rfl rfl)
theorem dX4_laysMost_139 : decode cX4_laysMost 139 = .ok (.iload 4, 2) := dk_21 4 (dk_at dksX4_laysMost_5 20 rfl rfl)
theorem dX4_laysMost_141 : decode cX4_laysMost 141 = .ok (.bipush 8, 2) := dk_16 8 (dk_at dksX4_laysMost_5 22 rfl rfl)
theorem dX4_laysMost_143 : decode cX4_laysMost 143 = .ok (.if_icmp .eq 15, 3) := dk_159 0 15 (dk_at dksX4_laysMost_6 0 rfl rfl)
theorem dX4_laysMost_146 : decode cX4_laysMost 146 = .ok (.iload 4, 2) := dk_21 4 (dk_at dksX4_laysMost_6 3 rfl rfl)
theorem dX4_laysMost_148 : decode cX4_laysMost 148 = .ok (.aload_n 0, 1) := dk_42 (dk_at dksX4_laysMost_6 5 rfl rfl)
theorem dX4_laysMost_149 : decode cX4_laysMost 149 = .ok (.getfield 13, 3) := dk_180 0 13 (dk_at dksX4_laysMost_6 6 rfl rfl)
theorem dX4_laysMost_152 : decode cX4_laysMost 152 = .ok (.bipush 20, 2) := dk_16 20 (dk_at dksX4_laysMost_6 9 rfl rfl)
theorem dX4_laysMost_154 : decode cX4_laysMost 154 = .ok (.iaload, 1) := dk_46 (dk_at dksX4_laysMost_6 11 rfl rfl)
theorem dX4_laysMost_155 : decode cX4_laysMost 155 = .ok (.if_icmp .ge 47, 3) := dk_162 0 47 (dk_at dksX4_laysMost_6 12 rfl rfl)
theorem dX4_laysMost_158 : decode cX4_laysMost 158 = .ok (.aload_n 0, 1) := dk_42 (dk_at dksX4_laysMost_6 15 rfl rfl)
theorem dX4_laysMost_159 : decode cX4_laysMost 159 = .ok (.iload_n 3, 1) := dk_29 (dk_at dksX4_laysMost_6 16 rfl rfl)
theorem dX4_laysMost_160 : decode cX4_laysMost 160 = .ok (.iload 4, 2) := dk_21 4 (dk_at dksX4_laysMost_6 17 rfl rfl)
theorem dX4_laysMost_162 : decode cX4_laysMost 162 = .ok (.iload 7, 2) := dk_21 7 (dk_at dksX4_laysMost_6 19 rfl rfl)
theorem dX4_laysMost_164 : decode cX4_laysMost 164 = .ok (.invokevirtual 375, 3) := dk_182 1 119 (dk_at dksX4_laysMost_6 21 rfl rfl)
theorem dX4_laysMost_167 : decode cX4_laysMost 167 = .ok (.ifCond .ne 6, 3) := dk_154 0 6 (dk_at dksX4_laysMost_7 0 rfl rfl)
theorem dX4_laysMost_170 : decode cX4_laysMost 170 = .ok (.goto 32, 3) := dk_167 0 32 (dk_at dksX4_laysMost_7 3 rfl rfl)
theorem dX4_laysMost_173 : decode cX4_laysMost 173 = .ok (.aload_n 0, 1) := dk_42 (dk_at dksX4_laysMost_7 6 rfl rfl)
theorem dX4_laysMost_174 : decode cX4_laysMost 174 = .ok (.iload_n 1, 1) := dk_27 (dk_at dksX4_laysMost_7 7 rfl rfl)
theorem dX4_laysMost_175 : decode cX4_laysMost 175 = .ok (.iload_n 3, 1) := dk_29 (dk_at dksX4_laysMost_7 8 rfl rfl)
theorem dX4_laysMost_176 : decode cX4_laysMost 176 = .ok (.iload 4, 2) := dk_21 4 (dk_at dksX4_laysMost_7 9 rfl rfl)
theorem dX4_laysMost_178 : decode cX4_laysMost 178 = .ok (.iload 7, 2) := dk_21 7 (dk_at dksX4_laysMost_7 11 rfl rfl)
theorem dX4_laysMost_180 : decode cX4_laysMost 180 = .ok (.invokevirtual 379, 3) := dk_182 1 123 (dk_at dksX4_laysMost_7 13 rfl rfl)
theorem dX4_laysMost_183 : decode cX4_laysMost 183 = .ok (.lstore 8, 2) := dk_55 8 (dk_at dksX4_laysMost_7 16 rfl rfl)
theorem dX4_laysMost_185 : decode cX4_laysMost 185 = .ok (.lload 8, 2) := dk_22 8 (dk_at dksX4_laysMost_7 18 rfl rfl)
theorem dX4_laysMost_187 : decode cX4_laysMost 187 = .ok (.lload 5, 2) := dk_22 5 (dk_at dksX4_laysMost_7 20 rfl rfl)
theorem dX4_laysMost_189 : decode cX4_laysMost 189 = .ok (.lcmp, 1) := dk_148 (dk_at dksX4_laysMost_7 22 rfl rfl)
theorem dX4_laysMost_190 : decode cX4_laysMost 190 = .ok (.ifCond .le 8, 3) := dk_158 0 8 (dk_at dksX4_laysMost_8 0 rfl rfl)
theorem dX4_laysMost_193 : decode cX4_laysMost 193 = .ok (.lload 8, 2) := dk_22 8 (dk_at dksX4_laysMost_8 3 rfl rfl)
theorem dX4_laysMost_195 : decode cX4_laysMost 195 = .ok (.goto 5, 3) := dk_167 0 5 (dk_at dksX4_laysMost_8 5 rfl rfl)
theorem dX4_laysMost_198 : decode cX4_laysMost 198 = .ok (.lload 5, 2) := dk_22 5 (dk_at dksX4_laysMost_8 8 rfl rfl)
theorem dX4_laysMost_200 : decode cX4_laysMost 200 = .ok (.lstore 5, 2) := dk_55 5 (dk_at dksX4_laysMost_8 10 rfl rfl)
theorem dX4_laysMost_202 : decode cX4_laysMost 202 = .ok (.iinc 7 1, 3) := dk_132 7 1 (dk_at dksX4_laysMost_8 12 rfl rfl)
theorem dX4_laysMost_205 : decode cX4_laysMost 205 = .ok (.goto (-73), 3) := dk_167 255 183 (dk_at dksX4_laysMost_8 15 rfl rfl)
theorem dX4_laysMost_208 : decode cX4_laysMost 208 = .ok (.aload_n 0, 1) := dk_42 (dk_at dksX4_laysMost_8 18 rfl rfl)
theorem dX4_laysMost_209 : decode cX4_laysMost 209 = .ok (.getfield 45, 3) := dk_180 0 45 (dk_at dksX4_laysMost_8 19 rfl rfl)
theorem dX4_laysMost_212 : decode cX4_laysMost 212 = .ok (.bipush 9, 2) := dk_16 9 (dk_at dksX4_laysMost_8 22 rfl rfl)
theorem dX4_laysMost_214 : decode cX4_laysMost 214 = .ok (.iload_n 3, 1) := dk_29 (dk_at dksX4_laysMost_9 0 rfl rfl)
theorem dX4_laysMost_215 : decode cX4_laysMost 215 = .ok (.imul, 1) := dk_104 (dk_at dksX4_laysMost_9 1 rfl rfl)
theorem dX4_laysMost_216 : decode cX4_laysMost 216 = .ok (.iload 4, 2) := dk_21 4 (dk_at dksX4_laysMost_9 2 rfl rfl)
theorem dX4_laysMost_218 : decode cX4_laysMost 218 = .ok (.iadd, 1) := dk_96 (dk_at dksX4_laysMost_9 4 rfl rfl)
theorem dX4_laysMost_219 : decode cX4_laysMost 219 = .ok (.lload 5, 2) := dk_22 5 (dk_at dksX4_laysMost_9 5 rfl rfl)
theorem dX4_laysMost_221 : decode cX4_laysMost 221 = .ok (.lastore, 1) := dk_80 (dk_at dksX4_laysMost_9 7 rfl rfl)
theorem dX4_laysMost_222 : decode cX4_laysMost 222 = .ok (.iinc 4 1, 3) := dk_132 4 1 (dk_at dksX4_laysMost_9 8 rfl rfl)
theorem dX4_laysMost_225 : decode cX4_laysMost 225 = .ok (.goto (-108), 3) := dk_167 255 148 (dk_at dksX4_laysMost_9 11 rfl rfl)
theorem dX4_laysMost_228 : decode cX4_laysMost 228 = .ok (.iinc 3 (-1), 3) := dk_132 3 255 (dk_at dksX4_laysMost_9 14 rfl rfl)
theorem dX4_laysMost_231 : decode cX4_laysMost 231 = .ok (.goto (-121), 3) := dk_167 255 135 (dk_at dksX4_laysMost_9 17 rfl rfl)
theorem dX4_laysMost_234 : decode cX4_laysMost 234 = .ok (.return_, 1) := dk_177 (dk_at dksX4_laysMost_9 20 rfl rfl)
abbrev cX4_mayGo : ByteArray := prog_11_method_92_code
def yX4_mayGo : MethodName := ⟨RX4, "mayGo", "(III)Z"⟩
def dkwX4_mayGo_2 : List UInt8 := [3, 172]
abbrev dktX4_mayGo_2 : List UInt8 := dkwX4_mayGo_2 ++ []
def dkwX4_mayGo_1 : List UInt8 := [29, 184, 1, 16, 153, 0, 20, 29, 42, 180, 0, 42, 27, 46, 184, 0, 205, 154, 0, 7, 4, 167, 0, 4]
abbrev dktX4_mayGo_1 : List UInt8 := dkwX4_mayGo_1 ++ dktX4_mayGo_2
def dkwX4_mayGo_0 : List UInt8 := [28, 29, 159, 0, 42, 29, 16, 8, 159, 0, 40, 42, 27, 182, 1, 104, 153, 0, 32, 42, 180, 1, 107, 133]
abbrev dktX4_mayGo_0 : List UInt8 := dkwX4_mayGo_0 ++ dktX4_mayGo_1
theorem dksX4_mayGo_0 : cX4_mayGo.data.toList.drop 0 = dktX4_mayGo_0 := by decide +kernel
theorem dksX4_mayGo_1 : cX4_mayGo.data.toList.drop 24 = dktX4_mayGo_1 := dk_seg dksX4_mayGo_0 24 rfl rfl
theorem dksX4_mayGo_2 : cX4_mayGo.data.toList.drop 48 = dktX4_mayGo_2 := dk_seg dksX4_mayGo_1 24 rfl rfl
theorem dX4_mayGo_0 : decode cX4_mayGo 0 = .ok (.iload_n 2, 1) := dk_28 (dk_at dksX4_mayGo_0 0 rfl rfl)
theorem dX4_mayGo_1 : decode cX4_mayGo 1 = .ok (.iload_n 3, 1) := dk_29 (dk_at dksX4_mayGo_0 1 rfl rfl)
theorem dX4_mayGo_2 : decode cX4_mayGo 2 = .ok (.if_icmp .eq 42, 3) := dk_159 0 42 (dk_at dksX4_mayGo_0 2 rfl rfl)
theorem dX4_mayGo_5 : decode cX4_mayGo 5 = .ok (.iload_n 3, 1) := dk_29 (dk_at dksX4_mayGo_0 5 rfl rfl)
theorem dX4_mayGo_6 : decode cX4_mayGo 6 = .ok (.bipush 8, 2) := dk_16 8 (dk_at dksX4_mayGo_0 6 rfl rfl)
theorem dX4_mayGo_8 : decode cX4_mayGo 8 = .ok (.if_icmp .eq 40, 3) := dk_159 0 40 (dk_at dksX4_mayGo_0 8 rfl rfl)
theorem dX4_mayGo_11 : decode cX4_mayGo 11 = .ok (.aload_n 0, 1) := dk_42 (dk_at dksX4_mayGo_0 11 rfl rfl)
theorem dX4_mayGo_12 : decode cX4_mayGo 12 = .ok (.iload_n 1, 1) := dk_27 (dk_at dksX4_mayGo_0 12 rfl rfl)
theorem dX4_mayGo_13 : decode cX4_mayGo 13 = .ok (.invokevirtual 360, 3) := dk_182 1 104 (dk_at dksX4_mayGo_0 13 rfl rfl)
theorem dX4_mayGo_16 : decode cX4_mayGo 16 = .ok (.ifCond .eq 32, 3) := dk_153 0 32 (dk_at dksX4_mayGo_0 16 rfl rfl)
theorem dX4_mayGo_19 : decode cX4_mayGo 19 = .ok (.aload_n 0, 1) := dk_42 (dk_at dksX4_mayGo_0 19 rfl rfl)
theorem dX4_mayGo_20 : decode cX4_mayGo 20 = .ok (.getfield 363, 3) := dk_180 1 107 (dk_at dksX4_mayGo_0 20 rfl rfl)
theorem dX4_mayGo_23 : decode cX4_mayGo 23 = .ok (.i2l, 1) := dk_133 (dk_at dksX4_mayGo_0 23 rfl rfl)
theorem dX4_mayGo_24 : decode cX4_mayGo 24 = .ok (.iload_n 3, 1) := dk_29 (dk_at dksX4_mayGo_1 0 rfl rfl)
theorem dX4_mayGo_25 : decode cX4_mayGo 25 = .ok (.invokestatic 272, 3) := dk_184 1 16 (dk_at dksX4_mayGo_1 1 rfl rfl)
theorem dX4_mayGo_28 : decode cX4_mayGo 28 = .ok (.ifCond .eq 20, 3) := dk_153 0 20 (dk_at dksX4_mayGo_1 4 rfl rfl)
theorem dX4_mayGo_31 : decode cX4_mayGo 31 = .ok (.iload_n 3, 1) := dk_29 (dk_at dksX4_mayGo_1 7 rfl rfl)
theorem dX4_mayGo_32 : decode cX4_mayGo 32 = .ok (.aload_n 0, 1) := dk_42 (dk_at dksX4_mayGo_1 8 rfl rfl)
theorem dX4_mayGo_33 : decode cX4_mayGo 33 = .ok (.getfield 42, 3) := dk_180 0 42 (dk_at dksX4_mayGo_1 9 rfl rfl)
theorem dX4_mayGo_36 : decode cX4_mayGo 36 = .ok (.iload_n 1, 1) := dk_27 (dk_at dksX4_mayGo_1 12 rfl rfl)
theorem dX4_mayGo_37 : decode cX4_mayGo 37 = .ok (.iaload, 1) := dk_46 (dk_at dksX4_mayGo_1 13 rfl rfl)
theorem dX4_mayGo_38 : decode cX4_mayGo 38 = .ok (.invokestatic 205, 3) := dk_184 0 205 (dk_at dksX4_mayGo_1 14 rfl rfl)
theorem dX4_mayGo_41 : decode cX4_mayGo 41 = .ok (.ifCond .ne 7, 3) := dk_154 0 7 (dk_at dksX4_mayGo_1 17 rfl rfl)
theorem dX4_mayGo_44 : decode cX4_mayGo 44 = .ok (.iconst 1, 1) := dk_4 (dk_at dksX4_mayGo_1 20 rfl rfl)
theorem dX4_mayGo_45 : decode cX4_mayGo 45 = .ok (.goto 4, 3) := dk_167 0 4 (dk_at dksX4_mayGo_1 21 rfl rfl)
theorem dX4_mayGo_48 : decode cX4_mayGo 48 = .ok (.iconst 0, 1) := dk_3 (dk_at dksX4_mayGo_2 0 rfl rfl)
theorem dX4_mayGo_49 : decode cX4_mayGo 49 = .ok (.ireturn, 1) := dk_172 (dk_at dksX4_mayGo_2 1 rfl rfl)
abbrev cX4_isMay : ByteArray := prog_11_method_90_code
def yX4_isMay : MethodName := ⟨RX4, "isMay", "(I)Z"⟩
def dkwX4_isMay_0 : List UInt8 := [42, 180, 0, 13, 16, 42, 46, 27, 96, 16, 12, 112, 7, 160, 0, 7, 4, 167, 0, 4, 3, 172]
abbrev dktX4_isMay_0 : List UInt8 := dkwX4_isMay_0 ++ []
theorem dksX4_isMay_0 : cX4_isMay.data.toList.drop 0 = dktX4_isMay_0 := by decide +kernel
theorem dX4_isMay_0 : decode cX4_isMay 0 = .ok (.aload_n 0, 1) := dk_42 (dk_at dksX4_isMay_0 0 rfl rfl)
theorem dX4_isMay_1 : decode cX4_isMay 1 = .ok (.getfield 13, 3) := dk_180 0 13 (dk_at dksX4_isMay_0 1 rfl rfl)
theorem dX4_isMay_4 : decode cX4_isMay 4 = .ok (.bipush 42, 2) := dk_16 42 (dk_at dksX4_isMay_0 4 rfl rfl)
theorem dX4_isMay_6 : decode cX4_isMay 6 = .ok (.iaload, 1) := dk_46 (dk_at dksX4_isMay_0 6 rfl rfl)
theorem dX4_isMay_7 : decode cX4_isMay 7 = .ok (.iload_n 1, 1) := dk_27 (dk_at dksX4_isMay_0 7 rfl rfl)
theorem dX4_isMay_8 : decode cX4_isMay 8 = .ok (.iadd, 1) := dk_96 (dk_at dksX4_isMay_0 8 rfl rfl)
theorem dX4_isMay_9 : decode cX4_isMay 9 = .ok (.bipush 12, 2) := dk_16 12 (dk_at dksX4_isMay_0 9 rfl rfl)
theorem dX4_isMay_11 : decode cX4_isMay 11 = .ok (.irem, 1) := dk_112 (dk_at dksX4_isMay_0 11 rfl rfl)
theorem dX4_isMay_12 : decode cX4_isMay 12 = .ok (.iconst 4, 1) := dk_7 (dk_at dksX4_isMay_0 12 rfl rfl)
theorem dX4_isMay_13 : decode cX4_isMay 13 = .ok (.if_icmp .ne 7, 3) := dk_160 0 7 (dk_at dksX4_isMay_0 13 rfl rfl)
theorem dX4_isMay_16 : decode cX4_isMay 16 = .ok (.iconst 1, 1) := dk_4 (dk_at dksX4_isMay_0 16 rfl rfl)
theorem dX4_isMay_17 : decode cX4_isMay 17 = .ok (.goto 4, 3) := dk_167 0 4 (dk_at dksX4_isMay_0 17 rfl rfl)
theorem dX4_isMay_20 : decode cX4_isMay 20 = .ok (.iconst 0, 1) := dk_3 (dk_at dksX4_isMay_0 20 rfl rfl)
theorem dX4_isMay_21 : decode cX4_isMay 21 = .ok (.ireturn, 1) := dk_172 (dk_at dksX4_isMay_0 21 rfl rfl)
abbrev cX4_goesBy : ByteArray := prog_11_method_93_code
def yX4_goesBy : MethodName := ⟨RX4, "goesBy", "(IIII)J"⟩
def dkwX4_goesBy_1 : List UInt8 := [133, 101, 42, 180, 0, 45, 16, 9, 28, 4, 96, 104, 21, 4, 96, 47, 97, 173]
abbrev dktX4_goesBy_1 : List UInt8 := dkwX4_goesBy_1 ++ []
def dkwX4_goesBy_0 : List UInt8 := [42, 27, 28, 21, 4, 182, 1, 110, 29, 21, 4, 160, 0, 7, 9, 167, 0, 10, 42, 180, 0, 13, 7, 46]
abbrev dktX4_goesBy_0 : List UInt8 := dkwX4_goesBy_0 ++ dktX4_goesBy_1
theorem dksX4_goesBy_0 : cX4_goesBy.data.toList.drop 0 = dktX4_goesBy_0 := by decide +kernel
theorem dksX4_goesBy_1 : cX4_goesBy.data.toList.drop 24 = dktX4_goesBy_1 := dk_seg dksX4_goesBy_0 24 rfl rfl
theorem dX4_goesBy_0 : decode cX4_goesBy 0 = .ok (.aload_n 0, 1) := dk_42 (dk_at dksX4_goesBy_0 0 rfl rfl)
theorem dX4_goesBy_1 : decode cX4_goesBy 1 = .ok (.iload_n 1, 1) := dk_27 (dk_at dksX4_goesBy_0 1 rfl rfl)
theorem dX4_goesBy_2 : decode cX4_goesBy 2 = .ok (.iload_n 2, 1) := dk_28 (dk_at dksX4_goesBy_0 2 rfl rfl)
theorem dX4_goesBy_3 : decode cX4_goesBy 3 = .ok (.iload 4, 2) := dk_21 4 (dk_at dksX4_goesBy_0 3 rfl rfl)
theorem dX4_goesBy_5 : decode cX4_goesBy 5 = .ok (.invokevirtual 366, 3) := dk_182 1 110 (dk_at dksX4_goesBy_0 5 rfl rfl)
theorem dX4_goesBy_8 : decode cX4_goesBy 8 = .ok (.iload_n 3, 1) := dk_29 (dk_at dksX4_goesBy_0 8 rfl rfl)
theorem dX4_goesBy_9 : decode cX4_goesBy 9 = .ok (.iload 4, 2) := dk_21 4 (dk_at dksX4_goesBy_0 9 rfl rfl)
theorem dX4_goesBy_11 : decode cX4_goesBy 11 = .ok (.if_icmp .ne 7, 3) := dk_160 0 7 (dk_at dksX4_goesBy_0 11 rfl rfl)
theorem dX4_goesBy_14 : decode cX4_goesBy 14 = .ok (.lconst 0, 1) := dk_9 (dk_at dksX4_goesBy_0 14 rfl rfl)
theorem dX4_goesBy_15 : decode cX4_goesBy 15 = .ok (.goto 10, 3) := dk_167 0 10 (dk_at dksX4_goesBy_0 15 rfl rfl)
theorem dX4_goesBy_18 : decode cX4_goesBy 18 = .ok (.aload_n 0, 1) := dk_42 (dk_at dksX4_goesBy_0 18 rfl rfl)
theorem dX4_goesBy_19 : decode cX4_goesBy 19 = .ok (.getfield 13, 3) := dk_180 0 13 (dk_at dksX4_goesBy_0 19 rfl rfl)
theorem dX4_goesBy_22 : decode cX4_goesBy 22 = .ok (.iconst 4, 1) := dk_7 (dk_at dksX4_goesBy_0 22 rfl rfl)
theorem dX4_goesBy_23 : decode cX4_goesBy 23 = .ok (.iaload, 1) := dk_46 (dk_at dksX4_goesBy_0 23 rfl rfl)
theorem dX4_goesBy_24 : decode cX4_goesBy 24 = .ok (.i2l, 1) := dk_133 (dk_at dksX4_goesBy_1 0 rfl rfl)
theorem dX4_goesBy_25 : decode cX4_goesBy 25 = .ok (.lsub, 1) := dk_101 (dk_at dksX4_goesBy_1 1 rfl rfl)
theorem dX4_goesBy_26 : decode cX4_goesBy 26 = .ok (.aload_n 0, 1) := dk_42 (dk_at dksX4_goesBy_1 2 rfl rfl)
theorem dX4_goesBy_27 : decode cX4_goesBy 27 = .ok (.getfield 45, 3) := dk_180 0 45 (dk_at dksX4_goesBy_1 3 rfl rfl)
theorem dX4_goesBy_30 : decode cX4_goesBy 30 = .ok (.bipush 9, 2) := dk_16 9 (dk_at dksX4_goesBy_1 6 rfl rfl)
theorem dX4_goesBy_32 : decode cX4_goesBy 32 = .ok (.iload_n 2, 1) := dk_28 (dk_at dksX4_goesBy_1 8 rfl rfl)
theorem dX4_goesBy_33 : decode cX4_goesBy 33 = .ok (.iconst 1, 1) := dk_4 (dk_at dksX4_goesBy_1 9 rfl rfl)
theorem dX4_goesBy_34 : decode cX4_goesBy 34 = .ok (.iadd, 1) := dk_96 (dk_at dksX4_goesBy_1 10 rfl rfl)
theorem dX4_goesBy_35 : decode cX4_goesBy 35 = .ok (.imul, 1) := dk_104 (dk_at dksX4_goesBy_1 11 rfl rfl)
theorem dX4_goesBy_36 : decode cX4_goesBy 36 = .ok (.iload 4, 2) := dk_21 4 (dk_at dksX4_goesBy_1 12 rfl rfl)
theorem dX4_goesBy_38 : decode cX4_goesBy 38 = .ok (.iadd, 1) := dk_96 (dk_at dksX4_goesBy_1 14 rfl rfl)
theorem dX4_goesBy_39 : decode cX4_goesBy 39 = .ok (.laload, 1) := dk_47 (dk_at dksX4_goesBy_1 15 rfl rfl)
theorem dX4_goesBy_40 : decode cX4_goesBy 40 = .ok (.ladd, 1) := dk_97 (dk_at dksX4_goesBy_1 16 rfl rfl)
theorem dX4_goesBy_41 : decode cX4_goesBy 41 = .ok (.lreturn, 1) := dk_173 (dk_at dksX4_goesBy_1 17 rfl rfl)
abbrev cX4_gainIn : ByteArray := prog_11_method_91_code
def yX4_gainIn : MethodName := ⟨RX4, "gainIn", "(III)J"⟩
def dkwX4_gainIn_2 : List UInt8 := [182, 0, 238, 133, 101, 173]
abbrev dktX4_gainIn_2 : List UInt8 := dkwX4_gainIn_2 ++ []
def dkwX4_gainIn_1 : List UInt8 := [42, 180, 0, 42, 28, 46, 21, 4, 182, 0, 216, 133, 42, 29, 42, 180, 0, 42, 28, 46, 21, 4]
abbrev dktX4_gainIn_1 : List UInt8 := dkwX4_gainIn_1 ++ dktX4_gainIn_2
def dkwX4_gainIn_0 : List UInt8 := [42, 180, 0, 13, 16, 42, 46, 28, 96, 54, 4, 29, 16, 8, 160, 0, 7, 9, 167, 0, 33, 42, 27, 29]
abbrev dktX4_gainIn_0 : List UInt8 := dkwX4_gainIn_0 ++ dktX4_gainIn_1
theorem dksX4_gainIn_0 : cX4_gainIn.data.toList.drop 0 = dktX4_gainIn_0 := by decide +kernel
theorem dksX4_gainIn_1 : cX4_gainIn.data.toList.drop 24 = dktX4_gainIn_1 := dk_seg dksX4_gainIn_0 24 rfl rfl
theorem dksX4_gainIn_2 : cX4_gainIn.data.toList.drop 46 = dktX4_gainIn_2 := dk_seg dksX4_gainIn_1 22 rfl rfl
theorem dX4_gainIn_0 : decode cX4_gainIn 0 = .ok (.aload_n 0, 1) := dk_42 (dk_at dksX4_gainIn_0 0 rfl rfl)
theorem dX4_gainIn_1 : decode cX4_gainIn 1 = .ok (.getfield 13, 3) := dk_180 0 13 (dk_at dksX4_gainIn_0 1 rfl rfl)
theorem dX4_gainIn_4 : decode cX4_gainIn 4 = .ok (.bipush 42, 2) := dk_16 42 (dk_at dksX4_gainIn_0 4 rfl rfl)
theorem dX4_gainIn_6 : decode cX4_gainIn 6 = .ok (.iaload, 1) := dk_46 (dk_at dksX4_gainIn_0 6 rfl rfl)
theorem dX4_gainIn_7 : decode cX4_gainIn 7 = .ok (.iload_n 2, 1) := dk_28 (dk_at dksX4_gainIn_0 7 rfl rfl)
theorem dX4_gainIn_8 : decode cX4_gainIn 8 = .ok (.iadd, 1) := dk_96 (dk_at dksX4_gainIn_0 8 rfl rfl)
theorem dX4_gainIn_9 : decode cX4_gainIn 9 = .ok (.istore 4, 2) := dk_54 4 (dk_at dksX4_gainIn_0 9 rfl rfl)
theorem dX4_gainIn_11 : decode cX4_gainIn 11 = .ok (.iload_n 3, 1) := dk_29 (dk_at dksX4_gainIn_0 11 rfl rfl)
theorem dX4_gainIn_12 : decode cX4_gainIn 12 = .ok (.bipush 8, 2) := dk_16 8 (dk_at dksX4_gainIn_0 12 rfl rfl)
theorem dX4_gainIn_14 : decode cX4_gainIn 14 = .ok (.if_icmp .ne 7, 3) := dk_160 0 7 (dk_at dksX4_gainIn_0 14 rfl rfl)
theorem dX4_gainIn_17 : decode cX4_gainIn 17 = .ok (.lconst 0, 1) := dk_9 (dk_at dksX4_gainIn_0 17 rfl rfl)
theorem dX4_gainIn_18 : decode cX4_gainIn 18 = .ok (.goto 33, 3) := dk_167 0 33 (dk_at dksX4_gainIn_0 18 rfl rfl)
theorem dX4_gainIn_21 : decode cX4_gainIn 21 = .ok (.aload_n 0, 1) := dk_42 (dk_at dksX4_gainIn_0 21 rfl rfl)
theorem dX4_gainIn_22 : decode cX4_gainIn 22 = .ok (.iload_n 1, 1) := dk_27 (dk_at dksX4_gainIn_0 22 rfl rfl)
theorem dX4_gainIn_23 : decode cX4_gainIn 23 = .ok (.iload_n 3, 1) := dk_29 (dk_at dksX4_gainIn_0 23 rfl rfl)
theorem dX4_gainIn_24 : decode cX4_gainIn 24 = .ok (.aload_n 0, 1) := dk_42 (dk_at dksX4_gainIn_1 0 rfl rfl)
theorem dX4_gainIn_25 : decode cX4_gainIn 25 = .ok (.getfield 42, 3) := dk_180 0 42 (dk_at dksX4_gainIn_1 1 rfl rfl)
theorem dX4_gainIn_28 : decode cX4_gainIn 28 = .ok (.iload_n 2, 1) := dk_28 (dk_at dksX4_gainIn_1 4 rfl rfl)
theorem dX4_gainIn_29 : decode cX4_gainIn 29 = .ok (.iaload, 1) := dk_46 (dk_at dksX4_gainIn_1 5 rfl rfl)
theorem dX4_gainIn_30 : decode cX4_gainIn 30 = .ok (.iload 4, 2) := dk_21 4 (dk_at dksX4_gainIn_1 6 rfl rfl)
theorem dX4_gainIn_32 : decode cX4_gainIn 32 = .ok (.invokevirtual 216, 3) := dk_182 0 216 (dk_at dksX4_gainIn_1 8 rfl rfl)
theorem dX4_gainIn_35 : decode cX4_gainIn 35 = .ok (.i2l, 1) := dk_133 (dk_at dksX4_gainIn_1 11 rfl rfl)
theorem dX4_gainIn_36 : decode cX4_gainIn 36 = .ok (.aload_n 0, 1) := dk_42 (dk_at dksX4_gainIn_1 12 rfl rfl)
theorem dX4_gainIn_37 : decode cX4_gainIn 37 = .ok (.iload_n 3, 1) := dk_29 (dk_at dksX4_gainIn_1 13 rfl rfl)
theorem dX4_gainIn_38 : decode cX4_gainIn 38 = .ok (.aload_n 0, 1) := dk_42 (dk_at dksX4_gainIn_1 14 rfl rfl)
theorem dX4_gainIn_39 : decode cX4_gainIn 39 = .ok (.getfield 42, 3) := dk_180 0 42 (dk_at dksX4_gainIn_1 15 rfl rfl)
theorem dX4_gainIn_42 : decode cX4_gainIn 42 = .ok (.iload_n 2, 1) := dk_28 (dk_at dksX4_gainIn_1 18 rfl rfl)
theorem dX4_gainIn_43 : decode cX4_gainIn 43 = .ok (.iaload, 1) := dk_46 (dk_at dksX4_gainIn_1 19 rfl rfl)
theorem dX4_gainIn_44 : decode cX4_gainIn 44 = .ok (.iload 4, 2) := dk_21 4 (dk_at dksX4_gainIn_1 20 rfl rfl)
theorem dX4_gainIn_46 : decode cX4_gainIn 46 = .ok (.invokevirtual 238, 3) := dk_182 0 238 (dk_at dksX4_gainIn_2 0 rfl rfl)
theorem dX4_gainIn_49 : decode cX4_gainIn 49 = .ok (.i2l, 1) := dk_133 (dk_at dksX4_gainIn_2 3 rfl rfl)
theorem dX4_gainIn_50 : decode cX4_gainIn 50 = .ok (.lsub, 1) := dk_101 (dk_at dksX4_gainIn_2 4 rfl rfl)
theorem dX4_gainIn_51 : decode cX4_gainIn 51 = .ok (.lreturn, 1) := dk_173 (dk_at dksX4_gainIn_2 5 rfl rfl)
abbrev cX4_whereNow : ByteArray := prog_11_method_95_code
def yX4_whereNow : MethodName := ⟨RX4, "whereNow", "(I)I"⟩
def dkwX4_whereNow_1 : List UInt8 := [27, 96, 46, 172]
abbrev dktX4_whereNow_1 : List UInt8 := dkwX4_whereNow_1 ++ []
def dkwX4_whereNow_0 : List UInt8 := [42, 180, 0, 13, 16, 35, 27, 96, 46, 2, 160, 0, 8, 16, 8, 167, 0, 12, 42, 180, 0, 13, 16, 35]
abbrev dktX4_whereNow_0 : List UInt8 := dkwX4_whereNow_0 ++ dktX4_whereNow_1
theorem dksX4_whereNow_0 : cX4_whereNow.data.toList.drop 0 = dktX4_whereNow_0 := by decide +kernel
theorem dksX4_whereNow_1 : cX4_whereNow.data.toList.drop 24 = dktX4_whereNow_1 := dk_seg dksX4_whereNow_0 24 rfl rfl
theorem dX4_whereNow_0 : decode cX4_whereNow 0 = .ok (.aload_n 0, 1) := dk_42 (dk_at dksX4_whereNow_0 0 rfl rfl)
theorem dX4_whereNow_1 : decode cX4_whereNow 1 = .ok (.getfield 13, 3) := dk_180 0 13 (dk_at dksX4_whereNow_0 1 rfl rfl)
theorem dX4_whereNow_4 : decode cX4_whereNow 4 = .ok (.bipush 35, 2) := dk_16 35 (dk_at dksX4_whereNow_0 4 rfl rfl)
theorem dX4_whereNow_6 : decode cX4_whereNow 6 = .ok (.iload_n 1, 1) := dk_27 (dk_at dksX4_whereNow_0 6 rfl rfl)
theorem dX4_whereNow_7 : decode cX4_whereNow 7 = .ok (.iadd, 1) := dk_96 (dk_at dksX4_whereNow_0 7 rfl rfl)
theorem dX4_whereNow_8 : decode cX4_whereNow 8 = .ok (.iaload, 1) := dk_46 (dk_at dksX4_whereNow_0 8 rfl rfl)
theorem dX4_whereNow_9 : decode cX4_whereNow 9 = .ok (.iconst (-1), 1) := dk_2 (dk_at dksX4_whereNow_0 9 rfl rfl)
theorem dX4_whereNow_10 : decode cX4_whereNow 10 = .ok (.if_icmp .ne 8, 3) := dk_160 0 8 (dk_at dksX4_whereNow_0 10 rfl rfl)
theorem dX4_whereNow_13 : decode cX4_whereNow 13 = .ok (.bipush 8, 2) := dk_16 8 (dk_at dksX4_whereNow_0 13 rfl rfl)
theorem dX4_whereNow_15 : decode cX4_whereNow 15 = .ok (.goto 12, 3) := dk_167 0 12 (dk_at dksX4_whereNow_0 15 rfl rfl)
theorem dX4_whereNow_18 : decode cX4_whereNow 18 = .ok (.aload_n 0, 1) := dk_42 (dk_at dksX4_whereNow_0 18 rfl rfl)
theorem dX4_whereNow_19 : decode cX4_whereNow 19 = .ok (.getfield 13, 3) := dk_180 0 13 (dk_at dksX4_whereNow_0 19 rfl rfl)
theorem dX4_whereNow_22 : decode cX4_whereNow 22 = .ok (.bipush 35, 2) := dk_16 35 (dk_at dksX4_whereNow_0 22 rfl rfl)
theorem dX4_whereNow_24 : decode cX4_whereNow 24 = .ok (.iload_n 1, 1) := dk_27 (dk_at dksX4_whereNow_1 0 rfl rfl)
theorem dX4_whereNow_25 : decode cX4_whereNow 25 = .ok (.iadd, 1) := dk_96 (dk_at dksX4_whereNow_1 1 rfl rfl)
theorem dX4_whereNow_26 : decode cX4_whereNow 26 = .ok (.iaload, 1) := dk_46 (dk_at dksX4_whereNow_1 2 rfl rfl)
theorem dX4_whereNow_27 : decode cX4_whereNow 27 = .ok (.ireturn, 1) := dk_172 (dk_at dksX4_whereNow_1 3 rfl rfl)
abbrev cX4_goesTo : ByteArray := prog_11_method_98_code
def yX4_goesTo : MethodName := ⟨RX4, "goesTo", "(III)I"⟩
def dkwX4_goesTo_4 : List UInt8 := [16, 8, 160, 0, 7, 2, 167, 0, 5, 21, 4, 172, 132, 5, 255, 132, 6, 1, 167, 255, 199, 2, 172]
abbrev dktX4_goesTo_4 : List UInt8 := dkwX4_goesTo_4 ++ []
def dkwX4_goesTo_3 : List UInt8 := [182, 1, 137, 54, 4, 42, 21, 6, 182, 1, 104, 154, 0, 6, 167, 0, 25, 21, 5, 154, 0, 17, 21, 4]
abbrev dktX4_goesTo_3 : List UInt8 := dkwX4_goesTo_3 ++ dktX4_goesTo_4
def dkwX4_goesTo_2 : List UInt8 := [54, 4, 29, 54, 5, 3, 54, 6, 21, 6, 42, 180, 1, 114, 162, 0, 54, 42, 27, 21, 6, 21, 4]
abbrev dktX4_goesTo_2 : List UInt8 := dkwX4_goesTo_2 ++ dktX4_goesTo_3
def dkwX4_goesTo_1 : List UInt8 := [184, 0, 141, 153, 0, 7, 29, 156, 0, 6, 16, 253, 172, 42, 27, 28, 182, 1, 131, 42, 27, 182, 1, 134]
abbrev dktX4_goesTo_1 : List UInt8 := dkwX4_goesTo_1 ++ dktX4_goesTo_2
def dkwX4_goesTo_0 : List UInt8 := [42, 3, 181, 0, 1, 42, 27, 133, 182, 0, 229, 154, 0, 6, 16, 254, 172, 28, 133, 10, 20, 1, 129]
abbrev dktX4_goesTo_0 : List UInt8 := dkwX4_goesTo_0 ++ dktX4_goesTo_1
theorem dksX4_goesTo_0 : cX4_goesTo.data.toList.drop 0 = dktX4_goesTo_0 := by decide +kernel
theorem dksX4_goesTo_1 : cX4_goesTo.data.toList.drop 23 = dktX4_goesTo_1 := dk_seg dksX4_goesTo_0 23 rfl rfl
theorem dksX4_goesTo_2 : cX4_goesTo.data.toList.drop 47 = dktX4_goesTo_2 := dk_seg dksX4_goesTo_1 24 rfl rfl
theorem dksX4_goesTo_3 : cX4_goesTo.data.toList.drop 70 = dktX4_goesTo_3 := dk_seg dksX4_goesTo_2 23 rfl rfl
theorem dksX4_goesTo_4 : cX4_goesTo.data.toList.drop 94 = dktX4_goesTo_4 := dk_seg dksX4_goesTo_3 24 rfl rfl
theorem dX4_goesTo_0 : decode cX4_goesTo 0 = .ok (.aload_n 0, 1) := dk_42 (dk_at dksX4_goesTo_0 0 rfl rfl)
theorem dX4_goesTo_1 : decode cX4_goesTo 1 = .ok (.iconst 0, 1) := dk_3 (dk_at dksX4_goesTo_0 1 rfl rfl)
theorem dX4_goesTo_2 : decode cX4_goesTo 2 = .ok (.putfield 1, 3) := dk_181 0 1 (dk_at dksX4_goesTo_0 2 rfl rfl)
theorem dX4_goesTo_5 : decode cX4_goesTo 5 = .ok (.aload_n 0, 1) := dk_42 (dk_at dksX4_goesTo_0 5 rfl rfl)
theorem dX4_goesTo_6 : decode cX4_goesTo 6 = .ok (.iload_n 1, 1) := dk_27 (dk_at dksX4_goesTo_0 6 rfl rfl)
theorem dX4_goesTo_7 : decode cX4_goesTo 7 = .ok (.i2l, 1) := dk_133 (dk_at dksX4_goesTo_0 7 rfl rfl)
theorem dX4_goesTo_8 : decode cX4_goesTo 8 = .ok (.invokevirtual 229, 3) := dk_182 0 229 (dk_at dksX4_goesTo_0 8 rfl rfl)
theorem dX4_goesTo_11 : decode cX4_goesTo 11 = .ok (.ifCond .ne 6, 3) := dk_154 0 6 (dk_at dksX4_goesTo_0 11 rfl rfl)
theorem dX4_goesTo_14 : decode cX4_goesTo 14 = .ok (.bipush (-2), 2) := dk_16 254 (dk_at dksX4_goesTo_0 14 rfl rfl)
theorem dX4_goesTo_16 : decode cX4_goesTo 16 = .ok (.ireturn, 1) := dk_172 (dk_at dksX4_goesTo_0 16 rfl rfl)
theorem dX4_goesTo_17 : decode cX4_goesTo 17 = .ok (.iload_n 2, 1) := dk_28 (dk_at dksX4_goesTo_0 17 rfl rfl)
theorem dX4_goesTo_18 : decode cX4_goesTo 18 = .ok (.i2l, 1) := dk_133 (dk_at dksX4_goesTo_0 18 rfl rfl)
theorem dX4_goesTo_19 : decode cX4_goesTo 19 = .ok (.lconst 1, 1) := dk_10 (dk_at dksX4_goesTo_0 19 rfl rfl)
theorem dX4_goesTo_20 : decode cX4_goesTo 20 = .ok (.ldc2_w 385, 3) := dk_20 1 129 (dk_at dksX4_goesTo_0 20 rfl rfl)
theorem dX4_goesTo_23 : decode cX4_goesTo 23 = .ok (.invokestatic 141, 3) := dk_184 0 141 (dk_at dksX4_goesTo_1 0 rfl rfl)
theorem dX4_goesTo_26 : decode cX4_goesTo 26 = .ok (.ifCond .eq 7, 3) := dk_153 0 7 (dk_at dksX4_goesTo_1 3 rfl rfl)
theorem dX4_goesTo_29 : decode cX4_goesTo 29 = .ok (.iload_n 3, 1) := dk_29 (dk_at dksX4_goesTo_1 6 rfl rfl)
theorem dX4_goesTo_30 : decode cX4_goesTo 30 = .ok (.ifCond .ge 6, 3) := dk_156 0 6 (dk_at dksX4_goesTo_1 7 rfl rfl)
theorem dX4_goesTo_33 : decode cX4_goesTo 33 = .ok (.bipush (-3), 2) := dk_16 253 (dk_at dksX4_goesTo_1 10 rfl rfl)
theorem dX4_goesTo_35 : decode cX4_goesTo 35 = .ok (.ireturn, 1) := dk_172 (dk_at dksX4_goesTo_1 12 rfl rfl)
theorem dX4_goesTo_36 : decode cX4_goesTo 36 = .ok (.aload_n 0, 1) := dk_42 (dk_at dksX4_goesTo_1 13 rfl rfl)
theorem dX4_goesTo_37 : decode cX4_goesTo 37 = .ok (.iload_n 1, 1) := dk_27 (dk_at dksX4_goesTo_1 14 rfl rfl)
theorem dX4_goesTo_38 : decode cX4_goesTo 38 = .ok (.iload_n 2, 1) := dk_28 (dk_at dksX4_goesTo_1 15 rfl rfl)
theorem dX4_goesTo_39 : decode cX4_goesTo 39 = .ok (.invokevirtual 387, 3) := dk_182 1 131 (dk_at dksX4_goesTo_1 16 rfl rfl)
theorem dX4_goesTo_42 : decode cX4_goesTo 42 = .ok (.aload_n 0, 1) := dk_42 (dk_at dksX4_goesTo_1 19 rfl rfl)
theorem dX4_goesTo_43 : decode cX4_goesTo 43 = .ok (.iload_n 1, 1) := dk_27 (dk_at dksX4_goesTo_1 20 rfl rfl)
theorem dX4_goesTo_44 : decode cX4_goesTo 44 = .ok (.invokevirtual 390, 3) := dk_182 1 134 (dk_at dksX4_goesTo_1 21 rfl rfl)
theorem dX4_goesTo_47 : decode cX4_goesTo 47 = .ok (.istore 4, 2) := dk_54 4 (dk_at dksX4_goesTo_2 0 rfl rfl)
theorem dX4_goesTo_49 : decode cX4_goesTo 49 = .ok (.iload_n 3, 1) := dk_29 (dk_at dksX4_goesTo_2 2 rfl rfl)
theorem dX4_goesTo_50 : decode cX4_goesTo 50 = .ok (.istore 5, 2) := dk_54 5 (dk_at dksX4_goesTo_2 3 rfl rfl)
theorem dX4_goesTo_52 : decode cX4_goesTo 52 = .ok (.iconst 0, 1) := dk_3 (dk_at dksX4_goesTo_2 5 rfl rfl)
theorem dX4_goesTo_53 : decode cX4_goesTo 53 = .ok (.istore 6, 2) := dk_54 6 (dk_at dksX4_goesTo_2 6 rfl rfl)
theorem dX4_goesTo_55 : decode cX4_goesTo 55 = .ok (.iload 6, 2) := dk_21 6 (dk_at dksX4_goesTo_2 8 rfl rfl)
theorem dX4_goesTo_57 : decode cX4_goesTo 57 = .ok (.aload_n 0, 1) := dk_42 (dk_at dksX4_goesTo_2 10 rfl rfl)
theorem dX4_goesTo_58 : decode cX4_goesTo 58 = .ok (.getfield 370, 3) := dk_180 1 114 (dk_at dksX4_goesTo_2 11 rfl rfl)
theorem dX4_goesTo_61 : decode cX4_goesTo 61 = .ok (.if_icmp .ge 54, 3) := dk_162 0 54 (dk_at dksX4_goesTo_2 14 rfl rfl)
theorem dX4_goesTo_64 : decode cX4_goesTo 64 = .ok (.aload_n 0, 1) := dk_42 (dk_at dksX4_goesTo_2 17 rfl rfl)
theorem dX4_goesTo_65 : decode cX4_goesTo 65 = .ok (.iload_n 1, 1) := dk_27 (dk_at dksX4_goesTo_2 18 rfl rfl)
theorem dX4_goesTo_66 : decode cX4_goesTo 66 = .ok (.iload 6, 2) := dk_21 6 (dk_at dksX4_goesTo_2 19 rfl rfl)
theorem dX4_goesTo_68 : decode cX4_goesTo 68 = .ok (.iload 4, 2) := dk_21 4 (dk_at dksX4_goesTo_2 21 rfl rfl)
theorem dX4_goesTo_70 : decode cX4_goesTo 70 = .ok (.invokevirtual 393, 3) := dk_182 1 137 (dk_at dksX4_goesTo_3 0 rfl rfl)
theorem dX4_goesTo_73 : decode cX4_goesTo 73 = .ok (.istore 4, 2) := dk_54 4 (dk_at dksX4_goesTo_3 3 rfl rfl)
theorem dX4_goesTo_75 : decode cX4_goesTo 75 = .ok (.aload_n 0, 1) := dk_42 (dk_at dksX4_goesTo_3 5 rfl rfl)
theorem dX4_goesTo_76 : decode cX4_goesTo 76 = .ok (.iload 6, 2) := dk_21 6 (dk_at dksX4_goesTo_3 6 rfl rfl)
theorem dX4_goesTo_78 : decode cX4_goesTo 78 = .ok (.invokevirtual 360, 3) := dk_182 1 104 (dk_at dksX4_goesTo_3 8 rfl rfl)
theorem dX4_goesTo_81 : decode cX4_goesTo 81 = .ok (.ifCond .ne 6, 3) := dk_154 0 6 (dk_at dksX4_goesTo_3 11 rfl rfl)
theorem dX4_goesTo_84 : decode cX4_goesTo 84 = .ok (.goto 25, 3) := dk_167 0 25 (dk_at dksX4_goesTo_3 14 rfl rfl)
theorem dX4_goesTo_87 : decode cX4_goesTo 87 = .ok (.iload 5, 2) := dk_21 5 (dk_at dksX4_goesTo_3 17 rfl rfl)
theorem dX4_goesTo_89 : decode cX4_goesTo 89 = .ok (.ifCond .ne 17, 3) := dk_154 0 17 (dk_at dksX4_goesTo_3 19 rfl rfl)
theorem dX4_goesTo_92 : decode cX4_goesTo 92 = .ok (.iload 4, 2) := dk_21 4 (dk_at dksX4_goesTo_3 22 rfl rfl)
theorem dX4_goesTo_94 : decode cX4_goesTo 94 = .ok (.bipush 8, 2) := dk_16 8 (dk_at dksX4_goesTo_4 0 rfl rfl)
theorem dX4_goesTo_96 : decode cX4_goesTo 96 = .ok (.if_icmp .ne 7, 3) := dk_160 0 7 (dk_at dksX4_goesTo_4 2 rfl rfl)
theorem dX4_goesTo_99 : decode cX4_goesTo 99 = .ok (.iconst (-1), 1) := dk_2 (dk_at dksX4_goesTo_4 5 rfl rfl)
theorem dX4_goesTo_100 : decode cX4_goesTo 100 = .ok (.goto 5, 3) := dk_167 0 5 (dk_at dksX4_goesTo_4 6 rfl rfl)
theorem dX4_goesTo_103 : decode cX4_goesTo 103 = .ok (.iload 4, 2) := dk_21 4 (dk_at dksX4_goesTo_4 9 rfl rfl)
theorem dX4_goesTo_105 : decode cX4_goesTo 105 = .ok (.ireturn, 1) := dk_172 (dk_at dksX4_goesTo_4 11 rfl rfl)
theorem dX4_goesTo_106 : decode cX4_goesTo 106 = .ok (.iinc 5 (-1), 3) := dk_132 5 255 (dk_at dksX4_goesTo_4 12 rfl rfl)
theorem dX4_goesTo_109 : decode cX4_goesTo 109 = .ok (.iinc 6 1, 3) := dk_132 6 1 (dk_at dksX4_goesTo_4 15 rfl rfl)
theorem dX4_goesTo_112 : decode cX4_goesTo 112 = .ok (.goto (-57), 3) := dk_167 255 199 (dk_at dksX4_goesTo_4 18 rfl rfl)
theorem dX4_goesTo_115 : decode cX4_goesTo 115 = .ok (.iconst (-1), 1) := dk_2 (dk_at dksX4_goesTo_4 21 rfl rfl)
theorem dX4_goesTo_116 : decode cX4_goesTo 116 = .ok (.ireturn, 1) := dk_172 (dk_at dksX4_goesTo_4 22 rfl rfl)
abbrev cX4_goesIn_2 : ByteArray := prog_11_method_96_code
def yX4_goesIn_2 : MethodName := ⟨RX4, "goesIn", "(III)I"⟩
def dkwX4_goesIn_2_4 : List UInt8 := [167, 255, 203, 29, 172]
abbrev dktX4_goesIn_2_4 : List UInt8 := dkwX4_goesIn_2_4 ++ []
def dkwX4_goesIn_2_3 : List UInt8 := [182, 1, 123, 42, 180, 0, 45, 16, 9, 28, 104, 29, 96, 47, 148, 154, 0, 6, 21, 4, 172, 132, 4, 1]
abbrev dktX4_goesIn_2_3 : List UInt8 := dkwX4_goesIn_2_3 ++ dktX4_goesIn_2_4
def dkwX4_goesIn_2_2 : List UInt8 := [16, 20, 46, 162, 0, 47, 42, 28, 29, 21, 4, 182, 1, 119, 153, 0, 30, 42, 27, 28, 29, 21, 4]
abbrev dktX4_goesIn_2_2 : List UInt8 := dkwX4_goesIn_2_2 ++ dktX4_goesIn_2_3
def dkwX4_goesIn_2_1 : List UInt8 := [16, 9, 28, 104, 29, 96, 47, 148, 154, 0, 6, 16, 8, 172, 3, 54, 4, 21, 4, 42, 180, 0, 13]
abbrev dktX4_goesIn_2_1 : List UInt8 := dkwX4_goesIn_2_1 ++ dktX4_goesIn_2_2
def dkwX4_goesIn_2_0 : List UInt8 := [42, 28, 29, 16, 8, 182, 1, 119, 153, 0, 30, 42, 27, 28, 29, 16, 8, 182, 1, 123, 42, 180, 0, 45]
abbrev dktX4_goesIn_2_0 : List UInt8 := dkwX4_goesIn_2_0 ++ dktX4_goesIn_2_1
theorem dksX4_goesIn_2_0 : cX4_goesIn_2.data.toList.drop 0 = dktX4_goesIn_2_0 := by decide +kernel
theorem dksX4_goesIn_2_1 : cX4_goesIn_2.data.toList.drop 24 = dktX4_goesIn_2_1 := dk_seg dksX4_goesIn_2_0 24 rfl rfl
theorem dksX4_goesIn_2_2 : cX4_goesIn_2.data.toList.drop 47 = dktX4_goesIn_2_2 := dk_seg dksX4_goesIn_2_1 23 rfl rfl
theorem dksX4_goesIn_2_3 : cX4_goesIn_2.data.toList.drop 70 = dktX4_goesIn_2_3 := dk_seg dksX4_goesIn_2_2 23 rfl rfl
theorem dksX4_goesIn_2_4 : cX4_goesIn_2.data.toList.drop 94 = dktX4_goesIn_2_4 := dk_seg dksX4_goesIn_2_3 24 rfl rfl
theorem dX4_goesIn_2_0 : decode cX4_goesIn_2 0 = .ok (.aload_n 0, 1) := dk_42 (dk_at dksX4_goesIn_2_0 0 rfl rfl)
theorem dX4_goesIn_2_1 : decode cX4_goesIn_2 1 = .ok (.iload_n 2, 1) := dk_28 (dk_at dksX4_goesIn_2_0 1 rfl rfl)
theorem dX4_goesIn_2_2 : decode cX4_goesIn_2 2 = .ok (.iload_n 3, 1) := dk_29 (dk_at dksX4_goesIn_2_0 2 rfl rfl)
theorem dX4_goesIn_2_3 : decode cX4_goesIn_2 3 = .ok (.bipush 8, 2) := dk_16 8 (dk_at dksX4_goesIn_2_0 3 rfl rfl)
theorem dX4_goesIn_2_5 : decode cX4_goesIn_2 5 = .ok (.invokevirtual 375, 3) := dk_182 1 119 (dk_at dksX4_goesIn_2_0 5 rfl rfl)
theorem dX4_goesIn_2_8 : decode cX4_goesIn_2 8 = .ok (.ifCond .eq 30, 3) := dk_153 0 30 (dk_at dksX4_goesIn_2_0 8 rfl rfl)
theorem dX4_goesIn_2_11 : decode cX4_goesIn_2 11 = .ok (.aload_n 0, 1) := dk_42 (dk_at dksX4_goesIn_2_0 11 rfl rfl)
theorem dX4_goesIn_2_12 : decode cX4_goesIn_2 12 = .ok (.iload_n 1, 1) := dk_27 (dk_at dksX4_goesIn_2_0 12 rfl rfl)
theorem dX4_goesIn_2_13 : decode cX4_goesIn_2 13 = .ok (.iload_n 2, 1) := dk_28 (dk_at dksX4_goesIn_2_0 13 rfl rfl)
theorem dX4_goesIn_2_14 : decode cX4_goesIn_2 14 = .ok (.iload_n 3, 1) := dk_29 (dk_at dksX4_goesIn_2_0 14 rfl rfl)
theorem dX4_goesIn_2_15 : decode cX4_goesIn_2 15 = .ok (.bipush 8, 2) := dk_16 8 (dk_at dksX4_goesIn_2_0 15 rfl rfl)
theorem dX4_goesIn_2_17 : decode cX4_goesIn_2 17 = .ok (.invokevirtual 379, 3) := dk_182 1 123 (dk_at dksX4_goesIn_2_0 17 rfl rfl)
theorem dX4_goesIn_2_20 : decode cX4_goesIn_2 20 = .ok (.aload_n 0, 1) := dk_42 (dk_at dksX4_goesIn_2_0 20 rfl rfl)
theorem dX4_goesIn_2_21 : decode cX4_goesIn_2 21 = .ok (.getfield 45, 3) := dk_180 0 45 (dk_at dksX4_goesIn_2_0 21 rfl rfl)
theorem dX4_goesIn_2_24 : decode cX4_goesIn_2 24 = .ok (.bipush 9, 2) := dk_16 9 (dk_at dksX4_goesIn_2_1 0 rfl rfl)
theorem dX4_goesIn_2_26 : decode cX4_goesIn_2 26 = .ok (.iload_n 2, 1) := dk_28 (dk_at dksX4_goesIn_2_1 2 rfl rfl)
theorem dX4_goesIn_2_27 : decode cX4_goesIn_2 27 = .ok (.imul, 1) := dk_104 (dk_at dksX4_goesIn_2_1 3 rfl rfl)
theorem dX4_goesIn_2_28 : decode cX4_goesIn_2 28 = .ok (.iload_n 3, 1) := dk_29 (dk_at dksX4_goesIn_2_1 4 rfl rfl)
theorem dX4_goesIn_2_29 : decode cX4_goesIn_2 29 = .ok (.iadd, 1) := dk_96 (dk_at dksX4_goesIn_2_1 5 rfl rfl)
theorem dX4_goesIn_2_30 : decode cX4_goesIn_2 30 = .ok (.laload, 1) := dk_47 (dk_at dksX4_goesIn_2_1 6 rfl rfl)
theorem dX4_goesIn_2_31 : decode cX4_goesIn_2 31 = .ok (.lcmp, 1) := dk_148 (dk_at dksX4_goesIn_2_1 7 rfl rfl)
theorem dX4_goesIn_2_32 : decode cX4_goesIn_2 32 = .ok (.ifCond .ne 6, 3) := dk_154 0 6 (dk_at dksX4_goesIn_2_1 8 rfl rfl)
theorem dX4_goesIn_2_35 : decode cX4_goesIn_2 35 = .ok (.bipush 8, 2) := dk_16 8 (dk_at dksX4_goesIn_2_1 11 rfl rfl)
theorem dX4_goesIn_2_37 : decode cX4_goesIn_2 37 = .ok (.ireturn, 1) := dk_172 (dk_at dksX4_goesIn_2_1 13 rfl rfl)
theorem dX4_goesIn_2_38 : decode cX4_goesIn_2 38 = .ok (.iconst 0, 1) := dk_3 (dk_at dksX4_goesIn_2_1 14 rfl rfl)
theorem dX4_goesIn_2_39 : decode cX4_goesIn_2 39 = .ok (.istore 4, 2) := dk_54 4 (dk_at dksX4_goesIn_2_1 15 rfl rfl)
theorem dX4_goesIn_2_41 : decode cX4_goesIn_2 41 = .ok (.iload 4, 2) := dk_21 4 (dk_at dksX4_goesIn_2_1 17 rfl rfl)
theorem dX4_goesIn_2_43 : decode cX4_goesIn_2 43 = .ok (.aload_n 0, 1) := dk_42 (dk_at dksX4_goesIn_2_1 19 rfl rfl)
theorem dX4_goesIn_2_44 : decode cX4_goesIn_2 44 = .ok (.getfield 13, 3) := dk_180 0 13 (dk_at dksX4_goesIn_2_1 20 rfl rfl)
theorem dX4_goesIn_2_47 : decode cX4_goesIn_2 47 = .ok (.bipush 20, 2) := dk_16 20 (dk_at dksX4_goesIn_2_2 0 rfl rfl)
theorem dX4_goesIn_2_49 : decode cX4_goesIn_2 49 = .ok (.iaload, 1) := dk_46 (dk_at dksX4_goesIn_2_2 2 rfl rfl)
theorem dX4_goesIn_2_50 : decode cX4_goesIn_2 50 = .ok (.if_icmp .ge 47, 3) := dk_162 0 47 (dk_at dksX4_goesIn_2_2 3 rfl rfl)
theorem dX4_goesIn_2_53 : decode cX4_goesIn_2 53 = .ok (.aload_n 0, 1) := dk_42 (dk_at dksX4_goesIn_2_2 6 rfl rfl)
theorem dX4_goesIn_2_54 : decode cX4_goesIn_2 54 = .ok (.iload_n 2, 1) := dk_28 (dk_at dksX4_goesIn_2_2 7 rfl rfl)
theorem dX4_goesIn_2_55 : decode cX4_goesIn_2 55 = .ok (.iload_n 3, 1) := dk_29 (dk_at dksX4_goesIn_2_2 8 rfl rfl)
theorem dX4_goesIn_2_56 : decode cX4_goesIn_2 56 = .ok (.iload 4, 2) := dk_21 4 (dk_at dksX4_goesIn_2_2 9 rfl rfl)
theorem dX4_goesIn_2_58 : decode cX4_goesIn_2 58 = .ok (.invokevirtual 375, 3) := dk_182 1 119 (dk_at dksX4_goesIn_2_2 11 rfl rfl)
theorem dX4_goesIn_2_61 : decode cX4_goesIn_2 61 = .ok (.ifCond .eq 30, 3) := dk_153 0 30 (dk_at dksX4_goesIn_2_2 14 rfl rfl)
theorem dX4_goesIn_2_64 : decode cX4_goesIn_2 64 = .ok (.aload_n 0, 1) := dk_42 (dk_at dksX4_goesIn_2_2 17 rfl rfl)
theorem dX4_goesIn_2_65 : decode cX4_goesIn_2 65 = .ok (.iload_n 1, 1) := dk_27 (dk_at dksX4_goesIn_2_2 18 rfl rfl)
theorem dX4_goesIn_2_66 : decode cX4_goesIn_2 66 = .ok (.iload_n 2, 1) := dk_28 (dk_at dksX4_goesIn_2_2 19 rfl rfl)
theorem dX4_goesIn_2_67 : decode cX4_goesIn_2 67 = .ok (.iload_n 3, 1) := dk_29 (dk_at dksX4_goesIn_2_2 20 rfl rfl)
theorem dX4_goesIn_2_68 : decode cX4_goesIn_2 68 = .ok (.iload 4, 2) := dk_21 4 (dk_at dksX4_goesIn_2_2 21 rfl rfl)
theorem dX4_goesIn_2_70 : decode cX4_goesIn_2 70 = .ok (.invokevirtual 379, 3) := dk_182 1 123 (dk_at dksX4_goesIn_2_3 0 rfl rfl)
theorem dX4_goesIn_2_73 : decode cX4_goesIn_2 73 = .ok (.aload_n 0, 1) := dk_42 (dk_at dksX4_goesIn_2_3 3 rfl rfl)
theorem dX4_goesIn_2_74 : decode cX4_goesIn_2 74 = .ok (.getfield 45, 3) := dk_180 0 45 (dk_at dksX4_goesIn_2_3 4 rfl rfl)
theorem dX4_goesIn_2_77 : decode cX4_goesIn_2 77 = .ok (.bipush 9, 2) := dk_16 9 (dk_at dksX4_goesIn_2_3 7 rfl rfl)
theorem dX4_goesIn_2_79 : decode cX4_goesIn_2 79 = .ok (.iload_n 2, 1) := dk_28 (dk_at dksX4_goesIn_2_3 9 rfl rfl)
theorem dX4_goesIn_2_80 : decode cX4_goesIn_2 80 = .ok (.imul, 1) := dk_104 (dk_at dksX4_goesIn_2_3 10 rfl rfl)
theorem dX4_goesIn_2_81 : decode cX4_goesIn_2 81 = .ok (.iload_n 3, 1) := dk_29 (dk_at dksX4_goesIn_2_3 11 rfl rfl)
theorem dX4_goesIn_2_82 : decode cX4_goesIn_2 82 = .ok (.iadd, 1) := dk_96 (dk_at dksX4_goesIn_2_3 12 rfl rfl)
theorem dX4_goesIn_2_83 : decode cX4_goesIn_2 83 = .ok (.laload, 1) := dk_47 (dk_at dksX4_goesIn_2_3 13 rfl rfl)
theorem dX4_goesIn_2_84 : decode cX4_goesIn_2 84 = .ok (.lcmp, 1) := dk_148 (dk_at dksX4_goesIn_2_3 14 rfl rfl)
theorem dX4_goesIn_2_85 : decode cX4_goesIn_2 85 = .ok (.ifCond .ne 6, 3) := dk_154 0 6 (dk_at dksX4_goesIn_2_3 15 rfl rfl)
theorem dX4_goesIn_2_88 : decode cX4_goesIn_2 88 = .ok (.iload 4, 2) := dk_21 4 (dk_at dksX4_goesIn_2_3 18 rfl rfl)
theorem dX4_goesIn_2_90 : decode cX4_goesIn_2 90 = .ok (.ireturn, 1) := dk_172 (dk_at dksX4_goesIn_2_3 20 rfl rfl)
theorem dX4_goesIn_2_91 : decode cX4_goesIn_2 91 = .ok (.iinc 4 1, 3) := dk_132 4 1 (dk_at dksX4_goesIn_2_3 21 rfl rfl)
theorem dX4_goesIn_2_94 : decode cX4_goesIn_2 94 = .ok (.goto (-53), 3) := dk_167 255 203 (dk_at dksX4_goesIn_2_4 0 rfl rfl)
theorem dX4_goesIn_2_97 : decode cX4_goesIn_2 97 = .ok (.iload_n 3, 1) := dk_29 (dk_at dksX4_goesIn_2_4 3 rfl rfl)
theorem dX4_goesIn_2_98 : decode cX4_goesIn_2 98 = .ok (.ireturn, 1) := dk_172 (dk_at dksX4_goesIn_2_4 4 rfl rfl)
abbrev cX4_movesMany : ByteArray := prog_11_method_99_code
def yX4_movesMany : MethodName := ⟨RX4, "movesMany", "(II)I"⟩
def dkwX4_movesMany_4 : List UInt8 := [21, 4, 172]
abbrev dktX4_movesMany_4 : List UInt8 := dkwX4_movesMany_4 ++ []
def dkwX4_movesMany_3 : List UInt8 := [21, 6, 29, 160, 0, 7, 3, 167, 0, 4, 4, 96, 54, 4, 21, 6, 62, 132, 5, 1, 167, 255, 215]
abbrev dktX4_movesMany_3 : List UInt8 := dkwX4_movesMany_3 ++ dktX4_movesMany_4
def dkwX4_movesMany_2 : List UInt8 := [3, 54, 5, 21, 5, 42, 180, 1, 114, 162, 0, 38, 42, 27, 21, 5, 29, 182, 1, 137, 54, 6, 21, 4]
abbrev dktX4_movesMany_2 : List UInt8 := dkwX4_movesMany_2 ++ dktX4_movesMany_3
def dkwX4_movesMany_1 : List UInt8 := [184, 0, 141, 154, 0, 6, 16, 253, 172, 42, 27, 28, 182, 1, 131, 42, 27, 182, 1, 134, 62, 3, 54, 4]
abbrev dktX4_movesMany_1 : List UInt8 := dkwX4_movesMany_1 ++ dktX4_movesMany_2
def dkwX4_movesMany_0 : List UInt8 := [42, 3, 181, 0, 1, 42, 27, 133, 182, 0, 229, 154, 0, 6, 16, 254, 172, 28, 133, 10, 20, 1, 129]
abbrev dktX4_movesMany_0 : List UInt8 := dkwX4_movesMany_0 ++ dktX4_movesMany_1
theorem dksX4_movesMany_0 : cX4_movesMany.data.toList.drop 0 = dktX4_movesMany_0 := by decide +kernel
theorem dksX4_movesMany_1 : cX4_movesMany.data.toList.drop 23 = dktX4_movesMany_1 := dk_seg dksX4_movesMany_0 23 rfl rfl
theorem dksX4_movesMany_2 : cX4_movesMany.data.toList.drop 47 = dktX4_movesMany_2 := dk_seg dksX4_movesMany_1 24 rfl rfl
theorem dksX4_movesMany_3 : cX4_movesMany.data.toList.drop 71 = dktX4_movesMany_3 := dk_seg dksX4_movesMany_2 24 rfl rfl
theorem dksX4_movesMany_4 : cX4_movesMany.data.toList.drop 94 = dktX4_movesMany_4 := dk_seg dksX4_movesMany_3 23 rfl rfl
theorem dX4_movesMany_0 : decode cX4_movesMany 0 = .ok (.aload_n 0, 1) := dk_42 (dk_at dksX4_movesMany_0 0 rfl rfl)
theorem dX4_movesMany_1 : decode cX4_movesMany 1 = .ok (.iconst 0, 1) := dk_3 (dk_at dksX4_movesMany_0 1 rfl rfl)
theorem dX4_movesMany_2 : decode cX4_movesMany 2 = .ok (.putfield 1, 3) := dk_181 0 1 (dk_at dksX4_movesMany_0 2 rfl rfl)
theorem dX4_movesMany_5 : decode cX4_movesMany 5 = .ok (.aload_n 0, 1) := dk_42 (dk_at dksX4_movesMany_0 5 rfl rfl)
theorem dX4_movesMany_6 : decode cX4_movesMany 6 = .ok (.iload_n 1, 1) := dk_27 (dk_at dksX4_movesMany_0 6 rfl rfl)
theorem dX4_movesMany_7 : decode cX4_movesMany 7 = .ok (.i2l, 1) := dk_133 (dk_at dksX4_movesMany_0 7 rfl rfl)
theorem dX4_movesMany_8 : decode cX4_movesMany 8 = .ok (.invokevirtual 229, 3) := dk_182 0 229 (dk_at dksX4_movesMany_0 8 rfl rfl)
theorem dX4_movesMany_11 : decode cX4_movesMany 11 = .ok (.ifCond .ne 6, 3) := dk_154 0 6 (dk_at dksX4_movesMany_0 11 rfl rfl)
theorem dX4_movesMany_14 : decode cX4_movesMany 14 = .ok (.bipush (-2), 2) := dk_16 254 (dk_at dksX4_movesMany_0 14 rfl rfl)
theorem dX4_movesMany_16 : decode cX4_movesMany 16 = .ok (.ireturn, 1) := dk_172 (dk_at dksX4_movesMany_0 16 rfl rfl)
theorem dX4_movesMany_17 : decode cX4_movesMany 17 = .ok (.iload_n 2, 1) := dk_28 (dk_at dksX4_movesMany_0 17 rfl rfl)
theorem dX4_movesMany_18 : decode cX4_movesMany 18 = .ok (.i2l, 1) := dk_133 (dk_at dksX4_movesMany_0 18 rfl rfl)
theorem dX4_movesMany_19 : decode cX4_movesMany 19 = .ok (.lconst 1, 1) := dk_10 (dk_at dksX4_movesMany_0 19 rfl rfl)
theorem dX4_movesMany_20 : decode cX4_movesMany 20 = .ok (.ldc2_w 385, 3) := dk_20 1 129 (dk_at dksX4_movesMany_0 20 rfl rfl)
theorem dX4_movesMany_23 : decode cX4_movesMany 23 = .ok (.invokestatic 141, 3) := dk_184 0 141 (dk_at dksX4_movesMany_1 0 rfl rfl)
theorem dX4_movesMany_26 : decode cX4_movesMany 26 = .ok (.ifCond .ne 6, 3) := dk_154 0 6 (dk_at dksX4_movesMany_1 3 rfl rfl)
theorem dX4_movesMany_29 : decode cX4_movesMany 29 = .ok (.bipush (-3), 2) := dk_16 253 (dk_at dksX4_movesMany_1 6 rfl rfl)
theorem dX4_movesMany_31 : decode cX4_movesMany 31 = .ok (.ireturn, 1) := dk_172 (dk_at dksX4_movesMany_1 8 rfl rfl)
theorem dX4_movesMany_32 : decode cX4_movesMany 32 = .ok (.aload_n 0, 1) := dk_42 (dk_at dksX4_movesMany_1 9 rfl rfl)
theorem dX4_movesMany_33 : decode cX4_movesMany 33 = .ok (.iload_n 1, 1) := dk_27 (dk_at dksX4_movesMany_1 10 rfl rfl)
theorem dX4_movesMany_34 : decode cX4_movesMany 34 = .ok (.iload_n 2, 1) := dk_28 (dk_at dksX4_movesMany_1 11 rfl rfl)
theorem dX4_movesMany_35 : decode cX4_movesMany 35 = .ok (.invokevirtual 387, 3) := dk_182 1 131 (dk_at dksX4_movesMany_1 12 rfl rfl)
theorem dX4_movesMany_38 : decode cX4_movesMany 38 = .ok (.aload_n 0, 1) := dk_42 (dk_at dksX4_movesMany_1 15 rfl rfl)
theorem dX4_movesMany_39 : decode cX4_movesMany 39 = .ok (.iload_n 1, 1) := dk_27 (dk_at dksX4_movesMany_1 16 rfl rfl)
theorem dX4_movesMany_40 : decode cX4_movesMany 40 = .ok (.invokevirtual 390, 3) := dk_182 1 134 (dk_at dksX4_movesMany_1 17 rfl rfl)
theorem dX4_movesMany_43 : decode cX4_movesMany 43 = .ok (.istore_n 3, 1) := dk_62 (dk_at dksX4_movesMany_1 20 rfl rfl)
theorem dX4_movesMany_44 : decode cX4_movesMany 44 = .ok (.iconst 0, 1) := dk_3 (dk_at dksX4_movesMany_1 21 rfl rfl)
theorem dX4_movesMany_45 : decode cX4_movesMany 45 = .ok (.istore 4, 2) := dk_54 4 (dk_at dksX4_movesMany_1 22 rfl rfl)
theorem dX4_movesMany_47 : decode cX4_movesMany 47 = .ok (.iconst 0, 1) := dk_3 (dk_at dksX4_movesMany_2 0 rfl rfl)
theorem dX4_movesMany_48 : decode cX4_movesMany 48 = .ok (.istore 5, 2) := dk_54 5 (dk_at dksX4_movesMany_2 1 rfl rfl)
theorem dX4_movesMany_50 : decode cX4_movesMany 50 = .ok (.iload 5, 2) := dk_21 5 (dk_at dksX4_movesMany_2 3 rfl rfl)
theorem dX4_movesMany_52 : decode cX4_movesMany 52 = .ok (.aload_n 0, 1) := dk_42 (dk_at dksX4_movesMany_2 5 rfl rfl)
theorem dX4_movesMany_53 : decode cX4_movesMany 53 = .ok (.getfield 370, 3) := dk_180 1 114 (dk_at dksX4_movesMany_2 6 rfl rfl)
theorem dX4_movesMany_56 : decode cX4_movesMany 56 = .ok (.if_icmp .ge 38, 3) := dk_162 0 38 (dk_at dksX4_movesMany_2 9 rfl rfl)
theorem dX4_movesMany_59 : decode cX4_movesMany 59 = .ok (.aload_n 0, 1) := dk_42 (dk_at dksX4_movesMany_2 12 rfl rfl)
theorem dX4_movesMany_60 : decode cX4_movesMany 60 = .ok (.iload_n 1, 1) := dk_27 (dk_at dksX4_movesMany_2 13 rfl rfl)
theorem dX4_movesMany_61 : decode cX4_movesMany 61 = .ok (.iload 5, 2) := dk_21 5 (dk_at dksX4_movesMany_2 14 rfl rfl)
theorem dX4_movesMany_63 : decode cX4_movesMany 63 = .ok (.iload_n 3, 1) := dk_29 (dk_at dksX4_movesMany_2 16 rfl rfl)
theorem dX4_movesMany_64 : decode cX4_movesMany 64 = .ok (.invokevirtual 393, 3) := dk_182 1 137 (dk_at dksX4_movesMany_2 17 rfl rfl)
theorem dX4_movesMany_67 : decode cX4_movesMany 67 = .ok (.istore 6, 2) := dk_54 6 (dk_at dksX4_movesMany_2 20 rfl rfl)
theorem dX4_movesMany_69 : decode cX4_movesMany 69 = .ok (.iload 4, 2) := dk_21 4 (dk_at dksX4_movesMany_2 22 rfl rfl)
theorem dX4_movesMany_71 : decode cX4_movesMany 71 = .ok (.iload 6, 2) := dk_21 6 (dk_at dksX4_movesMany_3 0 rfl rfl)
theorem dX4_movesMany_73 : decode cX4_movesMany 73 = .ok (.iload_n 3, 1) := dk_29 (dk_at dksX4_movesMany_3 2 rfl rfl)
theorem dX4_movesMany_74 : decode cX4_movesMany 74 = .ok (.if_icmp .ne 7, 3) := dk_160 0 7 (dk_at dksX4_movesMany_3 3 rfl rfl)
theorem dX4_movesMany_77 : decode cX4_movesMany 77 = .ok (.iconst 0, 1) := dk_3 (dk_at dksX4_movesMany_3 6 rfl rfl)
theorem dX4_movesMany_78 : decode cX4_movesMany 78 = .ok (.goto 4, 3) := dk_167 0 4 (dk_at dksX4_movesMany_3 7 rfl rfl)
theorem dX4_movesMany_81 : decode cX4_movesMany 81 = .ok (.iconst 1, 1) := dk_4 (dk_at dksX4_movesMany_3 10 rfl rfl)
theorem dX4_movesMany_82 : decode cX4_movesMany 82 = .ok (.iadd, 1) := dk_96 (dk_at dksX4_movesMany_3 11 rfl rfl)
theorem dX4_movesMany_83 : decode cX4_movesMany 83 = .ok (.istore 4, 2) := dk_54 4 (dk_at dksX4_movesMany_3 12 rfl rfl)
theorem dX4_movesMany_85 : decode cX4_movesMany 85 = .ok (.iload 6, 2) := dk_21 6 (dk_at dksX4_movesMany_3 14 rfl rfl)
theorem dX4_movesMany_87 : decode cX4_movesMany 87 = .ok (.istore_n 3, 1) := dk_62 (dk_at dksX4_movesMany_3 16 rfl rfl)
theorem dX4_movesMany_88 : decode cX4_movesMany 88 = .ok (.iinc 5 1, 3) := dk_132 5 1 (dk_at dksX4_movesMany_3 17 rfl rfl)
theorem dX4_movesMany_91 : decode cX4_movesMany 91 = .ok (.goto (-41), 3) := dk_167 255 215 (dk_at dksX4_movesMany_3 20 rfl rfl)
theorem dX4_movesMany_94 : decode cX4_movesMany 94 = .ok (.iload 4, 2) := dk_21 4 (dk_at dksX4_movesMany_4 0 rfl rfl)
theorem dX4_movesMany_96 : decode cX4_movesMany 96 = .ok (.ireturn, 1) := dk_172 (dk_at dksX4_movesMany_4 2 rfl rfl)
abbrev cX4_best : ByteArray := prog_11_method_100_code
def yX4_best : MethodName := ⟨RX4, "best", "(I)I"⟩
def dkwX4_best_5 : List UInt8 := [132, 5, 1, 167, 255, 175, 28, 172]
abbrev dktX4_best_5 : List UInt8 := dkwX4_best_5 ++ []
def dkwX4_best_4 : List UInt8 := [155, 0, 24, 22, 6, 33, 148, 154, 0, 11, 28, 2, 160, 0, 6, 167, 0, 9, 21, 5, 61, 22, 6, 66]
abbrev dktX4_best_4 : List UInt8 := dkwX4_best_4 ++ dktX4_best_5
def dkwX4_best_3 : List UInt8 := [184, 0, 205, 153, 0, 6, 167, 0, 41, 42, 27, 3, 21, 5, 182, 1, 110, 55, 6, 22, 6, 33, 148]
abbrev dktX4_best_3 : List UInt8 := dkwX4_best_3 ++ dktX4_best_4
def dkwX4_best_2 : List UInt8 := [162, 0, 75, 42, 21, 5, 182, 0, 226, 2, 160, 0, 59, 21, 5, 42, 180, 0, 13, 16, 41, 46]
abbrev dktX4_best_2 : List UInt8 := dkwX4_best_2 ++ dktX4_best_3
def dkwX4_best_1 : List UInt8 := [42, 27, 3, 42, 27, 182, 1, 134, 182, 1, 110, 66, 3, 54, 5, 21, 5, 42, 180, 0, 13, 16, 20, 46]
abbrev dktX4_best_1 : List UInt8 := dkwX4_best_1 ++ dktX4_best_2
def dkwX4_best_0 : List UInt8 := [42, 3, 181, 0, 1, 42, 27, 133, 182, 0, 229, 154, 0, 6, 16, 254, 172, 42, 3, 182, 1, 90, 2, 61]
abbrev dktX4_best_0 : List UInt8 := dkwX4_best_0 ++ dktX4_best_1
theorem dksX4_best_0 : cX4_best.data.toList.drop 0 = dktX4_best_0 := by decide +kernel
theorem dksX4_best_1 : cX4_best.data.toList.drop 24 = dktX4_best_1 := dk_seg dksX4_best_0 24 rfl rfl
theorem dksX4_best_2 : cX4_best.data.toList.drop 48 = dktX4_best_2 := dk_seg dksX4_best_1 24 rfl rfl
theorem dksX4_best_3 : cX4_best.data.toList.drop 70 = dktX4_best_3 := dk_seg dksX4_best_2 22 rfl rfl
theorem dksX4_best_4 : cX4_best.data.toList.drop 93 = dktX4_best_4 := dk_seg dksX4_best_3 23 rfl rfl
theorem dksX4_best_5 : cX4_best.data.toList.drop 117 = dktX4_best_5 := dk_seg dksX4_best_4 24 rfl rfl
theorem dX4_best_0 : decode cX4_best 0 = .ok (.aload_n 0, 1) := dk_42 (dk_at dksX4_best_0 0 rfl rfl)
theorem dX4_best_1 : decode cX4_best 1 = .ok (.iconst 0, 1) := dk_3 (dk_at dksX4_best_0 1 rfl rfl)
theorem dX4_best_2 : decode cX4_best 2 = .ok (.putfield 1, 3) := dk_181 0 1 (dk_at dksX4_best_0 2 rfl rfl)
theorem dX4_best_5 : decode cX4_best 5 = .ok (.aload_n 0, 1) := dk_42 (dk_at dksX4_best_0 5 rfl rfl)
theorem dX4_best_6 : decode cX4_best 6 = .ok (.iload_n 1, 1) := dk_27 (dk_at dksX4_best_0 6 rfl rfl)
theorem dX4_best_7 : decode cX4_best 7 = .ok (.i2l, 1) := dk_133 (dk_at dksX4_best_0 7 rfl rfl)
theorem dX4_best_8 : decode cX4_best 8 = .ok (.invokevirtual 229, 3) := dk_182 0 229 (dk_at dksX4_best_0 8 rfl rfl)
theorem dX4_best_11 : decode cX4_best 11 = .ok (.ifCond .ne 6, 3) := dk_154 0 6 (dk_at dksX4_best_0 11 rfl rfl)
theorem dX4_best_14 : decode cX4_best 14 = .ok (.bipush (-2), 2) := dk_16 254 (dk_at dksX4_best_0 14 rfl rfl)
theorem dX4_best_16 : decode cX4_best 16 = .ok (.ireturn, 1) := dk_172 (dk_at dksX4_best_0 16 rfl rfl)
theorem dX4_best_17 : decode cX4_best 17 = .ok (.aload_n 0, 1) := dk_42 (dk_at dksX4_best_0 17 rfl rfl)
theorem dX4_best_18 : decode cX4_best 18 = .ok (.iconst 0, 1) := dk_3 (dk_at dksX4_best_0 18 rfl rfl)
theorem dX4_best_19 : decode cX4_best 19 = .ok (.invokevirtual 346, 3) := dk_182 1 90 (dk_at dksX4_best_0 19 rfl rfl)
theorem dX4_best_22 : decode cX4_best 22 = .ok (.iconst (-1), 1) := dk_2 (dk_at dksX4_best_0 22 rfl rfl)
theorem dX4_best_23 : decode cX4_best 23 = .ok (.istore_n 2, 1) := dk_61 (dk_at dksX4_best_0 23 rfl rfl)
theorem dX4_best_24 : decode cX4_best 24 = .ok (.aload_n 0, 1) := dk_42 (dk_at dksX4_best_1 0 rfl rfl)
theorem dX4_best_25 : decode cX4_best 25 = .ok (.iload_n 1, 1) := dk_27 (dk_at dksX4_best_1 1 rfl rfl)
theorem dX4_best_26 : decode cX4_best 26 = .ok (.iconst 0, 1) := dk_3 (dk_at dksX4_best_1 2 rfl rfl)
theorem dX4_best_27 : decode cX4_best 27 = .ok (.aload_n 0, 1) := dk_42 (dk_at dksX4_best_1 3 rfl rfl)
theorem dX4_best_28 : decode cX4_best 28 = .ok (.iload_n 1, 1) := dk_27 (dk_at dksX4_best_1 4 rfl rfl)
theorem dX4_best_29 : decode cX4_best 29 = .ok (.invokevirtual 390, 3) := dk_182 1 134 (dk_at dksX4_best_1 5 rfl rfl)
theorem dX4_best_32 : decode cX4_best 32 = .ok (.invokevirtual 366, 3) := dk_182 1 110 (dk_at dksX4_best_1 8 rfl rfl)
theorem dX4_best_35 : decode cX4_best 35 = .ok (.lstore_n 3, 1) := dk_66 (dk_at dksX4_best_1 11 rfl rfl)
theorem dX4_best_36 : decode cX4_best 36 = .ok (.iconst 0, 1) := dk_3 (dk_at dksX4_best_1 12 rfl rfl)
theorem dX4_best_37 : decode cX4_best 37 = .ok (.istore 5, 2) := dk_54 5 (dk_at dksX4_best_1 13 rfl rfl)
theorem dX4_best_39 : decode cX4_best 39 = .ok (.iload 5, 2) := dk_21 5 (dk_at dksX4_best_1 15 rfl rfl)
theorem dX4_best_41 : decode cX4_best 41 = .ok (.aload_n 0, 1) := dk_42 (dk_at dksX4_best_1 17 rfl rfl)
theorem dX4_best_42 : decode cX4_best 42 = .ok (.getfield 13, 3) := dk_180 0 13 (dk_at dksX4_best_1 18 rfl rfl)
theorem dX4_best_45 : decode cX4_best 45 = .ok (.bipush 20, 2) := dk_16 20 (dk_at dksX4_best_1 21 rfl rfl)
theorem dX4_best_47 : decode cX4_best 47 = .ok (.iaload, 1) := dk_46 (dk_at dksX4_best_1 23 rfl rfl)
theorem dX4_best_48 : decode cX4_best 48 = .ok (.if_icmp .ge 75, 3) := dk_162 0 75 (dk_at dksX4_best_2 0 rfl rfl)
theorem dX4_best_51 : decode cX4_best 51 = .ok (.aload_n 0, 1) := dk_42 (dk_at dksX4_best_2 3 rfl rfl)
theorem dX4_best_52 : decode cX4_best 52 = .ok (.iload 5, 2) := dk_21 5 (dk_at dksX4_best_2 4 rfl rfl)
theorem dX4_best_54 : decode cX4_best 54 = .ok (.invokevirtual 226, 3) := dk_182 0 226 (dk_at dksX4_best_2 6 rfl rfl)
theorem dX4_best_57 : decode cX4_best 57 = .ok (.iconst (-1), 1) := dk_2 (dk_at dksX4_best_2 9 rfl rfl)
theorem dX4_best_58 : decode cX4_best 58 = .ok (.if_icmp .ne 59, 3) := dk_160 0 59 (dk_at dksX4_best_2 10 rfl rfl)
theorem dX4_best_61 : decode cX4_best 61 = .ok (.iload 5, 2) := dk_21 5 (dk_at dksX4_best_2 13 rfl rfl)
theorem dX4_best_63 : decode cX4_best 63 = .ok (.aload_n 0, 1) := dk_42 (dk_at dksX4_best_2 15 rfl rfl)
theorem dX4_best_64 : decode cX4_best 64 = .ok (.getfield 13, 3) := dk_180 0 13 (dk_at dksX4_best_2 16 rfl rfl)
theorem dX4_best_67 : decode cX4_best 67 = .ok (.bipush 41, 2) := dk_16 41 (dk_at dksX4_best_2 19 rfl rfl)
theorem dX4_best_69 : decode cX4_best 69 = .ok (.iaload, 1) := dk_46 (dk_at dksX4_best_2 21 rfl rfl)
theorem dX4_best_70 : decode cX4_best 70 = .ok (.invokestatic 205, 3) := dk_184 0 205 (dk_at dksX4_best_3 0 rfl rfl)
theorem dX4_best_73 : decode cX4_best 73 = .ok (.ifCond .eq 6, 3) := dk_153 0 6 (dk_at dksX4_best_3 3 rfl rfl)
theorem dX4_best_76 : decode cX4_best 76 = .ok (.goto 41, 3) := dk_167 0 41 (dk_at dksX4_best_3 6 rfl rfl)
theorem dX4_best_79 : decode cX4_best 79 = .ok (.aload_n 0, 1) := dk_42 (dk_at dksX4_best_3 9 rfl rfl)
theorem dX4_best_80 : decode cX4_best 80 = .ok (.iload_n 1, 1) := dk_27 (dk_at dksX4_best_3 10 rfl rfl)
theorem dX4_best_81 : decode cX4_best 81 = .ok (.iconst 0, 1) := dk_3 (dk_at dksX4_best_3 11 rfl rfl)
theorem dX4_best_82 : decode cX4_best 82 = .ok (.iload 5, 2) := dk_21 5 (dk_at dksX4_best_3 12 rfl rfl)
theorem dX4_best_84 : decode cX4_best 84 = .ok (.invokevirtual 366, 3) := dk_182 1 110 (dk_at dksX4_best_3 14 rfl rfl)
theorem dX4_best_87 : decode cX4_best 87 = .ok (.lstore 6, 2) := dk_55 6 (dk_at dksX4_best_3 17 rfl rfl)
theorem dX4_best_89 : decode cX4_best 89 = .ok (.lload 6, 2) := dk_22 6 (dk_at dksX4_best_3 19 rfl rfl)
theorem dX4_best_91 : decode cX4_best 91 = .ok (.lload_n 3, 1) := dk_33 (dk_at dksX4_best_3 21 rfl rfl)
theorem dX4_best_92 : decode cX4_best 92 = .ok (.lcmp, 1) := dk_148 (dk_at dksX4_best_3 22 rfl rfl)
theorem dX4_best_93 : decode cX4_best 93 = .ok (.ifCond .lt 24, 3) := dk_155 0 24 (dk_at dksX4_best_4 0 rfl rfl)
theorem dX4_best_96 : decode cX4_best 96 = .ok (.lload 6, 2) := dk_22 6 (dk_at dksX4_best_4 3 rfl rfl)
theorem dX4_best_98 : decode cX4_best 98 = .ok (.lload_n 3, 1) := dk_33 (dk_at dksX4_best_4 5 rfl rfl)
theorem dX4_best_99 : decode cX4_best 99 = .ok (.lcmp, 1) := dk_148 (dk_at dksX4_best_4 6 rfl rfl)
theorem dX4_best_100 : decode cX4_best 100 = .ok (.ifCond .ne 11, 3) := dk_154 0 11 (dk_at dksX4_best_4 7 rfl rfl)
theorem dX4_best_103 : decode cX4_best 103 = .ok (.iload_n 2, 1) := dk_28 (dk_at dksX4_best_4 10 rfl rfl)
theorem dX4_best_104 : decode cX4_best 104 = .ok (.iconst (-1), 1) := dk_2 (dk_at dksX4_best_4 11 rfl rfl)
theorem dX4_best_105 : decode cX4_best 105 = .ok (.if_icmp .ne 6, 3) := dk_160 0 6 (dk_at dksX4_best_4 12 rfl rfl)
theorem dX4_best_108 : decode cX4_best 108 = .ok (.goto 9, 3) := dk_167 0 9 (dk_at dksX4_best_4 15 rfl rfl)
theorem dX4_best_111 : decode cX4_best 111 = .ok (.iload 5, 2) := dk_21 5 (dk_at dksX4_best_4 18 rfl rfl)
theorem dX4_best_113 : decode cX4_best 113 = .ok (.istore_n 2, 1) := dk_61 (dk_at dksX4_best_4 20 rfl rfl)
theorem dX4_best_114 : decode cX4_best 114 = .ok (.lload 6, 2) := dk_22 6 (dk_at dksX4_best_4 21 rfl rfl)
theorem dX4_best_116 : decode cX4_best 116 = .ok (.lstore_n 3, 1) := dk_66 (dk_at dksX4_best_4 23 rfl rfl)
theorem dX4_best_117 : decode cX4_best 117 = .ok (.iinc 5 1, 3) := dk_132 5 1 (dk_at dksX4_best_5 0 rfl rfl)
theorem dX4_best_120 : decode cX4_best 120 = .ok (.goto (-81), 3) := dk_167 255 175 (dk_at dksX4_best_5 3 rfl rfl)
theorem dX4_best_123 : decode cX4_best 123 = .ok (.iload_n 2, 1) := dk_28 (dk_at dksX4_best_5 6 rfl rfl)
theorem dX4_best_124 : decode cX4_best 124 = .ok (.ireturn, 1) := dk_172 (dk_at dksX4_best_5 7 rfl rfl)
abbrev cX4_building : ByteArray := prog_11_method_104_code
def yX4_building : MethodName := ⟨RX4, "building", "(III)J"⟩
def dkwX4_building_4 : List UInt8 := [42, 180, 1, 147, 162, 0, 16, 42, 180, 0, 52, 29, 16, 10, 100, 46, 133, 167, 0, 6, 20, 1, 34, 173]
abbrev dktX4_building_4 : List UInt8 := dkwX4_building_4 ++ []
def dkwX4_building_3 : List UInt8 := [42, 180, 1, 143, 167, 0, 43, 29, 4, 160, 0, 11, 42, 180, 1, 147, 133, 167, 0, 30, 29, 16, 10, 100]
abbrev dktX4_building_3 : List UInt8 := dkwX4_building_3 ++ dktX4_building_4
def dkwX4_building_2 : List UInt8 := [9, 20, 1, 61, 184, 0, 141, 154, 0, 7, 20, 1, 97, 173, 42, 27, 28, 182, 1, 161, 29, 154, 0, 10]
abbrev dktX4_building_2 : List UInt8 := dkwX4_building_2 ++ dktX4_building_3
def dkwX4_building_1 : List UInt8 := [184, 0, 141, 154, 0, 7, 20, 1, 127, 173, 27, 133, 10, 20, 1, 159, 184, 0, 141, 153, 0, 15, 28, 133]
abbrev dktX4_building_1 : List UInt8 := dkwX4_building_1 ++ dktX4_building_2
def dkwX4_building_0 : List UInt8 := [42, 3, 181, 0, 1, 29, 133, 9, 10, 184, 0, 141, 154, 0, 21, 29, 133, 20, 1, 32, 20, 1, 157]
abbrev dktX4_building_0 : List UInt8 := dkwX4_building_0 ++ dktX4_building_1
theorem dksX4_building_0 : cX4_building.data.toList.drop 0 = dktX4_building_0 := by decide +kernel
theorem dksX4_building_1 : cX4_building.data.toList.drop 23 = dktX4_building_1 := dk_seg dksX4_building_0 23 rfl rfl
theorem dksX4_building_2 : cX4_building.data.toList.drop 47 = dktX4_building_2 := dk_seg dksX4_building_1 24 rfl rfl
theorem dksX4_building_3 : cX4_building.data.toList.drop 71 = dktX4_building_3 := dk_seg dksX4_building_2 24 rfl rfl
theorem dksX4_building_4 : cX4_building.data.toList.drop 95 = dktX4_building_4 := dk_seg dksX4_building_3 24 rfl rfl
theorem dX4_building_0 : decode cX4_building 0 = .ok (.aload_n 0, 1) := dk_42 (dk_at dksX4_building_0 0 rfl rfl)
theorem dX4_building_1 : decode cX4_building 1 = .ok (.iconst 0, 1) := dk_3 (dk_at dksX4_building_0 1 rfl rfl)
theorem dX4_building_2 : decode cX4_building 2 = .ok (.putfield 1, 3) := dk_181 0 1 (dk_at dksX4_building_0 2 rfl rfl)
theorem dX4_building_5 : decode cX4_building 5 = .ok (.iload_n 3, 1) := dk_29 (dk_at dksX4_building_0 5 rfl rfl)
theorem dX4_building_6 : decode cX4_building 6 = .ok (.i2l, 1) := dk_133 (dk_at dksX4_building_0 6 rfl rfl)
theorem dX4_building_7 : decode cX4_building 7 = .ok (.lconst 0, 1) := dk_9 (dk_at dksX4_building_0 7 rfl rfl)
theorem dX4_building_8 : decode cX4_building 8 = .ok (.lconst 1, 1) := dk_10 (dk_at dksX4_building_0 8 rfl rfl)
theorem dX4_building_9 : decode cX4_building 9 = .ok (.invokestatic 141, 3) := dk_184 0 141 (dk_at dksX4_building_0 9 rfl rfl)
theorem dX4_building_12 : decode cX4_building 12 = .ok (.ifCond .ne 21, 3) := dk_154 0 21 (dk_at dksX4_building_0 12 rfl rfl)
theorem dX4_building_15 : decode cX4_building 15 = .ok (.iload_n 3, 1) := dk_29 (dk_at dksX4_building_0 15 rfl rfl)
theorem dX4_building_16 : decode cX4_building 16 = .ok (.i2l, 1) := dk_133 (dk_at dksX4_building_0 16 rfl rfl)
theorem dX4_building_17 : decode cX4_building 17 = .ok (.ldc2_w 288, 3) := dk_20 1 32 (dk_at dksX4_building_0 17 rfl rfl)
theorem dX4_building_20 : decode cX4_building 20 = .ok (.ldc2_w 413, 3) := dk_20 1 157 (dk_at dksX4_building_0 20 rfl rfl)
theorem dX4_building_23 : decode cX4_building 23 = .ok (.invokestatic 141, 3) := dk_184 0 141 (dk_at dksX4_building_1 0 rfl rfl)
theorem dX4_building_26 : decode cX4_building 26 = .ok (.ifCond .ne 7, 3) := dk_154 0 7 (dk_at dksX4_building_1 3 rfl rfl)
theorem dX4_building_29 : decode cX4_building 29 = .ok (.ldc2_w 383, 3) := dk_20 1 127 (dk_at dksX4_building_1 6 rfl rfl)
theorem dX4_building_32 : decode cX4_building 32 = .ok (.lreturn, 1) := dk_173 (dk_at dksX4_building_1 9 rfl rfl)
theorem dX4_building_33 : decode cX4_building 33 = .ok (.iload_n 1, 1) := dk_27 (dk_at dksX4_building_1 10 rfl rfl)
theorem dX4_building_34 : decode cX4_building 34 = .ok (.i2l, 1) := dk_133 (dk_at dksX4_building_1 11 rfl rfl)
theorem dX4_building_35 : decode cX4_building 35 = .ok (.lconst 1, 1) := dk_10 (dk_at dksX4_building_1 12 rfl rfl)
theorem dX4_building_36 : decode cX4_building 36 = .ok (.ldc2_w 415, 3) := dk_20 1 159 (dk_at dksX4_building_1 13 rfl rfl)
theorem dX4_building_39 : decode cX4_building 39 = .ok (.invokestatic 141, 3) := dk_184 0 141 (dk_at dksX4_building_1 16 rfl rfl)
theorem dX4_building_42 : decode cX4_building 42 = .ok (.ifCond .eq 15, 3) := dk_153 0 15 (dk_at dksX4_building_1 19 rfl rfl)
theorem dX4_building_45 : decode cX4_building 45 = .ok (.iload_n 2, 1) := dk_28 (dk_at dksX4_building_1 22 rfl rfl)
theorem dX4_building_46 : decode cX4_building 46 = .ok (.i2l, 1) := dk_133 (dk_at dksX4_building_1 23 rfl rfl)
theorem dX4_building_47 : decode cX4_building 47 = .ok (.lconst 0, 1) := dk_9 (dk_at dksX4_building_2 0 rfl rfl)
theorem dX4_building_48 : decode cX4_building 48 = .ok (.ldc2_w 317, 3) := dk_20 1 61 (dk_at dksX4_building_2 1 rfl rfl)
theorem dX4_building_51 : decode cX4_building 51 = .ok (.invokestatic 141, 3) := dk_184 0 141 (dk_at dksX4_building_2 4 rfl rfl)
theorem dX4_building_54 : decode cX4_building 54 = .ok (.ifCond .ne 7, 3) := dk_154 0 7 (dk_at dksX4_building_2 7 rfl rfl)
theorem dX4_building_57 : decode cX4_building 57 = .ok (.ldc2_w 353, 3) := dk_20 1 97 (dk_at dksX4_building_2 10 rfl rfl)
theorem dX4_building_60 : decode cX4_building 60 = .ok (.lreturn, 1) := dk_173 (dk_at dksX4_building_2 13 rfl rfl)
theorem dX4_building_61 : decode cX4_building 61 = .ok (.aload_n 0, 1) := dk_42 (dk_at dksX4_building_2 14 rfl rfl)
theorem dX4_building_62 : decode cX4_building 62 = .ok (.iload_n 1, 1) := dk_27 (dk_at dksX4_building_2 15 rfl rfl)
theorem dX4_building_63 : decode cX4_building 63 = .ok (.iload_n 2, 1) := dk_28 (dk_at dksX4_building_2 16 rfl rfl)
theorem dX4_building_64 : decode cX4_building 64 = .ok (.invokevirtual 417, 3) := dk_182 1 161 (dk_at dksX4_building_2 17 rfl rfl)
theorem dX4_building_67 : decode cX4_building 67 = .ok (.iload_n 3, 1) := dk_29 (dk_at dksX4_building_2 20 rfl rfl)
theorem dX4_building_68 : decode cX4_building 68 = .ok (.ifCond .ne 10, 3) := dk_154 0 10 (dk_at dksX4_building_2 21 rfl rfl)
theorem dX4_building_71 : decode cX4_building 71 = .ok (.aload_n 0, 1) := dk_42 (dk_at dksX4_building_3 0 rfl rfl)
theorem dX4_building_72 : decode cX4_building 72 = .ok (.getfield 399, 3) := dk_180 1 143 (dk_at dksX4_building_3 1 rfl rfl)
theorem dX4_building_75 : decode cX4_building 75 = .ok (.goto 43, 3) := dk_167 0 43 (dk_at dksX4_building_3 4 rfl rfl)
theorem dX4_building_78 : decode cX4_building 78 = .ok (.iload_n 3, 1) := dk_29 (dk_at dksX4_building_3 7 rfl rfl)
theorem dX4_building_79 : decode cX4_building 79 = .ok (.iconst 1, 1) := dk_4 (dk_at dksX4_building_3 8 rfl rfl)
theorem dX4_building_80 : decode cX4_building 80 = .ok (.if_icmp .ne 11, 3) := dk_160 0 11 (dk_at dksX4_building_3 9 rfl rfl)
theorem dX4_building_83 : decode cX4_building 83 = .ok (.aload_n 0, 1) := dk_42 (dk_at dksX4_building_3 12 rfl rfl)
theorem dX4_building_84 : decode cX4_building 84 = .ok (.getfield 403, 3) := dk_180 1 147 (dk_at dksX4_building_3 13 rfl rfl)
theorem dX4_building_87 : decode cX4_building 87 = .ok (.i2l, 1) := dk_133 (dk_at dksX4_building_3 16 rfl rfl)
theorem dX4_building_88 : decode cX4_building 88 = .ok (.goto 30, 3) := dk_167 0 30 (dk_at dksX4_building_3 17 rfl rfl)
theorem dX4_building_91 : decode cX4_building 91 = .ok (.iload_n 3, 1) := dk_29 (dk_at dksX4_building_3 20 rfl rfl)
theorem dX4_building_92 : decode cX4_building 92 = .ok (.bipush 10, 2) := dk_16 10 (dk_at dksX4_building_3 21 rfl rfl)
theorem dX4_building_94 : decode cX4_building 94 = .ok (.isub, 1) := dk_100 (dk_at dksX4_building_3 23 rfl rfl)
theorem dX4_building_95 : decode cX4_building 95 = .ok (.aload_n 0, 1) := dk_42 (dk_at dksX4_building_4 0 rfl rfl)
theorem dX4_building_96 : decode cX4_building 96 = .ok (.getfield 403, 3) := dk_180 1 147 (dk_at dksX4_building_4 1 rfl rfl)
theorem dX4_building_99 : decode cX4_building 99 = .ok (.if_icmp .ge 16, 3) := dk_162 0 16 (dk_at dksX4_building_4 4 rfl rfl)
theorem dX4_building_102 : decode cX4_building 102 = .ok (.aload_n 0, 1) := dk_42 (dk_at dksX4_building_4 7 rfl rfl)
theorem dX4_building_103 : decode cX4_building 103 = .ok (.getfield 52, 3) := dk_180 0 52 (dk_at dksX4_building_4 8 rfl rfl)
theorem dX4_building_106 : decode cX4_building 106 = .ok (.iload_n 3, 1) := dk_29 (dk_at dksX4_building_4 11 rfl rfl)
theorem dX4_building_107 : decode cX4_building 107 = .ok (.bipush 10, 2) := dk_16 10 (dk_at dksX4_building_4 12 rfl rfl)
theorem dX4_building_109 : decode cX4_building 109 = .ok (.isub, 1) := dk_100 (dk_at dksX4_building_4 14 rfl rfl)
theorem dX4_building_110 : decode cX4_building 110 = .ok (.iaload, 1) := dk_46 (dk_at dksX4_building_4 15 rfl rfl)
theorem dX4_building_111 : decode cX4_building 111 = .ok (.i2l, 1) := dk_133 (dk_at dksX4_building_4 16 rfl rfl)
theorem dX4_building_112 : decode cX4_building 112 = .ok (.goto 6, 3) := dk_167 0 6 (dk_at dksX4_building_4 17 rfl rfl)
theorem dX4_building_115 : decode cX4_building 115 = .ok (.ldc2_w 290, 3) := dk_20 1 34 (dk_at dksX4_building_4 20 rfl rfl)
theorem dX4_building_118 : decode cX4_building 118 = .ok (.lreturn, 1) := dk_173 (dk_at dksX4_building_4 23 rfl rfl)
abbrev cX4_laysBuilding : ByteArray := prog_11_method_103_code
def yX4_laysBuilding : MethodName := ⟨RX4, "laysBuilding", "(II)V"⟩
def dkwX4_laysBuilding_1 : List UInt8 := [29, 96, 16, 8, 163, 0, 17, 42, 27, 29, 3, 3, 182, 1, 153, 132, 3, 1, 167, 255, 226, 177]
abbrev dktX4_laysBuilding_1 : List UInt8 := dkwX4_laysBuilding_1 ++ []
def dkwX4_laysBuilding_0 : List UInt8 := [42, 2, 181, 1, 147, 42, 3, 181, 1, 150, 3, 62, 29, 28, 163, 0, 31, 42, 180, 0, 13, 16, 20, 46]
abbrev dktX4_laysBuilding_0 : List UInt8 := dkwX4_laysBuilding_0 ++ dktX4_laysBuilding_1
theorem dksX4_laysBuilding_0 : cX4_laysBuilding.data.toList.drop 0 = dktX4_laysBuilding_0 := by decide +kernel
theorem dksX4_laysBuilding_1 : cX4_laysBuilding.data.toList.drop 24 = dktX4_laysBuilding_1 := dk_seg dksX4_laysBuilding_0 24 rfl rfl
theorem dX4_laysBuilding_0 : decode cX4_laysBuilding 0 = .ok (.aload_n 0, 1) := dk_42 (dk_at dksX4_laysBuilding_0 0 rfl rfl)
theorem dX4_laysBuilding_1 : decode cX4_laysBuilding 1 = .ok (.iconst (-1), 1) := dk_2 (dk_at dksX4_laysBuilding_0 1 rfl rfl)
theorem dX4_laysBuilding_2 : decode cX4_laysBuilding 2 = .ok (.putfield 403, 3) := dk_181 1 147 (dk_at dksX4_laysBuilding_0 2 rfl rfl)
theorem dX4_laysBuilding_5 : decode cX4_laysBuilding 5 = .ok (.aload_n 0, 1) := dk_42 (dk_at dksX4_laysBuilding_0 5 rfl rfl)
theorem dX4_laysBuilding_6 : decode cX4_laysBuilding 6 = .ok (.iconst 0, 1) := dk_3 (dk_at dksX4_laysBuilding_0 6 rfl rfl)
theorem dX4_laysBuilding_7 : decode cX4_laysBuilding 7 = .ok (.putfield 406, 3) := dk_181 1 150 (dk_at dksX4_laysBuilding_0 7 rfl rfl)
theorem dX4_laysBuilding_10 : decode cX4_laysBuilding 10 = .ok (.iconst 0, 1) := dk_3 (dk_at dksX4_laysBuilding_0 10 rfl rfl)
theorem dX4_laysBuilding_11 : decode cX4_laysBuilding 11 = .ok (.istore_n 3, 1) := dk_62 (dk_at dksX4_laysBuilding_0 11 rfl rfl)
theorem dX4_laysBuilding_12 : decode cX4_laysBuilding 12 = .ok (.iload_n 3, 1) := dk_29 (dk_at dksX4_laysBuilding_0 12 rfl rfl)
theorem dX4_laysBuilding_13 : decode cX4_laysBuilding 13 = .ok (.iload_n 2, 1) := dk_28 (dk_at dksX4_laysBuilding_0 13 rfl rfl)
theorem dX4_laysBuilding_14 : decode cX4_laysBuilding 14 = .ok (.if_icmp .gt 31, 3) := dk_163 0 31 (dk_at dksX4_laysBuilding_0 14 rfl rfl)
theorem dX4_laysBuilding_17 : decode cX4_laysBuilding 17 = .ok (.aload_n 0, 1) := dk_42 (dk_at dksX4_laysBuilding_0 17 rfl rfl)
theorem dX4_laysBuilding_18 : decode cX4_laysBuilding 18 = .ok (.getfield 13, 3) := dk_180 0 13 (dk_at dksX4_laysBuilding_0 18 rfl rfl)
theorem dX4_laysBuilding_21 : decode cX4_laysBuilding 21 = .ok (.bipush 20, 2) := dk_16 20 (dk_at dksX4_laysBuilding_0 21 rfl rfl)
theorem dX4_laysBuilding_23 : decode cX4_laysBuilding 23 = .ok (.iaload, 1) := dk_46 (dk_at dksX4_laysBuilding_0 23 rfl rfl)
theorem dX4_laysBuilding_24 : decode cX4_laysBuilding 24 = .ok (.iload_n 3, 1) := dk_29 (dk_at dksX4_laysBuilding_1 0 rfl rfl)
theorem dX4_laysBuilding_25 : decode cX4_laysBuilding 25 = .ok (.iadd, 1) := dk_96 (dk_at dksX4_laysBuilding_1 1 rfl rfl)
theorem dX4_laysBuilding_26 : decode cX4_laysBuilding 26 = .ok (.bipush 8, 2) := dk_16 8 (dk_at dksX4_laysBuilding_1 2 rfl rfl)
theorem dX4_laysBuilding_28 : decode cX4_laysBuilding 28 = .ok (.if_icmp .gt 17, 3) := dk_163 0 17 (dk_at dksX4_laysBuilding_1 4 rfl rfl)
theorem dX4_laysBuilding_31 : decode cX4_laysBuilding 31 = .ok (.aload_n 0, 1) := dk_42 (dk_at dksX4_laysBuilding_1 7 rfl rfl)
theorem dX4_laysBuilding_32 : decode cX4_laysBuilding 32 = .ok (.iload_n 1, 1) := dk_27 (dk_at dksX4_laysBuilding_1 8 rfl rfl)
theorem dX4_laysBuilding_33 : decode cX4_laysBuilding 33 = .ok (.iload_n 3, 1) := dk_29 (dk_at dksX4_laysBuilding_1 9 rfl rfl)
theorem dX4_laysBuilding_34 : decode cX4_laysBuilding 34 = .ok (.iconst 0, 1) := dk_3 (dk_at dksX4_laysBuilding_1 10 rfl rfl)
theorem dX4_laysBuilding_35 : decode cX4_laysBuilding 35 = .ok (.iconst 0, 1) := dk_3 (dk_at dksX4_laysBuilding_1 11 rfl rfl)
theorem dX4_laysBuilding_36 : decode cX4_laysBuilding 36 = .ok (.invokevirtual 409, 3) := dk_182 1 153 (dk_at dksX4_laysBuilding_1 12 rfl rfl)
theorem dX4_laysBuilding_39 : decode cX4_laysBuilding 39 = .ok (.iinc 3 1, 3) := dk_132 3 1 (dk_at dksX4_laysBuilding_1 15 rfl rfl)
theorem dX4_laysBuilding_42 : decode cX4_laysBuilding 42 = .ok (.goto (-30), 3) := dk_167 255 226 (dk_at dksX4_laysBuilding_1 18 rfl rfl)
theorem dX4_laysBuilding_45 : decode cX4_laysBuilding 45 = .ok (.return_, 1) := dk_177 (dk_at dksX4_laysBuilding_1 21 rfl rfl)
abbrev cX4_goesBuild : ByteArray := prog_11_method_102_code
def yX4_goesBuild : MethodName := ⟨RX4, "goesBuild", "(IIII)V"⟩
def dkwX4_goesBuild_7 : List UInt8 := [167, 255, 226, 177]
abbrev dktX4_goesBuild_7 : List UInt8 := dkwX4_goesBuild_7 ++ []
def dkwX4_goesBuild_6 : List UInt8 := [180, 0, 49, 29, 21, 5, 79, 42, 27, 28, 29, 4, 96, 21, 5, 4, 96, 182, 1, 153, 132, 5, 1]
abbrev dktX4_goesBuild_6 : List UInt8 := dkwX4_goesBuild_6 ++ dktX4_goesBuild_7
def dkwX4_goesBuild_5 : List UInt8 := [21, 7, 46, 79, 132, 7, 1, 167, 255, 233, 177, 21, 4, 54, 5, 21, 5, 27, 162, 0, 30, 42]
abbrev dktX4_goesBuild_5 : List UInt8 := dkwX4_goesBuild_5 ++ dktX4_goesBuild_6
def dkwX4_goesBuild_4 : List UInt8 := [42, 28, 181, 1, 147, 3, 54, 7, 21, 7, 28, 162, 0, 23, 42, 180, 0, 52, 21, 7, 42, 180, 0, 49]
abbrev dktX4_goesBuild_4 : List UInt8 := dkwX4_goesBuild_4 ++ dktX4_goesBuild_5
def dkwX4_goesBuild_3 : List UInt8 := [180, 1, 147, 2, 159, 0, 14, 22, 5, 42, 180, 1, 143, 148, 157, 0, 4, 177, 42, 22, 5, 181, 1, 143]
abbrev dktX4_goesBuild_3 : List UInt8 := dkwX4_goesBuild_3 ++ dktX4_goesBuild_4
def dkwX4_goesBuild_2 : List UInt8 := [157, 0, 11, 42, 180, 1, 147, 2, 160, 0, 7, 4, 167, 0, 7, 42, 180, 1, 150, 181, 1, 150, 42]
abbrev dktX4_goesBuild_2 : List UInt8 := dkwX4_goesBuild_2 ++ dktX4_goesBuild_3
def dkwX4_goesBuild_1 : List UInt8 := [42, 180, 1, 147, 2, 159, 0, 12, 42, 180, 1, 150, 4, 96, 167, 0, 29, 22, 5, 42, 180, 1, 143, 148]
abbrev dktX4_goesBuild_1 : List UInt8 := dkwX4_goesBuild_1 ++ dktX4_goesBuild_2
def dkwX4_goesBuild_0 : List UInt8 := [29, 28, 160, 0, 128, 42, 27, 28, 182, 1, 139, 55, 5, 42, 22, 5, 42, 180, 1, 143, 148, 154, 0, 20]
abbrev dktX4_goesBuild_0 : List UInt8 := dkwX4_goesBuild_0 ++ dktX4_goesBuild_1
theorem dksX4_goesBuild_0 : cX4_goesBuild.data.toList.drop 0 = dktX4_goesBuild_0 := by decide +kernel
theorem dksX4_goesBuild_1 : cX4_goesBuild.data.toList.drop 24 = dktX4_goesBuild_1 := dk_seg dksX4_goesBuild_0 24 rfl rfl
theorem dksX4_goesBuild_2 : cX4_goesBuild.data.toList.drop 48 = dktX4_goesBuild_2 := dk_seg dksX4_goesBuild_1 24 rfl rfl
theorem dksX4_goesBuild_3 : cX4_goesBuild.data.toList.drop 71 = dktX4_goesBuild_3 := dk_seg dksX4_goesBuild_2 23 rfl rfl
theorem dksX4_goesBuild_4 : cX4_goesBuild.data.toList.drop 95 = dktX4_goesBuild_4 := dk_seg dksX4_goesBuild_3 24 rfl rfl
theorem dksX4_goesBuild_5 : cX4_goesBuild.data.toList.drop 119 = dktX4_goesBuild_5 := dk_seg dksX4_goesBuild_4 24 rfl rfl
theorem dksX4_goesBuild_6 : cX4_goesBuild.data.toList.drop 141 = dktX4_goesBuild_6 := dk_seg dksX4_goesBuild_5 22 rfl rfl
theorem dksX4_goesBuild_7 : cX4_goesBuild.data.toList.drop 164 = dktX4_goesBuild_7 := dk_seg dksX4_goesBuild_6 23 rfl rfl
theorem dX4_goesBuild_0 : decode cX4_goesBuild 0 = .ok (.iload_n 3, 1) := dk_29 (dk_at dksX4_goesBuild_0 0 rfl rfl)
theorem dX4_goesBuild_1 : decode cX4_goesBuild 1 = .ok (.iload_n 2, 1) := dk_28 (dk_at dksX4_goesBuild_0 1 rfl rfl)
theorem dX4_goesBuild_2 : decode cX4_goesBuild 2 = .ok (.if_icmp .ne 128, 3) := dk_160 0 128 (dk_at dksX4_goesBuild_0 2 rfl rfl)
theorem dX4_goesBuild_5 : decode cX4_goesBuild 5 = .ok (.aload_n 0, 1) := dk_42 (dk_at dksX4_goesBuild_0 5 rfl rfl)
theorem dX4_goesBuild_6 : decode cX4_goesBuild 6 = .ok (.iload_n 1, 1) := dk_27 (dk_at dksX4_goesBuild_0 6 rfl rfl)
theorem dX4_goesBuild_7 : decode cX4_goesBuild 7 = .ok (.iload_n 2, 1) := dk_28 (dk_at dksX4_goesBuild_0 7 rfl rfl)
theorem dX4_goesBuild_8 : decode cX4_goesBuild 8 = .ok (.invokevirtual 395, 3) := dk_182 1 139 (dk_at dksX4_goesBuild_0 8 rfl rfl)
theorem dX4_goesBuild_11 : decode cX4_goesBuild 11 = .ok (.lstore 5, 2) := dk_55 5 (dk_at dksX4_goesBuild_0 11 rfl rfl)
theorem dX4_goesBuild_13 : decode cX4_goesBuild 13 = .ok (.aload_n 0, 1) := dk_42 (dk_at dksX4_goesBuild_0 13 rfl rfl)
theorem dX4_goesBuild_14 : decode cX4_goesBuild 14 = .ok (.lload 5, 2) := dk_22 5 (dk_at dksX4_goesBuild_0 14 rfl rfl)
theorem dX4_goesBuild_16 : decode cX4_goesBuild 16 = .ok (.aload_n 0, 1) := dk_42 (dk_at dksX4_goesBuild_0 16 rfl rfl)
theorem dX4_goesBuild_17 : decode cX4_goesBuild 17 = .ok (.getfield 399, 3) := dk_180 1 143 (dk_at dksX4_goesBuild_0 17 rfl rfl)
theorem dX4_goesBuild_20 : decode cX4_goesBuild 20 = .ok (.lcmp, 1) := dk_148 (dk_at dksX4_goesBuild_0 20 rfl rfl)
theorem dX4_goesBuild_21 : decode cX4_goesBuild 21 = .ok (.ifCond .ne 20, 3) := dk_154 0 20 (dk_at dksX4_goesBuild_0 21 rfl rfl)
theorem dX4_goesBuild_24 : decode cX4_goesBuild 24 = .ok (.aload_n 0, 1) := dk_42 (dk_at dksX4_goesBuild_1 0 rfl rfl)
theorem dX4_goesBuild_25 : decode cX4_goesBuild 25 = .ok (.getfield 403, 3) := dk_180 1 147 (dk_at dksX4_goesBuild_1 1 rfl rfl)
theorem dX4_goesBuild_28 : decode cX4_goesBuild 28 = .ok (.iconst (-1), 1) := dk_2 (dk_at dksX4_goesBuild_1 4 rfl rfl)
theorem dX4_goesBuild_29 : decode cX4_goesBuild 29 = .ok (.if_icmp .eq 12, 3) := dk_159 0 12 (dk_at dksX4_goesBuild_1 5 rfl rfl)
theorem dX4_goesBuild_32 : decode cX4_goesBuild 32 = .ok (.aload_n 0, 1) := dk_42 (dk_at dksX4_goesBuild_1 8 rfl rfl)
theorem dX4_goesBuild_33 : decode cX4_goesBuild 33 = .ok (.getfield 406, 3) := dk_180 1 150 (dk_at dksX4_goesBuild_1 9 rfl rfl)
theorem dX4_goesBuild_36 : decode cX4_goesBuild 36 = .ok (.iconst 1, 1) := dk_4 (dk_at dksX4_goesBuild_1 12 rfl rfl)
theorem dX4_goesBuild_37 : decode cX4_goesBuild 37 = .ok (.iadd, 1) := dk_96 (dk_at dksX4_goesBuild_1 13 rfl rfl)
theorem dX4_goesBuild_38 : decode cX4_goesBuild 38 = .ok (.goto 29, 3) := dk_167 0 29 (dk_at dksX4_goesBuild_1 14 rfl rfl)
theorem dX4_goesBuild_41 : decode cX4_goesBuild 41 = .ok (.lload 5, 2) := dk_22 5 (dk_at dksX4_goesBuild_1 17 rfl rfl)
theorem dX4_goesBuild_43 : decode cX4_goesBuild 43 = .ok (.aload_n 0, 1) := dk_42 (dk_at dksX4_goesBuild_1 19 rfl rfl)
theorem dX4_goesBuild_44 : decode cX4_goesBuild 44 = .ok (.getfield 399, 3) := dk_180 1 143 (dk_at dksX4_goesBuild_1 20 rfl rfl)
theorem dX4_goesBuild_47 : decode cX4_goesBuild 47 = .ok (.lcmp, 1) := dk_148 (dk_at dksX4_goesBuild_1 23 rfl rfl)
theorem dX4_goesBuild_48 : decode cX4_goesBuild 48 = .ok (.ifCond .gt 11, 3) := dk_157 0 11 (dk_at dksX4_goesBuild_2 0 rfl rfl)
theorem dX4_goesBuild_51 : decode cX4_goesBuild 51 = .ok (.aload_n 0, 1) := dk_42 (dk_at dksX4_goesBuild_2 3 rfl rfl)
theorem dX4_goesBuild_52 : decode cX4_goesBuild 52 = .ok (.getfield 403, 3) := dk_180 1 147 (dk_at dksX4_goesBuild_2 4 rfl rfl)
theorem dX4_goesBuild_55 : decode cX4_goesBuild 55 = .ok (.iconst (-1), 1) := dk_2 (dk_at dksX4_goesBuild_2 7 rfl rfl)
theorem dX4_goesBuild_56 : decode cX4_goesBuild 56 = .ok (.if_icmp .ne 7, 3) := dk_160 0 7 (dk_at dksX4_goesBuild_2 8 rfl rfl)
theorem dX4_goesBuild_59 : decode cX4_goesBuild 59 = .ok (.iconst 1, 1) := dk_4 (dk_at dksX4_goesBuild_2 11 rfl rfl)
theorem dX4_goesBuild_60 : decode cX4_goesBuild 60 = .ok (.goto 7, 3) := dk_167 0 7 (dk_at dksX4_goesBuild_2 12 rfl rfl)
theorem dX4_goesBuild_63 : decode cX4_goesBuild 63 = .ok (.aload_n 0, 1) := dk_42 (dk_at dksX4_goesBuild_2 15 rfl rfl)
theorem dX4_goesBuild_64 : decode cX4_goesBuild 64 = .ok (.getfield 406, 3) := dk_180 1 150 (dk_at dksX4_goesBuild_2 16 rfl rfl)
theorem dX4_goesBuild_67 : decode cX4_goesBuild 67 = .ok (.putfield 406, 3) := dk_181 1 150 (dk_at dksX4_goesBuild_2 19 rfl rfl)
theorem dX4_goesBuild_70 : decode cX4_goesBuild 70 = .ok (.aload_n 0, 1) := dk_42 (dk_at dksX4_goesBuild_2 22 rfl rfl)
theorem dX4_goesBuild_71 : decode cX4_goesBuild 71 = .ok (.getfield 403, 3) := dk_180 1 147 (dk_at dksX4_goesBuild_3 0 rfl rfl)
theorem dX4_goesBuild_74 : decode cX4_goesBuild 74 = .ok (.iconst (-1), 1) := dk_2 (dk_at dksX4_goesBuild_3 3 rfl rfl)
theorem dX4_goesBuild_75 : decode cX4_goesBuild 75 = .ok (.if_icmp .eq 14, 3) := dk_159 0 14 (dk_at dksX4_goesBuild_3 4 rfl rfl)
theorem dX4_goesBuild_78 : decode cX4_goesBuild 78 = .ok (.lload 5, 2) := dk_22 5 (dk_at dksX4_goesBuild_3 7 rfl rfl)
theorem dX4_goesBuild_80 : decode cX4_goesBuild 80 = .ok (.aload_n 0, 1) := dk_42 (dk_at dksX4_goesBuild_3 9 rfl rfl)
theorem dX4_goesBuild_81 : decode cX4_goesBuild 81 = .ok (.getfield 399, 3) := dk_180 1 143 (dk_at dksX4_goesBuild_3 10 rfl rfl)
theorem dX4_goesBuild_84 : decode cX4_goesBuild 84 = .ok (.lcmp, 1) := dk_148 (dk_at dksX4_goesBuild_3 13 rfl rfl)
theorem dX4_goesBuild_85 : decode cX4_goesBuild 85 = .ok (.ifCond .gt 4, 3) := dk_157 0 4 (dk_at dksX4_goesBuild_3 14 rfl rfl)
theorem dX4_goesBuild_88 : decode cX4_goesBuild 88 = .ok (.return_, 1) := dk_177 (dk_at dksX4_goesBuild_3 17 rfl rfl)
theorem dX4_goesBuild_89 : decode cX4_goesBuild 89 = .ok (.aload_n 0, 1) := dk_42 (dk_at dksX4_goesBuild_3 18 rfl rfl)
theorem dX4_goesBuild_90 : decode cX4_goesBuild 90 = .ok (.lload 5, 2) := dk_22 5 (dk_at dksX4_goesBuild_3 19 rfl rfl)
theorem dX4_goesBuild_92 : decode cX4_goesBuild 92 = .ok (.putfield 399, 3) := dk_181 1 143 (dk_at dksX4_goesBuild_3 21 rfl rfl)
theorem dX4_goesBuild_95 : decode cX4_goesBuild 95 = .ok (.aload_n 0, 1) := dk_42 (dk_at dksX4_goesBuild_4 0 rfl rfl)
theorem dX4_goesBuild_96 : decode cX4_goesBuild 96 = .ok (.iload_n 2, 1) := dk_28 (dk_at dksX4_goesBuild_4 1 rfl rfl)
theorem dX4_goesBuild_97 : decode cX4_goesBuild 97 = .ok (.putfield 403, 3) := dk_181 1 147 (dk_at dksX4_goesBuild_4 2 rfl rfl)
theorem dX4_goesBuild_100 : decode cX4_goesBuild 100 = .ok (.iconst 0, 1) := dk_3 (dk_at dksX4_goesBuild_4 5 rfl rfl)
theorem dX4_goesBuild_101 : decode cX4_goesBuild 101 = .ok (.istore 7, 2) := dk_54 7 (dk_at dksX4_goesBuild_4 6 rfl rfl)
theorem dX4_goesBuild_103 : decode cX4_goesBuild 103 = .ok (.iload 7, 2) := dk_21 7 (dk_at dksX4_goesBuild_4 8 rfl rfl)
theorem dX4_goesBuild_105 : decode cX4_goesBuild 105 = .ok (.iload_n 2, 1) := dk_28 (dk_at dksX4_goesBuild_4 10 rfl rfl)
theorem dX4_goesBuild_106 : decode cX4_goesBuild 106 = .ok (.if_icmp .ge 23, 3) := dk_162 0 23 (dk_at dksX4_goesBuild_4 11 rfl rfl)
theorem dX4_goesBuild_109 : decode cX4_goesBuild 109 = .ok (.aload_n 0, 1) := dk_42 (dk_at dksX4_goesBuild_4 14 rfl rfl)
theorem dX4_goesBuild_110 : decode cX4_goesBuild 110 = .ok (.getfield 52, 3) := dk_180 0 52 (dk_at dksX4_goesBuild_4 15 rfl rfl)
theorem dX4_goesBuild_113 : decode cX4_goesBuild 113 = .ok (.iload 7, 2) := dk_21 7 (dk_at dksX4_goesBuild_4 18 rfl rfl)
theorem dX4_goesBuild_115 : decode cX4_goesBuild 115 = .ok (.aload_n 0, 1) := dk_42 (dk_at dksX4_goesBuild_4 20 rfl rfl)
theorem dX4_goesBuild_116 : decode cX4_goesBuild 116 = .ok (.getfield 49, 3) := dk_180 0 49 (dk_at dksX4_goesBuild_4 21 rfl rfl)
theorem dX4_goesBuild_119 : decode cX4_goesBuild 119 = .ok (.iload 7, 2) := dk_21 7 (dk_at dksX4_goesBuild_5 0 rfl rfl)
theorem dX4_goesBuild_121 : decode cX4_goesBuild 121 = .ok (.iaload, 1) := dk_46 (dk_at dksX4_goesBuild_5 2 rfl rfl)
theorem dX4_goesBuild_122 : decode cX4_goesBuild 122 = .ok (.iastore, 1) := dk_79 (dk_at dksX4_goesBuild_5 3 rfl rfl)
theorem dX4_goesBuild_123 : decode cX4_goesBuild 123 = .ok (.iinc 7 1, 3) := dk_132 7 1 (dk_at dksX4_goesBuild_5 4 rfl rfl)
theorem dX4_goesBuild_126 : decode cX4_goesBuild 126 = .ok (.goto (-23), 3) := dk_167 255 233 (dk_at dksX4_goesBuild_5 7 rfl rfl)
theorem dX4_goesBuild_129 : decode cX4_goesBuild 129 = .ok (.return_, 1) := dk_177 (dk_at dksX4_goesBuild_5 10 rfl rfl)
theorem dX4_goesBuild_130 : decode cX4_goesBuild 130 = .ok (.iload 4, 2) := dk_21 4 (dk_at dksX4_goesBuild_5 11 rfl rfl)
theorem dX4_goesBuild_132 : decode cX4_goesBuild 132 = .ok (.istore 5, 2) := dk_54 5 (dk_at dksX4_goesBuild_5 13 rfl rfl)
theorem dX4_goesBuild_134 : decode cX4_goesBuild 134 = .ok (.iload 5, 2) := dk_21 5 (dk_at dksX4_goesBuild_5 15 rfl rfl)
theorem dX4_goesBuild_136 : decode cX4_goesBuild 136 = .ok (.iload_n 1, 1) := dk_27 (dk_at dksX4_goesBuild_5 17 rfl rfl)
theorem dX4_goesBuild_137 : decode cX4_goesBuild 137 = .ok (.if_icmp .ge 30, 3) := dk_162 0 30 (dk_at dksX4_goesBuild_5 18 rfl rfl)
theorem dX4_goesBuild_140 : decode cX4_goesBuild 140 = .ok (.aload_n 0, 1) := dk_42 (dk_at dksX4_goesBuild_5 21 rfl rfl)
theorem dX4_goesBuild_141 : decode cX4_goesBuild 141 = .ok (.getfield 49, 3) := dk_180 0 49 (dk_at dksX4_goesBuild_6 0 rfl rfl)
theorem dX4_goesBuild_144 : decode cX4_goesBuild 144 = .ok (.iload_n 3, 1) := dk_29 (dk_at dksX4_goesBuild_6 3 rfl rfl)
theorem dX4_goesBuild_145 : decode cX4_goesBuild 145 = .ok (.iload 5, 2) := dk_21 5 (dk_at dksX4_goesBuild_6 4 rfl rfl)
theorem dX4_goesBuild_147 : decode cX4_goesBuild 147 = .ok (.iastore, 1) := dk_79 (dk_at dksX4_goesBuild_6 6 rfl rfl)
theorem dX4_goesBuild_148 : decode cX4_goesBuild 148 = .ok (.aload_n 0, 1) := dk_42 (dk_at dksX4_goesBuild_6 7 rfl rfl)
theorem dX4_goesBuild_149 : decode cX4_goesBuild 149 = .ok (.iload_n 1, 1) := dk_27 (dk_at dksX4_goesBuild_6 8 rfl rfl)
theorem dX4_goesBuild_150 : decode cX4_goesBuild 150 = .ok (.iload_n 2, 1) := dk_28 (dk_at dksX4_goesBuild_6 9 rfl rfl)
theorem dX4_goesBuild_151 : decode cX4_goesBuild 151 = .ok (.iload_n 3, 1) := dk_29 (dk_at dksX4_goesBuild_6 10 rfl rfl)
theorem dX4_goesBuild_152 : decode cX4_goesBuild 152 = .ok (.iconst 1, 1) := dk_4 (dk_at dksX4_goesBuild_6 11 rfl rfl)
theorem dX4_goesBuild_153 : decode cX4_goesBuild 153 = .ok (.iadd, 1) := dk_96 (dk_at dksX4_goesBuild_6 12 rfl rfl)
theorem dX4_goesBuild_154 : decode cX4_goesBuild 154 = .ok (.iload 5, 2) := dk_21 5 (dk_at dksX4_goesBuild_6 13 rfl rfl)
theorem dX4_goesBuild_156 : decode cX4_goesBuild 156 = .ok (.iconst 1, 1) := dk_4 (dk_at dksX4_goesBuild_6 15 rfl rfl)
theorem dX4_goesBuild_157 : decode cX4_goesBuild 157 = .ok (.iadd, 1) := dk_96 (dk_at dksX4_goesBuild_6 16 rfl rfl)
theorem dX4_goesBuild_158 : decode cX4_goesBuild 158 = .ok (.invokevirtual 409, 3) := dk_182 1 153 (dk_at dksX4_goesBuild_6 17 rfl rfl)
theorem dX4_goesBuild_161 : decode cX4_goesBuild 161 = .ok (.iinc 5 1, 3) := dk_132 5 1 (dk_at dksX4_goesBuild_6 20 rfl rfl)
theorem dX4_goesBuild_164 : decode cX4_goesBuild 164 = .ok (.goto (-30), 3) := dk_167 255 226 (dk_at dksX4_goesBuild_7 0 rfl rfl)
theorem dX4_goesBuild_167 : decode cX4_goesBuild 167 = .ok (.return_, 1) := dk_177 (dk_at dksX4_goesBuild_7 3 rfl rfl)
abbrev cX4_sumOf : ByteArray := prog_11_method_101_code
def yX4_sumOf : MethodName := ⟨RX4, "sumOf", "(II)J"⟩
def dkwX4_sumOf_6 : List UInt8 := [21, 9, 96, 182, 0, 235, 184, 0, 245, 54, 6, 132, 9, 1, 167, 255, 147, 33, 173]
abbrev dktX4_sumOf_6 : List UInt8 := dkwX4_sumOf_6 ++ []
def dkwX4_sumOf_5 : List UInt8 := [66, 132, 10, 1, 167, 255, 224, 21, 6, 42, 21, 5, 21, 7, 21, 6, 42, 180, 0, 13, 16, 42, 46]
abbrev dktX4_sumOf_5 : List UInt8 := dkwX4_sumOf_5 ++ dktX4_sumOf_6
def dkwX4_sumOf_4 : List UInt8 := [162, 0, 31, 33, 42, 21, 10, 21, 6, 42, 180, 0, 13, 16, 42, 46, 21, 9, 96, 182, 0, 238, 133, 97]
abbrev dktX4_sumOf_4 : List UInt8 := dkwX4_sumOf_4 ++ dktX4_sumOf_5
def dkwX4_sumOf_3 : List UInt8 := [132, 8, 1, 132, 7, 1, 21, 5, 42, 180, 0, 13, 5, 46, 96, 54, 5, 3, 54, 10, 21, 10, 21, 7]
abbrev dktX4_sumOf_3 : List UInt8 := dkwX4_sumOf_3 ++ dktX4_sumOf_4
def dkwX4_sumOf_2 : List UInt8 := [21, 9, 27, 162, 0, 109, 21, 8, 28, 162, 0, 32, 42, 180, 0, 49, 21, 8, 46, 21, 9, 160, 0, 20]
abbrev dktX4_sumOf_2 : List UInt8 := dkwX4_sumOf_2 ++ dktX4_sumOf_3
def dkwX4_sumOf_1 : List UInt8 := [180, 0, 13, 16, 41, 46, 54, 6, 42, 180, 0, 13, 16, 20, 46, 54, 7, 3, 54, 8, 3, 54, 9]
abbrev dktX4_sumOf_1 : List UInt8 := dkwX4_sumOf_1 ++ dktX4_sumOf_2
def dkwX4_sumOf_0 : List UInt8 := [20, 1, 34, 28, 133, 105, 42, 180, 0, 13, 6, 46, 133, 105, 66, 42, 2, 182, 0, 232, 54, 5, 42]
abbrev dktX4_sumOf_0 : List UInt8 := dkwX4_sumOf_0 ++ dktX4_sumOf_1
theorem dksX4_sumOf_0 : cX4_sumOf.data.toList.drop 0 = dktX4_sumOf_0 := by decide +kernel
theorem dksX4_sumOf_1 : cX4_sumOf.data.toList.drop 23 = dktX4_sumOf_1 := dk_seg dksX4_sumOf_0 23 rfl rfl
theorem dksX4_sumOf_2 : cX4_sumOf.data.toList.drop 46 = dktX4_sumOf_2 := dk_seg dksX4_sumOf_1 23 rfl rfl
theorem dksX4_sumOf_3 : cX4_sumOf.data.toList.drop 70 = dktX4_sumOf_3 := dk_seg dksX4_sumOf_2 24 rfl rfl
theorem dksX4_sumOf_4 : cX4_sumOf.data.toList.drop 94 = dktX4_sumOf_4 := dk_seg dksX4_sumOf_3 24 rfl rfl
theorem dksX4_sumOf_5 : cX4_sumOf.data.toList.drop 118 = dktX4_sumOf_5 := dk_seg dksX4_sumOf_4 24 rfl rfl
theorem dksX4_sumOf_6 : cX4_sumOf.data.toList.drop 141 = dktX4_sumOf_6 := dk_seg dksX4_sumOf_5 23 rfl rfl
theorem dX4_sumOf_0 : decode cX4_sumOf 0 = .ok (.ldc2_w 290, 3) := dk_20 1 34 (dk_at dksX4_sumOf_0 0 rfl rfl)
theorem dX4_sumOf_3 : decode cX4_sumOf 3 = .ok (.iload_n 2, 1) := dk_28 (dk_at dksX4_sumOf_0 3 rfl rfl)
theorem dX4_sumOf_4 : decode cX4_sumOf 4 = .ok (.i2l, 1) := dk_133 (dk_at dksX4_sumOf_0 4 rfl rfl)
theorem dX4_sumOf_5 : decode cX4_sumOf 5 = .ok (.lmul, 1) := dk_105 (dk_at dksX4_sumOf_0 5 rfl rfl)
theorem dX4_sumOf_6 : decode cX4_sumOf 6 = .ok (.aload_n 0, 1) := dk_42 (dk_at dksX4_sumOf_0 6 rfl rfl)
theorem dX4_sumOf_7 : decode cX4_sumOf 7 = .ok (.getfield 13, 3) := dk_180 0 13 (dk_at dksX4_sumOf_0 7 rfl rfl)
theorem dX4_sumOf_10 : decode cX4_sumOf 10 = .ok (.iconst 3, 1) := dk_6 (dk_at dksX4_sumOf_0 10 rfl rfl)
theorem dX4_sumOf_11 : decode cX4_sumOf 11 = .ok (.iaload, 1) := dk_46 (dk_at dksX4_sumOf_0 11 rfl rfl)
theorem dX4_sumOf_12 : decode cX4_sumOf 12 = .ok (.i2l, 1) := dk_133 (dk_at dksX4_sumOf_0 12 rfl rfl)
theorem dX4_sumOf_13 : decode cX4_sumOf 13 = .ok (.lmul, 1) := dk_105 (dk_at dksX4_sumOf_0 13 rfl rfl)
theorem dX4_sumOf_14 : decode cX4_sumOf 14 = .ok (.lstore_n 3, 1) := dk_66 (dk_at dksX4_sumOf_0 14 rfl rfl)
theorem dX4_sumOf_15 : decode cX4_sumOf 15 = .ok (.aload_n 0, 1) := dk_42 (dk_at dksX4_sumOf_0 15 rfl rfl)
theorem dX4_sumOf_16 : decode cX4_sumOf 16 = .ok (.iconst (-1), 1) := dk_2 (dk_at dksX4_sumOf_0 16 rfl rfl)
theorem dX4_sumOf_17 : decode cX4_sumOf 17 = .ok (.invokevirtual 232, 3) := dk_182 0 232 (dk_at dksX4_sumOf_0 17 rfl rfl)
theorem dX4_sumOf_20 : decode cX4_sumOf 20 = .ok (.istore 5, 2) := dk_54 5 (dk_at dksX4_sumOf_0 20 rfl rfl)
theorem dX4_sumOf_22 : decode cX4_sumOf 22 = .ok (.aload_n 0, 1) := dk_42 (dk_at dksX4_sumOf_0 22 rfl rfl)
theorem dX4_sumOf_23 : decode cX4_sumOf 23 = .ok (.getfield 13, 3) := dk_180 0 13 (dk_at dksX4_sumOf_1 0 rfl rfl)
theorem dX4_sumOf_26 : decode cX4_sumOf 26 = .ok (.bipush 41, 2) := dk_16 41 (dk_at dksX4_sumOf_1 3 rfl rfl)
theorem dX4_sumOf_28 : decode cX4_sumOf 28 = .ok (.iaload, 1) := dk_46 (dk_at dksX4_sumOf_1 5 rfl rfl)
theorem dX4_sumOf_29 : decode cX4_sumOf 29 = .ok (.istore 6, 2) := dk_54 6 (dk_at dksX4_sumOf_1 6 rfl rfl)
theorem dX4_sumOf_31 : decode cX4_sumOf 31 = .ok (.aload_n 0, 1) := dk_42 (dk_at dksX4_sumOf_1 8 rfl rfl)
theorem dX4_sumOf_32 : decode cX4_sumOf 32 = .ok (.getfield 13, 3) := dk_180 0 13 (dk_at dksX4_sumOf_1 9 rfl rfl)
theorem dX4_sumOf_35 : decode cX4_sumOf 35 = .ok (.bipush 20, 2) := dk_16 20 (dk_at dksX4_sumOf_1 12 rfl rfl)
theorem dX4_sumOf_37 : decode cX4_sumOf 37 = .ok (.iaload, 1) := dk_46 (dk_at dksX4_sumOf_1 14 rfl rfl)
theorem dX4_sumOf_38 : decode cX4_sumOf 38 = .ok (.istore 7, 2) := dk_54 7 (dk_at dksX4_sumOf_1 15 rfl rfl)
theorem dX4_sumOf_40 : decode cX4_sumOf 40 = .ok (.iconst 0, 1) := dk_3 (dk_at dksX4_sumOf_1 17 rfl rfl)
theorem dX4_sumOf_41 : decode cX4_sumOf 41 = .ok (.istore 8, 2) := dk_54 8 (dk_at dksX4_sumOf_1 18 rfl rfl)
theorem dX4_sumOf_43 : decode cX4_sumOf 43 = .ok (.iconst 0, 1) := dk_3 (dk_at dksX4_sumOf_1 20 rfl rfl)
theorem dX4_sumOf_44 : decode cX4_sumOf 44 = .ok (.istore 9, 2) := dk_54 9 (dk_at dksX4_sumOf_1 21 rfl rfl)
theorem dX4_sumOf_46 : decode cX4_sumOf 46 = .ok (.iload 9, 2) := dk_21 9 (dk_at dksX4_sumOf_2 0 rfl rfl)
theorem dX4_sumOf_48 : decode cX4_sumOf 48 = .ok (.iload_n 1, 1) := dk_27 (dk_at dksX4_sumOf_2 2 rfl rfl)
theorem dX4_sumOf_49 : decode cX4_sumOf 49 = .ok (.if_icmp .ge 109, 3) := dk_162 0 109 (dk_at dksX4_sumOf_2 3 rfl rfl)
theorem dX4_sumOf_52 : decode cX4_sumOf 52 = .ok (.iload 8, 2) := dk_21 8 (dk_at dksX4_sumOf_2 6 rfl rfl)
theorem dX4_sumOf_54 : decode cX4_sumOf 54 = .ok (.iload_n 2, 1) := dk_28 (dk_at dksX4_sumOf_2 8 rfl rfl)
theorem dX4_sumOf_55 : decode cX4_sumOf 55 = .ok (.if_icmp .ge 32, 3) := dk_162 0 32 (dk_at dksX4_sumOf_2 9 rfl rfl)
theorem dX4_sumOf_58 : decode cX4_sumOf 58 = .ok (.aload_n 0, 1) := dk_42 (dk_at dksX4_sumOf_2 12 rfl rfl)
theorem dX4_sumOf_59 : decode cX4_sumOf 59 = .ok (.getfield 49, 3) := dk_180 0 49 (dk_at dksX4_sumOf_2 13 rfl rfl)
theorem dX4_sumOf_62 : decode cX4_sumOf 62 = .ok (.iload 8, 2) := dk_21 8 (dk_at dksX4_sumOf_2 16 rfl rfl)
theorem dX4_sumOf_64 : decode cX4_sumOf 64 = .ok (.iaload, 1) := dk_46 (dk_at dksX4_sumOf_2 18 rfl rfl)
theorem dX4_sumOf_65 : decode cX4_sumOf 65 = .ok (.iload 9, 2) := dk_21 9 (dk_at dksX4_sumOf_2 19 rfl rfl)
theorem dX4_sumOf_67 : decode cX4_sumOf 67 = .ok (.if_icmp .ne 20, 3) := dk_160 0 20 (dk_at dksX4_sumOf_2 21 rfl rfl)
theorem dX4_sumOf_70 : decode cX4_sumOf 70 = .ok (.iinc 8 1, 3) := dk_132 8 1 (dk_at dksX4_sumOf_3 0 rfl rfl)
theorem dX4_sumOf_73 : decode cX4_sumOf 73 = .ok (.iinc 7 1, 3) := dk_132 7 1 (dk_at dksX4_sumOf_3 3 rfl rfl)
theorem dX4_sumOf_76 : decode cX4_sumOf 76 = .ok (.iload 5, 2) := dk_21 5 (dk_at dksX4_sumOf_3 6 rfl rfl)
theorem dX4_sumOf_78 : decode cX4_sumOf 78 = .ok (.aload_n 0, 1) := dk_42 (dk_at dksX4_sumOf_3 8 rfl rfl)
theorem dX4_sumOf_79 : decode cX4_sumOf 79 = .ok (.getfield 13, 3) := dk_180 0 13 (dk_at dksX4_sumOf_3 9 rfl rfl)
theorem dX4_sumOf_82 : decode cX4_sumOf 82 = .ok (.iconst 2, 1) := dk_5 (dk_at dksX4_sumOf_3 12 rfl rfl)
theorem dX4_sumOf_83 : decode cX4_sumOf 83 = .ok (.iaload, 1) := dk_46 (dk_at dksX4_sumOf_3 13 rfl rfl)
theorem dX4_sumOf_84 : decode cX4_sumOf 84 = .ok (.iadd, 1) := dk_96 (dk_at dksX4_sumOf_3 14 rfl rfl)
theorem dX4_sumOf_85 : decode cX4_sumOf 85 = .ok (.istore 5, 2) := dk_54 5 (dk_at dksX4_sumOf_3 15 rfl rfl)
theorem dX4_sumOf_87 : decode cX4_sumOf 87 = .ok (.iconst 0, 1) := dk_3 (dk_at dksX4_sumOf_3 17 rfl rfl)
theorem dX4_sumOf_88 : decode cX4_sumOf 88 = .ok (.istore 10, 2) := dk_54 10 (dk_at dksX4_sumOf_3 18 rfl rfl)
theorem dX4_sumOf_90 : decode cX4_sumOf 90 = .ok (.iload 10, 2) := dk_21 10 (dk_at dksX4_sumOf_3 20 rfl rfl)
theorem dX4_sumOf_92 : decode cX4_sumOf 92 = .ok (.iload 7, 2) := dk_21 7 (dk_at dksX4_sumOf_3 22 rfl rfl)
theorem dX4_sumOf_94 : decode cX4_sumOf 94 = .ok (.if_icmp .ge 31, 3) := dk_162 0 31 (dk_at dksX4_sumOf_4 0 rfl rfl)
theorem dX4_sumOf_97 : decode cX4_sumOf 97 = .ok (.lload_n 3, 1) := dk_33 (dk_at dksX4_sumOf_4 3 rfl rfl)
theorem dX4_sumOf_98 : decode cX4_sumOf 98 = .ok (.aload_n 0, 1) := dk_42 (dk_at dksX4_sumOf_4 4 rfl rfl)
theorem dX4_sumOf_99 : decode cX4_sumOf 99 = .ok (.iload 10, 2) := dk_21 10 (dk_at dksX4_sumOf_4 5 rfl rfl)
theorem dX4_sumOf_101 : decode cX4_sumOf 101 = .ok (.iload 6, 2) := dk_21 6 (dk_at dksX4_sumOf_4 7 rfl rfl)
theorem dX4_sumOf_103 : decode cX4_sumOf 103 = .ok (.aload_n 0, 1) := dk_42 (dk_at dksX4_sumOf_4 9 rfl rfl)
theorem dX4_sumOf_104 : decode cX4_sumOf 104 = .ok (.getfield 13, 3) := dk_180 0 13 (dk_at dksX4_sumOf_4 10 rfl rfl)
theorem dX4_sumOf_107 : decode cX4_sumOf 107 = .ok (.bipush 42, 2) := dk_16 42 (dk_at dksX4_sumOf_4 13 rfl rfl)
theorem dX4_sumOf_109 : decode cX4_sumOf 109 = .ok (.iaload, 1) := dk_46 (dk_at dksX4_sumOf_4 15 rfl rfl)
theorem dX4_sumOf_110 : decode cX4_sumOf 110 = .ok (.iload 9, 2) := dk_21 9 (dk_at dksX4_sumOf_4 16 rfl rfl)
theorem dX4_sumOf_112 : decode cX4_sumOf 112 = .ok (.iadd, 1) := dk_96 (dk_at dksX4_sumOf_4 18 rfl rfl)
theorem dX4_sumOf_113 : decode cX4_sumOf 113 = .ok (.invokevirtual 238, 3) := dk_182 0 238 (dk_at dksX4_sumOf_4 19 rfl rfl)
theorem dX4_sumOf_116 : decode cX4_sumOf 116 = .ok (.i2l, 1) := dk_133 (dk_at dksX4_sumOf_4 22 rfl rfl)
theorem dX4_sumOf_117 : decode cX4_sumOf 117 = .ok (.ladd, 1) := dk_97 (dk_at dksX4_sumOf_4 23 rfl rfl)
theorem dX4_sumOf_118 : decode cX4_sumOf 118 = .ok (.lstore_n 3, 1) := dk_66 (dk_at dksX4_sumOf_5 0 rfl rfl)
theorem dX4_sumOf_119 : decode cX4_sumOf 119 = .ok (.iinc 10 1, 3) := dk_132 10 1 (dk_at dksX4_sumOf_5 1 rfl rfl)
theorem dX4_sumOf_122 : decode cX4_sumOf 122 = .ok (.goto (-32), 3) := dk_167 255 224 (dk_at dksX4_sumOf_5 4 rfl rfl)
theorem dX4_sumOf_125 : decode cX4_sumOf 125 = .ok (.iload 6, 2) := dk_21 6 (dk_at dksX4_sumOf_5 7 rfl rfl)
theorem dX4_sumOf_127 : decode cX4_sumOf 127 = .ok (.aload_n 0, 1) := dk_42 (dk_at dksX4_sumOf_5 9 rfl rfl)
theorem dX4_sumOf_128 : decode cX4_sumOf 128 = .ok (.iload 5, 2) := dk_21 5 (dk_at dksX4_sumOf_5 10 rfl rfl)
theorem dX4_sumOf_130 : decode cX4_sumOf 130 = .ok (.iload 7, 2) := dk_21 7 (dk_at dksX4_sumOf_5 12 rfl rfl)
theorem dX4_sumOf_132 : decode cX4_sumOf 132 = .ok (.iload 6, 2) := dk_21 6 (dk_at dksX4_sumOf_5 14 rfl rfl)
theorem dX4_sumOf_134 : decode cX4_sumOf 134 = .ok (.aload_n 0, 1) := dk_42 (dk_at dksX4_sumOf_5 16 rfl rfl)
theorem dX4_sumOf_135 : decode cX4_sumOf 135 = .ok (.getfield 13, 3) := dk_180 0 13 (dk_at dksX4_sumOf_5 17 rfl rfl)
theorem dX4_sumOf_138 : decode cX4_sumOf 138 = .ok (.bipush 42, 2) := dk_16 42 (dk_at dksX4_sumOf_5 20 rfl rfl)
theorem dX4_sumOf_140 : decode cX4_sumOf 140 = .ok (.iaload, 1) := dk_46 (dk_at dksX4_sumOf_5 22 rfl rfl)
theorem dX4_sumOf_141 : decode cX4_sumOf 141 = .ok (.iload 9, 2) := dk_21 9 (dk_at dksX4_sumOf_6 0 rfl rfl)
theorem dX4_sumOf_143 : decode cX4_sumOf 143 = .ok (.iadd, 1) := dk_96 (dk_at dksX4_sumOf_6 2 rfl rfl)
theorem dX4_sumOf_144 : decode cX4_sumOf 144 = .ok (.invokevirtual 235, 3) := dk_182 0 235 (dk_at dksX4_sumOf_6 3 rfl rfl)
theorem dX4_sumOf_147 : decode cX4_sumOf 147 = .ok (.invokestatic 245, 3) := dk_184 0 245 (dk_at dksX4_sumOf_6 6 rfl rfl)
theorem dX4_sumOf_150 : decode cX4_sumOf 150 = .ok (.istore 6, 2) := dk_54 6 (dk_at dksX4_sumOf_6 9 rfl rfl)
theorem dX4_sumOf_152 : decode cX4_sumOf 152 = .ok (.iinc 9 1, 3) := dk_132 9 1 (dk_at dksX4_sumOf_6 11 rfl rfl)
theorem dX4_sumOf_155 : decode cX4_sumOf 155 = .ok (.goto (-109), 3) := dk_167 255 147 (dk_at dksX4_sumOf_6 14 rfl rfl)
theorem dX4_sumOf_158 : decode cX4_sumOf 158 = .ok (.lload_n 3, 1) := dk_33 (dk_at dksX4_sumOf_6 17 rfl rfl)
theorem dX4_sumOf_159 : decode cX4_sumOf 159 = .ok (.lreturn, 1) := dk_173 (dk_at dksX4_sumOf_6 18 rfl rfl)
abbrev cX4_buildings : ByteArray := prog_11_method_105_code
def yX4_buildings : MethodName := ⟨RX4, "buildings", "(II)I"⟩
def dkwX4_buildings_1 : List UInt8 := [184, 0, 141, 154, 0, 6, 16, 253, 172, 42, 27, 28, 182, 1, 161, 42, 180, 1, 150, 172]
abbrev dktX4_buildings_1 : List UInt8 := dkwX4_buildings_1 ++ []
def dkwX4_buildings_0 : List UInt8 := [42, 3, 181, 0, 1, 27, 133, 10, 20, 1, 159, 184, 0, 141, 153, 0, 15, 28, 133, 9, 20, 1, 61]
abbrev dktX4_buildings_0 : List UInt8 := dkwX4_buildings_0 ++ dktX4_buildings_1
theorem dksX4_buildings_0 : cX4_buildings.data.toList.drop 0 = dktX4_buildings_0 := by decide +kernel
theorem dksX4_buildings_1 : cX4_buildings.data.toList.drop 23 = dktX4_buildings_1 := dk_seg dksX4_buildings_0 23 rfl rfl
theorem dX4_buildings_0 : decode cX4_buildings 0 = .ok (.aload_n 0, 1) := dk_42 (dk_at dksX4_buildings_0 0 rfl rfl)
theorem dX4_buildings_1 : decode cX4_buildings 1 = .ok (.iconst 0, 1) := dk_3 (dk_at dksX4_buildings_0 1 rfl rfl)
theorem dX4_buildings_2 : decode cX4_buildings 2 = .ok (.putfield 1, 3) := dk_181 0 1 (dk_at dksX4_buildings_0 2 rfl rfl)
theorem dX4_buildings_5 : decode cX4_buildings 5 = .ok (.iload_n 1, 1) := dk_27 (dk_at dksX4_buildings_0 5 rfl rfl)
theorem dX4_buildings_6 : decode cX4_buildings 6 = .ok (.i2l, 1) := dk_133 (dk_at dksX4_buildings_0 6 rfl rfl)
theorem dX4_buildings_7 : decode cX4_buildings 7 = .ok (.lconst 1, 1) := dk_10 (dk_at dksX4_buildings_0 7 rfl rfl)
theorem dX4_buildings_8 : decode cX4_buildings 8 = .ok (.ldc2_w 415, 3) := dk_20 1 159 (dk_at dksX4_buildings_0 8 rfl rfl)
theorem dX4_buildings_11 : decode cX4_buildings 11 = .ok (.invokestatic 141, 3) := dk_184 0 141 (dk_at dksX4_buildings_0 11 rfl rfl)
theorem dX4_buildings_14 : decode cX4_buildings 14 = .ok (.ifCond .eq 15, 3) := dk_153 0 15 (dk_at dksX4_buildings_0 14 rfl rfl)
theorem dX4_buildings_17 : decode cX4_buildings 17 = .ok (.iload_n 2, 1) := dk_28 (dk_at dksX4_buildings_0 17 rfl rfl)
theorem dX4_buildings_18 : decode cX4_buildings 18 = .ok (.i2l, 1) := dk_133 (dk_at dksX4_buildings_0 18 rfl rfl)
theorem dX4_buildings_19 : decode cX4_buildings 19 = .ok (.lconst 0, 1) := dk_9 (dk_at dksX4_buildings_0 19 rfl rfl)
theorem dX4_buildings_20 : decode cX4_buildings 20 = .ok (.ldc2_w 317, 3) := dk_20 1 61 (dk_at dksX4_buildings_0 20 rfl rfl)
theorem dX4_buildings_23 : decode cX4_buildings 23 = .ok (.invokestatic 141, 3) := dk_184 0 141 (dk_at dksX4_buildings_1 0 rfl rfl)
theorem dX4_buildings_26 : decode cX4_buildings 26 = .ok (.ifCond .ne 6, 3) := dk_154 0 6 (dk_at dksX4_buildings_1 3 rfl rfl)
theorem dX4_buildings_29 : decode cX4_buildings 29 = .ok (.bipush (-3), 2) := dk_16 253 (dk_at dksX4_buildings_1 6 rfl rfl)
theorem dX4_buildings_31 : decode cX4_buildings 31 = .ok (.ireturn, 1) := dk_172 (dk_at dksX4_buildings_1 8 rfl rfl)
theorem dX4_buildings_32 : decode cX4_buildings 32 = .ok (.aload_n 0, 1) := dk_42 (dk_at dksX4_buildings_1 9 rfl rfl)
theorem dX4_buildings_33 : decode cX4_buildings 33 = .ok (.iload_n 1, 1) := dk_27 (dk_at dksX4_buildings_1 10 rfl rfl)
theorem dX4_buildings_34 : decode cX4_buildings 34 = .ok (.iload_n 2, 1) := dk_28 (dk_at dksX4_buildings_1 11 rfl rfl)
theorem dX4_buildings_35 : decode cX4_buildings 35 = .ok (.invokevirtual 417, 3) := dk_182 1 161 (dk_at dksX4_buildings_1 12 rfl rfl)
theorem dX4_buildings_38 : decode cX4_buildings 38 = .ok (.aload_n 0, 1) := dk_42 (dk_at dksX4_buildings_1 15 rfl rfl)
theorem dX4_buildings_39 : decode cX4_buildings 39 = .ok (.getfield 406, 3) := dk_180 1 150 (dk_at dksX4_buildings_1 16 rfl rfl)
theorem dX4_buildings_42 : decode cX4_buildings 42 = .ok (.ireturn, 1) := dk_172 (dk_at dksX4_buildings_1 19 rfl rfl)
abbrev cX4_envies : ByteArray := prog_11_method_106_code
def yX4_envies : MethodName := ⟨RX4, "envies", "(I)I"⟩
def dkwX4_envies_4 : List UInt8 := [4, 29, 120, 128, 61, 132, 3, 1, 167, 255, 175, 28, 172]
abbrev dktX4_envies_4 : List UInt8 := dkwX4_envies_4 ++ []
def dkwX4_envies_3 : List UInt8 := [29, 96, 46, 182, 0, 242, 42, 27, 42, 180, 0, 13, 16, 35, 27, 96, 46, 182, 0, 242, 164, 0, 9, 28]
abbrev dktX4_envies_3 : List UInt8 := dkwX4_envies_3 ++ dktX4_envies_4
def dkwX4_envies_2 : List UInt8 := [159, 0, 53, 42, 180, 0, 13, 16, 35, 29, 96, 46, 2, 159, 0, 40, 42, 27, 42, 180, 0, 13, 16, 35]
abbrev dktX4_envies_2 : List UInt8 := dkwX4_envies_2 ++ dktX4_envies_3
def dkwX4_envies_1 : List UInt8 := [180, 0, 13, 4, 46, 162, 0, 77, 42, 180, 0, 13, 16, 35, 27, 96, 46, 2, 159, 0, 64, 29, 27]
abbrev dktX4_envies_1 : List UInt8 := dkwX4_envies_1 ++ dktX4_envies_2
def dkwX4_envies_0 : List UInt8 := [42, 3, 181, 0, 1, 42, 27, 133, 182, 0, 229, 154, 0, 6, 16, 254, 172, 3, 61, 3, 62, 29, 42]
abbrev dktX4_envies_0 : List UInt8 := dkwX4_envies_0 ++ dktX4_envies_1
theorem dksX4_envies_0 : cX4_envies.data.toList.drop 0 = dktX4_envies_0 := by decide +kernel
theorem dksX4_envies_1 : cX4_envies.data.toList.drop 23 = dktX4_envies_1 := dk_seg dksX4_envies_0 23 rfl rfl
theorem dksX4_envies_2 : cX4_envies.data.toList.drop 46 = dktX4_envies_2 := dk_seg dksX4_envies_1 23 rfl rfl
theorem dksX4_envies_3 : cX4_envies.data.toList.drop 70 = dktX4_envies_3 := dk_seg dksX4_envies_2 24 rfl rfl
theorem dksX4_envies_4 : cX4_envies.data.toList.drop 94 = dktX4_envies_4 := dk_seg dksX4_envies_3 24 rfl rfl
theorem dX4_envies_0 : decode cX4_envies 0 = .ok (.aload_n 0, 1) := dk_42 (dk_at dksX4_envies_0 0 rfl rfl)
theorem dX4_envies_1 : decode cX4_envies 1 = .ok (.iconst 0, 1) := dk_3 (dk_at dksX4_envies_0 1 rfl rfl)
theorem dX4_envies_2 : decode cX4_envies 2 = .ok (.putfield 1, 3) := dk_181 0 1 (dk_at dksX4_envies_0 2 rfl rfl)
theorem dX4_envies_5 : decode cX4_envies 5 = .ok (.aload_n 0, 1) := dk_42 (dk_at dksX4_envies_0 5 rfl rfl)
theorem dX4_envies_6 : decode cX4_envies 6 = .ok (.iload_n 1, 1) := dk_27 (dk_at dksX4_envies_0 6 rfl rfl)
theorem dX4_envies_7 : decode cX4_envies 7 = .ok (.i2l, 1) := dk_133 (dk_at dksX4_envies_0 7 rfl rfl)
theorem dX4_envies_8 : decode cX4_envies 8 = .ok (.invokevirtual 229, 3) := dk_182 0 229 (dk_at dksX4_envies_0 8 rfl rfl)
theorem dX4_envies_11 : decode cX4_envies 11 = .ok (.ifCond .ne 6, 3) := dk_154 0 6 (dk_at dksX4_envies_0 11 rfl rfl)
theorem dX4_envies_14 : decode cX4_envies 14 = .ok (.bipush (-2), 2) := dk_16 254 (dk_at dksX4_envies_0 14 rfl rfl)
theorem dX4_envies_16 : decode cX4_envies 16 = .ok (.ireturn, 1) := dk_172 (dk_at dksX4_envies_0 16 rfl rfl)
theorem dX4_envies_17 : decode cX4_envies 17 = .ok (.iconst 0, 1) := dk_3 (dk_at dksX4_envies_0 17 rfl rfl)
theorem dX4_envies_18 : decode cX4_envies 18 = .ok (.istore_n 2, 1) := dk_61 (dk_at dksX4_envies_0 18 rfl rfl)
theorem dX4_envies_19 : decode cX4_envies 19 = .ok (.iconst 0, 1) := dk_3 (dk_at dksX4_envies_0 19 rfl rfl)
theorem dX4_envies_20 : decode cX4_envies 20 = .ok (.istore_n 3, 1) := dk_62 (dk_at dksX4_envies_0 20 rfl rfl)
theorem dX4_envies_21 : decode cX4_envies 21 = .ok (.iload_n 3, 1) := dk_29 (dk_at dksX4_envies_0 21 rfl rfl)
theorem dX4_envies_22 : decode cX4_envies 22 = .ok (.aload_n 0, 1) := dk_42 (dk_at dksX4_envies_0 22 rfl rfl)
theorem dX4_envies_23 : decode cX4_envies 23 = .ok (.getfield 13, 3) := dk_180 0 13 (dk_at dksX4_envies_1 0 rfl rfl)
theorem dX4_envies_26 : decode cX4_envies 26 = .ok (.iconst 1, 1) := dk_4 (dk_at dksX4_envies_1 3 rfl rfl)
theorem dX4_envies_27 : decode cX4_envies 27 = .ok (.iaload, 1) := dk_46 (dk_at dksX4_envies_1 4 rfl rfl)
theorem dX4_envies_28 : decode cX4_envies 28 = .ok (.if_icmp .ge 77, 3) := dk_162 0 77 (dk_at dksX4_envies_1 5 rfl rfl)
theorem dX4_envies_31 : decode cX4_envies 31 = .ok (.aload_n 0, 1) := dk_42 (dk_at dksX4_envies_1 8 rfl rfl)
theorem dX4_envies_32 : decode cX4_envies 32 = .ok (.getfield 13, 3) := dk_180 0 13 (dk_at dksX4_envies_1 9 rfl rfl)
theorem dX4_envies_35 : decode cX4_envies 35 = .ok (.bipush 35, 2) := dk_16 35 (dk_at dksX4_envies_1 12 rfl rfl)
theorem dX4_envies_37 : decode cX4_envies 37 = .ok (.iload_n 1, 1) := dk_27 (dk_at dksX4_envies_1 14 rfl rfl)
theorem dX4_envies_38 : decode cX4_envies 38 = .ok (.iadd, 1) := dk_96 (dk_at dksX4_envies_1 15 rfl rfl)
theorem dX4_envies_39 : decode cX4_envies 39 = .ok (.iaload, 1) := dk_46 (dk_at dksX4_envies_1 16 rfl rfl)
theorem dX4_envies_40 : decode cX4_envies 40 = .ok (.iconst (-1), 1) := dk_2 (dk_at dksX4_envies_1 17 rfl rfl)
theorem dX4_envies_41 : decode cX4_envies 41 = .ok (.if_icmp .eq 64, 3) := dk_159 0 64 (dk_at dksX4_envies_1 18 rfl rfl)
theorem dX4_envies_44 : decode cX4_envies 44 = .ok (.iload_n 3, 1) := dk_29 (dk_at dksX4_envies_1 21 rfl rfl)
theorem dX4_envies_45 : decode cX4_envies 45 = .ok (.iload_n 1, 1) := dk_27 (dk_at dksX4_envies_1 22 rfl rfl)
theorem dX4_envies_46 : decode cX4_envies 46 = .ok (.if_icmp .eq 53, 3) := dk_159 0 53 (dk_at dksX4_envies_2 0 rfl rfl)
theorem dX4_envies_49 : decode cX4_envies 49 = .ok (.aload_n 0, 1) := dk_42 (dk_at dksX4_envies_2 3 rfl rfl)
theorem dX4_envies_50 : decode cX4_envies 50 = .ok (.getfield 13, 3) := dk_180 0 13 (dk_at dksX4_envies_2 4 rfl rfl)
theorem dX4_envies_53 : decode cX4_envies 53 = .ok (.bipush 35, 2) := dk_16 35 (dk_at dksX4_envies_2 7 rfl rfl)
theorem dX4_envies_55 : decode cX4_envies 55 = .ok (.iload_n 3, 1) := dk_29 (dk_at dksX4_envies_2 9 rfl rfl)
theorem dX4_envies_56 : decode cX4_envies 56 = .ok (.iadd, 1) := dk_96 (dk_at dksX4_envies_2 10 rfl rfl)
theorem dX4_envies_57 : decode cX4_envies 57 = .ok (.iaload, 1) := dk_46 (dk_at dksX4_envies_2 11 rfl rfl)
theorem dX4_envies_58 : decode cX4_envies 58 = .ok (.iconst (-1), 1) := dk_2 (dk_at dksX4_envies_2 12 rfl rfl)
theorem dX4_envies_59 : decode cX4_envies 59 = .ok (.if_icmp .eq 40, 3) := dk_159 0 40 (dk_at dksX4_envies_2 13 rfl rfl)
theorem dX4_envies_62 : decode cX4_envies 62 = .ok (.aload_n 0, 1) := dk_42 (dk_at dksX4_envies_2 16 rfl rfl)
theorem dX4_envies_63 : decode cX4_envies 63 = .ok (.iload_n 1, 1) := dk_27 (dk_at dksX4_envies_2 17 rfl rfl)
theorem dX4_envies_64 : decode cX4_envies 64 = .ok (.aload_n 0, 1) := dk_42 (dk_at dksX4_envies_2 18 rfl rfl)
theorem dX4_envies_65 : decode cX4_envies 65 = .ok (.getfield 13, 3) := dk_180 0 13 (dk_at dksX4_envies_2 19 rfl rfl)
theorem dX4_envies_68 : decode cX4_envies 68 = .ok (.bipush 35, 2) := dk_16 35 (dk_at dksX4_envies_2 22 rfl rfl)
theorem dX4_envies_70 : decode cX4_envies 70 = .ok (.iload_n 3, 1) := dk_29 (dk_at dksX4_envies_3 0 rfl rfl)
theorem dX4_envies_71 : decode cX4_envies 71 = .ok (.iadd, 1) := dk_96 (dk_at dksX4_envies_3 1 rfl rfl)
theorem dX4_envies_72 : decode cX4_envies 72 = .ok (.iaload, 1) := dk_46 (dk_at dksX4_envies_3 2 rfl rfl)
theorem dX4_envies_73 : decode cX4_envies 73 = .ok (.invokevirtual 242, 3) := dk_182 0 242 (dk_at dksX4_envies_3 3 rfl rfl)
theorem dX4_envies_76 : decode cX4_envies 76 = .ok (.aload_n 0, 1) := dk_42 (dk_at dksX4_envies_3 6 rfl rfl)
theorem dX4_envies_77 : decode cX4_envies 77 = .ok (.iload_n 1, 1) := dk_27 (dk_at dksX4_envies_3 7 rfl rfl)
theorem dX4_envies_78 : decode cX4_envies 78 = .ok (.aload_n 0, 1) := dk_42 (dk_at dksX4_envies_3 8 rfl rfl)
theorem dX4_envies_79 : decode cX4_envies 79 = .ok (.getfield 13, 3) := dk_180 0 13 (dk_at dksX4_envies_3 9 rfl rfl)
theorem dX4_envies_82 : decode cX4_envies 82 = .ok (.bipush 35, 2) := dk_16 35 (dk_at dksX4_envies_3 12 rfl rfl)
theorem dX4_envies_84 : decode cX4_envies 84 = .ok (.iload_n 1, 1) := dk_27 (dk_at dksX4_envies_3 14 rfl rfl)
theorem dX4_envies_85 : decode cX4_envies 85 = .ok (.iadd, 1) := dk_96 (dk_at dksX4_envies_3 15 rfl rfl)
theorem dX4_envies_86 : decode cX4_envies 86 = .ok (.iaload, 1) := dk_46 (dk_at dksX4_envies_3 16 rfl rfl)
theorem dX4_envies_87 : decode cX4_envies 87 = .ok (.invokevirtual 242, 3) := dk_182 0 242 (dk_at dksX4_envies_3 17 rfl rfl)
theorem dX4_envies_90 : decode cX4_envies 90 = .ok (.if_icmp .le 9, 3) := dk_164 0 9 (dk_at dksX4_envies_3 20 rfl rfl)
theorem dX4_envies_93 : decode cX4_envies 93 = .ok (.iload_n 2, 1) := dk_28 (dk_at dksX4_envies_3 23 rfl rfl)
theorem dX4_envies_94 : decode cX4_envies 94 = .ok (.iconst 1, 1) := dk_4 (dk_at dksX4_envies_4 0 rfl rfl)
theorem dX4_envies_95 : decode cX4_envies 95 = .ok (.iload_n 3, 1) := dk_29 (dk_at dksX4_envies_4 1 rfl rfl)
theorem dX4_envies_96 : decode cX4_envies 96 = .ok (.ishl, 1) := dk_120 (dk_at dksX4_envies_4 2 rfl rfl)
theorem dX4_envies_97 : decode cX4_envies 97 = .ok (.ior, 1) := dk_128 (dk_at dksX4_envies_4 3 rfl rfl)
theorem dX4_envies_98 : decode cX4_envies 98 = .ok (.istore_n 2, 1) := dk_61 (dk_at dksX4_envies_4 4 rfl rfl)
theorem dX4_envies_99 : decode cX4_envies 99 = .ok (.iinc 3 1, 3) := dk_132 3 1 (dk_at dksX4_envies_4 5 rfl rfl)
theorem dX4_envies_102 : decode cX4_envies 102 = .ok (.goto (-81), 3) := dk_167 255 175 (dk_at dksX4_envies_4 8 rfl rfl)
theorem dX4_envies_105 : decode cX4_envies 105 = .ok (.iload_n 2, 1) := dk_28 (dk_at dksX4_envies_4 11 rfl rfl)
theorem dX4_envies_106 : decode cX4_envies 106 = .ok (.ireturn, 1) := dk_172 (dk_at dksX4_envies_4 12 rfl rfl)
abbrev cX4_byRings : ByteArray := prog_11_method_107_code
def yX4_byRings : MethodName := ⟨RX4, "byRings", "(I)I"⟩
def dkwX4_byRings_1 : List UInt8 := [180, 0, 39, 27, 46, 172]
abbrev dktX4_byRings_1 : List UInt8 := dkwX4_byRings_1 ++ []
def dkwX4_byRings_0 : List UInt8 := [42, 3, 181, 0, 1, 42, 27, 133, 182, 0, 229, 154, 0, 6, 16, 254, 172, 42, 182, 1, 26, 42]
abbrev dktX4_byRings_0 : List UInt8 := dkwX4_byRings_0 ++ dktX4_byRings_1
theorem dksX4_byRings_0 : cX4_byRings.data.toList.drop 0 = dktX4_byRings_0 := by decide +kernel
theorem dksX4_byRings_1 : cX4_byRings.data.toList.drop 22 = dktX4_byRings_1 := dk_seg dksX4_byRings_0 22 rfl rfl
theorem dX4_byRings_0 : decode cX4_byRings 0 = .ok (.aload_n 0, 1) := dk_42 (dk_at dksX4_byRings_0 0 rfl rfl)
theorem dX4_byRings_1 : decode cX4_byRings 1 = .ok (.iconst 0, 1) := dk_3 (dk_at dksX4_byRings_0 1 rfl rfl)
theorem dX4_byRings_2 : decode cX4_byRings 2 = .ok (.putfield 1, 3) := dk_181 0 1 (dk_at dksX4_byRings_0 2 rfl rfl)
theorem dX4_byRings_5 : decode cX4_byRings 5 = .ok (.aload_n 0, 1) := dk_42 (dk_at dksX4_byRings_0 5 rfl rfl)
theorem dX4_byRings_6 : decode cX4_byRings 6 = .ok (.iload_n 1, 1) := dk_27 (dk_at dksX4_byRings_0 6 rfl rfl)
theorem dX4_byRings_7 : decode cX4_byRings 7 = .ok (.i2l, 1) := dk_133 (dk_at dksX4_byRings_0 7 rfl rfl)
theorem dX4_byRings_8 : decode cX4_byRings 8 = .ok (.invokevirtual 229, 3) := dk_182 0 229 (dk_at dksX4_byRings_0 8 rfl rfl)
theorem dX4_byRings_11 : decode cX4_byRings 11 = .ok (.ifCond .ne 6, 3) := dk_154 0 6 (dk_at dksX4_byRings_0 11 rfl rfl)
theorem dX4_byRings_14 : decode cX4_byRings 14 = .ok (.bipush (-2), 2) := dk_16 254 (dk_at dksX4_byRings_0 14 rfl rfl)
theorem dX4_byRings_16 : decode cX4_byRings 16 = .ok (.ireturn, 1) := dk_172 (dk_at dksX4_byRings_0 16 rfl rfl)
theorem dX4_byRings_17 : decode cX4_byRings 17 = .ok (.aload_n 0, 1) := dk_42 (dk_at dksX4_byRings_0 17 rfl rfl)
theorem dX4_byRings_18 : decode cX4_byRings 18 = .ok (.invokevirtual 282, 3) := dk_182 1 26 (dk_at dksX4_byRings_0 18 rfl rfl)
theorem dX4_byRings_21 : decode cX4_byRings 21 = .ok (.aload_n 0, 1) := dk_42 (dk_at dksX4_byRings_0 21 rfl rfl)
theorem dX4_byRings_22 : decode cX4_byRings 22 = .ok (.getfield 39, 3) := dk_180 0 39 (dk_at dksX4_byRings_1 0 rfl rfl)
theorem dX4_byRings_25 : decode cX4_byRings 25 = .ok (.iload_n 1, 1) := dk_27 (dk_at dksX4_byRings_1 3 rfl rfl)
theorem dX4_byRings_26 : decode cX4_byRings 26 = .ok (.iaload, 1) := dk_46 (dk_at dksX4_byRings_1 4 rfl rfl)
theorem dX4_byRings_27 : decode cX4_byRings 27 = .ok (.ireturn, 1) := dk_172 (dk_at dksX4_byRings_1 5 rfl rfl)
abbrev cX4_ringsMany : ByteArray := prog_11_method_108_code
def yX4_ringsMany : MethodName := ⟨RX4, "ringsMany", "()I"⟩
def dkwX4_ringsMany_0 : List UInt8 := [42, 3, 181, 0, 1, 42, 182, 1, 26, 42, 180, 1, 20, 172]
abbrev dktX4_ringsMany_0 : List UInt8 := dkwX4_ringsMany_0 ++ []
theorem dksX4_ringsMany_0 : cX4_ringsMany.data.toList.drop 0 = dktX4_ringsMany_0 := by decide +kernel
theorem dX4_ringsMany_0 : decode cX4_ringsMany 0 = .ok (.aload_n 0, 1) := dk_42 (dk_at dksX4_ringsMany_0 0 rfl rfl)
theorem dX4_ringsMany_1 : decode cX4_ringsMany 1 = .ok (.iconst 0, 1) := dk_3 (dk_at dksX4_ringsMany_0 1 rfl rfl)
theorem dX4_ringsMany_2 : decode cX4_ringsMany 2 = .ok (.putfield 1, 3) := dk_181 0 1 (dk_at dksX4_ringsMany_0 2 rfl rfl)
theorem dX4_ringsMany_5 : decode cX4_ringsMany 5 = .ok (.aload_n 0, 1) := dk_42 (dk_at dksX4_ringsMany_0 5 rfl rfl)
theorem dX4_ringsMany_6 : decode cX4_ringsMany 6 = .ok (.invokevirtual 282, 3) := dk_182 1 26 (dk_at dksX4_ringsMany_0 6 rfl rfl)
theorem dX4_ringsMany_9 : decode cX4_ringsMany 9 = .ok (.aload_n 0, 1) := dk_42 (dk_at dksX4_ringsMany_0 9 rfl rfl)
theorem dX4_ringsMany_10 : decode cX4_ringsMany 10 = .ok (.getfield 276, 3) := dk_180 1 20 (dk_at dksX4_ringsMany_0 10 rfl rfl)
theorem dX4_ringsMany_13 : decode cX4_ringsMany 13 = .ok (.ireturn, 1) := dk_172 (dk_at dksX4_ringsMany_0 13 rfl rfl)
abbrev cX4_marks : ByteArray := prog_11_method_114_code
def yX4_marks : MethodName := ⟨RX4, "marks", "(I)I"⟩
def dkwX4_marks_1 : List UInt8 := [172]
abbrev dktX4_marks_1 : List UInt8 := dkwX4_marks_1 ++ []
def dkwX4_marks_0 : List UInt8 := [42, 3, 181, 0, 1, 42, 27, 182, 1, 177, 61, 28, 153, 0, 7, 28, 167, 0, 8, 42, 27, 182, 1, 180]
abbrev dktX4_marks_0 : List UInt8 := dkwX4_marks_0 ++ dktX4_marks_1
theorem dksX4_marks_0 : cX4_marks.data.toList.drop 0 = dktX4_marks_0 := by decide +kernel
theorem dksX4_marks_1 : cX4_marks.data.toList.drop 24 = dktX4_marks_1 := dk_seg dksX4_marks_0 24 rfl rfl
theorem dX4_marks_0 : decode cX4_marks 0 = .ok (.aload_n 0, 1) := dk_42 (dk_at dksX4_marks_0 0 rfl rfl)
theorem dX4_marks_1 : decode cX4_marks 1 = .ok (.iconst 0, 1) := dk_3 (dk_at dksX4_marks_0 1 rfl rfl)
theorem dX4_marks_2 : decode cX4_marks 2 = .ok (.putfield 1, 3) := dk_181 0 1 (dk_at dksX4_marks_0 2 rfl rfl)
theorem dX4_marks_5 : decode cX4_marks 5 = .ok (.aload_n 0, 1) := dk_42 (dk_at dksX4_marks_0 5 rfl rfl)
theorem dX4_marks_6 : decode cX4_marks 6 = .ok (.iload_n 1, 1) := dk_27 (dk_at dksX4_marks_0 6 rfl rfl)
theorem dX4_marks_7 : decode cX4_marks 7 = .ok (.invokevirtual 433, 3) := dk_182 1 177 (dk_at dksX4_marks_0 7 rfl rfl)
theorem dX4_marks_10 : decode cX4_marks 10 = .ok (.istore_n 2, 1) := dk_61 (dk_at dksX4_marks_0 10 rfl rfl)
theorem dX4_marks_11 : decode cX4_marks 11 = .ok (.iload_n 2, 1) := dk_28 (dk_at dksX4_marks_0 11 rfl rfl)
theorem dX4_marks_12 : decode cX4_marks 12 = .ok (.ifCond .eq 7, 3) := dk_153 0 7 (dk_at dksX4_marks_0 12 rfl rfl)
theorem dX4_marks_15 : decode cX4_marks 15 = .ok (.iload_n 2, 1) := dk_28 (dk_at dksX4_marks_0 15 rfl rfl)
theorem dX4_marks_16 : decode cX4_marks 16 = .ok (.goto 8, 3) := dk_167 0 8 (dk_at dksX4_marks_0 16 rfl rfl)
theorem dX4_marks_19 : decode cX4_marks 19 = .ok (.aload_n 0, 1) := dk_42 (dk_at dksX4_marks_0 19 rfl rfl)
theorem dX4_marks_20 : decode cX4_marks 20 = .ok (.iload_n 1, 1) := dk_27 (dk_at dksX4_marks_0 20 rfl rfl)
theorem dX4_marks_21 : decode cX4_marks 21 = .ok (.invokevirtual 436, 3) := dk_182 1 180 (dk_at dksX4_marks_0 21 rfl rfl)
theorem dX4_marks_24 : decode cX4_marks 24 = .ok (.ireturn, 1) := dk_172 (dk_at dksX4_marks_1 0 rfl rfl)
abbrev cX4_noMarks : ByteArray := prog_11_method_111_code
def yX4_noMarks : MethodName := ⟨RX4, "noMarks", "(I)I"⟩
def dkwX4_noMarks_4 : List UInt8 := [96, 47, 9, 20, 1, 169, 184, 0, 141, 154, 0, 6, 16, 253, 172, 132, 4, 1, 167, 255, 190, 3, 172]
abbrev dktX4_noMarks_4 : List UInt8 := dkwX4_noMarks_4 ++ []
def dkwX4_noMarks_3 : List UInt8 := [47, 10, 20, 1, 102, 184, 0, 141, 154, 0, 31, 167, 0, 25, 42, 180, 0, 72, 16, 40, 27, 104, 21, 4]
abbrev dktX4_noMarks_3 : List UInt8 := dkwX4_noMarks_3 ++ dktX4_noMarks_4
def dkwX4_noMarks_2 : List UInt8 := [21, 4, 29, 162, 0, 66, 21, 4, 5, 112, 154, 0, 28, 42, 180, 0, 72, 16, 40, 27, 104, 21, 4, 96]
abbrev dktX4_noMarks_2 : List UInt8 := dkwX4_noMarks_2 ++ dktX4_noMarks_3
def dkwX4_noMarks_1 : List UInt8 := [159, 0, 17, 29, 133, 20, 0, 224, 20, 1, 167, 184, 0, 141, 154, 0, 6, 16, 252, 172, 3, 54, 4]
abbrev dktX4_noMarks_1 : List UInt8 := dkwX4_noMarks_1 ++ dktX4_noMarks_2
def dkwX4_noMarks_0 : List UInt8 := [42, 27, 182, 1, 63, 61, 28, 153, 0, 5, 28, 172, 42, 180, 0, 69, 27, 46, 62, 29, 5, 112, 4]
abbrev dktX4_noMarks_0 : List UInt8 := dkwX4_noMarks_0 ++ dktX4_noMarks_1
theorem dksX4_noMarks_0 : cX4_noMarks.data.toList.drop 0 = dktX4_noMarks_0 := by decide +kernel
theorem dksX4_noMarks_1 : cX4_noMarks.data.toList.drop 23 = dktX4_noMarks_1 := dk_seg dksX4_noMarks_0 23 rfl rfl
theorem dksX4_noMarks_2 : cX4_noMarks.data.toList.drop 46 = dktX4_noMarks_2 := dk_seg dksX4_noMarks_1 23 rfl rfl
theorem dksX4_noMarks_3 : cX4_noMarks.data.toList.drop 70 = dktX4_noMarks_3 := dk_seg dksX4_noMarks_2 24 rfl rfl
theorem dksX4_noMarks_4 : cX4_noMarks.data.toList.drop 94 = dktX4_noMarks_4 := dk_seg dksX4_noMarks_3 24 rfl rfl
theorem dX4_noMarks_0 : decode cX4_noMarks 0 = .ok (.aload_n 0, 1) := dk_42 (dk_at dksX4_noMarks_0 0 rfl rfl)
theorem dX4_noMarks_1 : decode cX4_noMarks 1 = .ok (.iload_n 1, 1) := dk_27 (dk_at dksX4_noMarks_0 1 rfl rfl)
theorem dX4_noMarks_2 : decode cX4_noMarks 2 = .ok (.invokevirtual 319, 3) := dk_182 1 63 (dk_at dksX4_noMarks_0 2 rfl rfl)
theorem dX4_noMarks_5 : decode cX4_noMarks 5 = .ok (.istore_n 2, 1) := dk_61 (dk_at dksX4_noMarks_0 5 rfl rfl)
theorem dX4_noMarks_6 : decode cX4_noMarks 6 = .ok (.iload_n 2, 1) := dk_28 (dk_at dksX4_noMarks_0 6 rfl rfl)
theorem dX4_noMarks_7 : decode cX4_noMarks 7 = .ok (.ifCond .eq 5, 3) := dk_153 0 5 (dk_at dksX4_noMarks_0 7 rfl rfl)
theorem dX4_noMarks_10 : decode cX4_noMarks 10 = .ok (.iload_n 2, 1) := dk_28 (dk_at dksX4_noMarks_0 10 rfl rfl)
theorem dX4_noMarks_11 : decode cX4_noMarks 11 = .ok (.ireturn, 1) := dk_172 (dk_at dksX4_noMarks_0 11 rfl rfl)
theorem dX4_noMarks_12 : decode cX4_noMarks 12 = .ok (.aload_n 0, 1) := dk_42 (dk_at dksX4_noMarks_0 12 rfl rfl)
theorem dX4_noMarks_13 : decode cX4_noMarks 13 = .ok (.getfield 69, 3) := dk_180 0 69 (dk_at dksX4_noMarks_0 13 rfl rfl)
theorem dX4_noMarks_16 : decode cX4_noMarks 16 = .ok (.iload_n 1, 1) := dk_27 (dk_at dksX4_noMarks_0 16 rfl rfl)
theorem dX4_noMarks_17 : decode cX4_noMarks 17 = .ok (.iaload, 1) := dk_46 (dk_at dksX4_noMarks_0 17 rfl rfl)
theorem dX4_noMarks_18 : decode cX4_noMarks 18 = .ok (.istore_n 3, 1) := dk_62 (dk_at dksX4_noMarks_0 18 rfl rfl)
theorem dX4_noMarks_19 : decode cX4_noMarks 19 = .ok (.iload_n 3, 1) := dk_29 (dk_at dksX4_noMarks_0 19 rfl rfl)
theorem dX4_noMarks_20 : decode cX4_noMarks 20 = .ok (.iconst 2, 1) := dk_5 (dk_at dksX4_noMarks_0 20 rfl rfl)
theorem dX4_noMarks_21 : decode cX4_noMarks 21 = .ok (.irem, 1) := dk_112 (dk_at dksX4_noMarks_0 21 rfl rfl)
theorem dX4_noMarks_22 : decode cX4_noMarks 22 = .ok (.iconst 1, 1) := dk_4 (dk_at dksX4_noMarks_0 22 rfl rfl)
theorem dX4_noMarks_23 : decode cX4_noMarks 23 = .ok (.if_icmp .eq 17, 3) := dk_159 0 17 (dk_at dksX4_noMarks_1 0 rfl rfl)
theorem dX4_noMarks_26 : decode cX4_noMarks 26 = .ok (.iload_n 3, 1) := dk_29 (dk_at dksX4_noMarks_1 3 rfl rfl)
theorem dX4_noMarks_27 : decode cX4_noMarks 27 = .ok (.i2l, 1) := dk_133 (dk_at dksX4_noMarks_1 4 rfl rfl)
theorem dX4_noMarks_28 : decode cX4_noMarks 28 = .ok (.ldc2_w 224, 3) := dk_20 0 224 (dk_at dksX4_noMarks_1 5 rfl rfl)
theorem dX4_noMarks_31 : decode cX4_noMarks 31 = .ok (.ldc2_w 423, 3) := dk_20 1 167 (dk_at dksX4_noMarks_1 8 rfl rfl)
theorem dX4_noMarks_34 : decode cX4_noMarks 34 = .ok (.invokestatic 141, 3) := dk_184 0 141 (dk_at dksX4_noMarks_1 11 rfl rfl)
theorem dX4_noMarks_37 : decode cX4_noMarks 37 = .ok (.ifCond .ne 6, 3) := dk_154 0 6 (dk_at dksX4_noMarks_1 14 rfl rfl)
theorem dX4_noMarks_40 : decode cX4_noMarks 40 = .ok (.bipush (-4), 2) := dk_16 252 (dk_at dksX4_noMarks_1 17 rfl rfl)
theorem dX4_noMarks_42 : decode cX4_noMarks 42 = .ok (.ireturn, 1) := dk_172 (dk_at dksX4_noMarks_1 19 rfl rfl)
theorem dX4_noMarks_43 : decode cX4_noMarks 43 = .ok (.iconst 0, 1) := dk_3 (dk_at dksX4_noMarks_1 20 rfl rfl)
theorem dX4_noMarks_44 : decode cX4_noMarks 44 = .ok (.istore 4, 2) := dk_54 4 (dk_at dksX4_noMarks_1 21 rfl rfl)
theorem dX4_noMarks_46 : decode cX4_noMarks 46 = .ok (.iload 4, 2) := dk_21 4 (dk_at dksX4_noMarks_2 0 rfl rfl)
theorem dX4_noMarks_48 : decode cX4_noMarks 48 = .ok (.iload_n 3, 1) := dk_29 (dk_at dksX4_noMarks_2 2 rfl rfl)
theorem dX4_noMarks_49 : decode cX4_noMarks 49 = .ok (.if_icmp .ge 66, 3) := dk_162 0 66 (dk_at dksX4_noMarks_2 3 rfl rfl)
theorem dX4_noMarks_52 : decode cX4_noMarks 52 = .ok (.iload 4, 2) := dk_21 4 (dk_at dksX4_noMarks_2 6 rfl rfl)
theorem dX4_noMarks_54 : decode cX4_noMarks 54 = .ok (.iconst 2, 1) := dk_5 (dk_at dksX4_noMarks_2 8 rfl rfl)
theorem dX4_noMarks_55 : decode cX4_noMarks 55 = .ok (.irem, 1) := dk_112 (dk_at dksX4_noMarks_2 9 rfl rfl)
theorem dX4_noMarks_56 : decode cX4_noMarks 56 = .ok (.ifCond .ne 28, 3) := dk_154 0 28 (dk_at dksX4_noMarks_2 10 rfl rfl)
theorem dX4_noMarks_59 : decode cX4_noMarks 59 = .ok (.aload_n 0, 1) := dk_42 (dk_at dksX4_noMarks_2 13 rfl rfl)
theorem dX4_noMarks_60 : decode cX4_noMarks 60 = .ok (.getfield 72, 3) := dk_180 0 72 (dk_at dksX4_noMarks_2 14 rfl rfl)
theorem dX4_noMarks_63 : decode cX4_noMarks 63 = .ok (.bipush 40, 2) := dk_16 40 (dk_at dksX4_noMarks_2 17 rfl rfl)
theorem dX4_noMarks_65 : decode cX4_noMarks 65 = .ok (.iload_n 1, 1) := dk_27 (dk_at dksX4_noMarks_2 19 rfl rfl)
theorem dX4_noMarks_66 : decode cX4_noMarks 66 = .ok (.imul, 1) := dk_104 (dk_at dksX4_noMarks_2 20 rfl rfl)
theorem dX4_noMarks_67 : decode cX4_noMarks 67 = .ok (.iload 4, 2) := dk_21 4 (dk_at dksX4_noMarks_2 21 rfl rfl)
theorem dX4_noMarks_69 : decode cX4_noMarks 69 = .ok (.iadd, 1) := dk_96 (dk_at dksX4_noMarks_2 23 rfl rfl)
theorem dX4_noMarks_70 : decode cX4_noMarks 70 = .ok (.laload, 1) := dk_47 (dk_at dksX4_noMarks_3 0 rfl rfl)
theorem dX4_noMarks_71 : decode cX4_noMarks 71 = .ok (.lconst 1, 1) := dk_10 (dk_at dksX4_noMarks_3 1 rfl rfl)
theorem dX4_noMarks_72 : decode cX4_noMarks 72 = .ok (.ldc2_w 358, 3) := dk_20 1 102 (dk_at dksX4_noMarks_3 2 rfl rfl)
theorem dX4_noMarks_75 : decode cX4_noMarks 75 = .ok (.invokestatic 141, 3) := dk_184 0 141 (dk_at dksX4_noMarks_3 5 rfl rfl)
theorem dX4_noMarks_78 : decode cX4_noMarks 78 = .ok (.ifCond .ne 31, 3) := dk_154 0 31 (dk_at dksX4_noMarks_3 8 rfl rfl)
theorem dX4_noMarks_81 : decode cX4_noMarks 81 = .ok (.goto 25, 3) := dk_167 0 25 (dk_at dksX4_noMarks_3 11 rfl rfl)
theorem dX4_noMarks_84 : decode cX4_noMarks 84 = .ok (.aload_n 0, 1) := dk_42 (dk_at dksX4_noMarks_3 14 rfl rfl)
theorem dX4_noMarks_85 : decode cX4_noMarks 85 = .ok (.getfield 72, 3) := dk_180 0 72 (dk_at dksX4_noMarks_3 15 rfl rfl)
theorem dX4_noMarks_88 : decode cX4_noMarks 88 = .ok (.bipush 40, 2) := dk_16 40 (dk_at dksX4_noMarks_3 18 rfl rfl)
theorem dX4_noMarks_90 : decode cX4_noMarks 90 = .ok (.iload_n 1, 1) := dk_27 (dk_at dksX4_noMarks_3 20 rfl rfl)
theorem dX4_noMarks_91 : decode cX4_noMarks 91 = .ok (.imul, 1) := dk_104 (dk_at dksX4_noMarks_3 21 rfl rfl)
theorem dX4_noMarks_92 : decode cX4_noMarks 92 = .ok (.iload 4, 2) := dk_21 4 (dk_at dksX4_noMarks_3 22 rfl rfl)
theorem dX4_noMarks_94 : decode cX4_noMarks 94 = .ok (.iadd, 1) := dk_96 (dk_at dksX4_noMarks_4 0 rfl rfl)
theorem dX4_noMarks_95 : decode cX4_noMarks 95 = .ok (.laload, 1) := dk_47 (dk_at dksX4_noMarks_4 1 rfl rfl)
theorem dX4_noMarks_96 : decode cX4_noMarks 96 = .ok (.lconst 0, 1) := dk_9 (dk_at dksX4_noMarks_4 2 rfl rfl)
theorem dX4_noMarks_97 : decode cX4_noMarks 97 = .ok (.ldc2_w 425, 3) := dk_20 1 169 (dk_at dksX4_noMarks_4 3 rfl rfl)
theorem dX4_noMarks_100 : decode cX4_noMarks 100 = .ok (.invokestatic 141, 3) := dk_184 0 141 (dk_at dksX4_noMarks_4 6 rfl rfl)
theorem dX4_noMarks_103 : decode cX4_noMarks 103 = .ok (.ifCond .ne 6, 3) := dk_154 0 6 (dk_at dksX4_noMarks_4 9 rfl rfl)
theorem dX4_noMarks_106 : decode cX4_noMarks 106 = .ok (.bipush (-3), 2) := dk_16 253 (dk_at dksX4_noMarks_4 12 rfl rfl)
theorem dX4_noMarks_108 : decode cX4_noMarks 108 = .ok (.ireturn, 1) := dk_172 (dk_at dksX4_noMarks_4 14 rfl rfl)
theorem dX4_noMarks_109 : decode cX4_noMarks 109 = .ok (.iinc 4 1, 3) := dk_132 4 1 (dk_at dksX4_noMarks_4 15 rfl rfl)
theorem dX4_noMarks_112 : decode cX4_noMarks 112 = .ok (.goto (-66), 3) := dk_167 255 190 (dk_at dksX4_noMarks_4 18 rfl rfl)
theorem dX4_noMarks_115 : decode cX4_noMarks 115 = .ok (.iconst 0, 1) := dk_3 (dk_at dksX4_noMarks_4 21 rfl rfl)
theorem dX4_noMarks_116 : decode cX4_noMarks 116 = .ok (.ireturn, 1) := dk_172 (dk_at dksX4_noMarks_4 22 rfl rfl)
abbrev cX4_laysFits : ByteArray := prog_11_method_113_code
def yX4_laysFits : MethodName := ⟨RX4, "laysFits", "(I)I"⟩
def dkwX4_laysFits_3 : List UInt8 := [167, 0, 4, 3, 96, 61, 132, 3, 1, 167, 255, 185, 28, 172]
abbrev dktX4_laysFits_3 : List UInt8 := dkwX4_laysFits_3 ++ []
def dkwX4_laysFits_2 : List UInt8 := [29, 182, 1, 174, 126, 84, 132, 4, 2, 167, 255, 225, 28, 42, 180, 0, 63, 29, 51, 153, 0, 7, 4]
abbrev dktX4_laysFits_2 : List UInt8 := dkwX4_laysFits_2 ++ dktX4_laysFits_3
def dkwX4_laysFits_1 : List UInt8 := [54, 4, 21, 4, 42, 180, 0, 69, 27, 46, 162, 0, 26, 42, 180, 0, 63, 29, 92, 51, 42, 27, 21, 4]
abbrev dktX4_laysFits_1 : List UInt8 := dkwX4_laysFits_1 ++ dktX4_laysFits_2
def dkwX4_laysFits_0 : List UInt8 := [42, 182, 1, 171, 3, 61, 3, 62, 29, 17, 3, 232, 162, 0, 70, 42, 180, 0, 63, 29, 4, 84, 3]
abbrev dktX4_laysFits_0 : List UInt8 := dkwX4_laysFits_0 ++ dktX4_laysFits_1
theorem dksX4_laysFits_0 : cX4_laysFits.data.toList.drop 0 = dktX4_laysFits_0 := by decide +kernel
theorem dksX4_laysFits_1 : cX4_laysFits.data.toList.drop 23 = dktX4_laysFits_1 := dk_seg dksX4_laysFits_0 23 rfl rfl
theorem dksX4_laysFits_2 : cX4_laysFits.data.toList.drop 47 = dktX4_laysFits_2 := dk_seg dksX4_laysFits_1 24 rfl rfl
theorem dksX4_laysFits_3 : cX4_laysFits.data.toList.drop 70 = dktX4_laysFits_3 := dk_seg dksX4_laysFits_2 23 rfl rfl
theorem dX4_laysFits_0 : decode cX4_laysFits 0 = .ok (.aload_n 0, 1) := dk_42 (dk_at dksX4_laysFits_0 0 rfl rfl)
theorem dX4_laysFits_1 : decode cX4_laysFits 1 = .ok (.invokevirtual 427, 3) := dk_182 1 171 (dk_at dksX4_laysFits_0 1 rfl rfl)
theorem dX4_laysFits_4 : decode cX4_laysFits 4 = .ok (.iconst 0, 1) := dk_3 (dk_at dksX4_laysFits_0 4 rfl rfl)
theorem dX4_laysFits_5 : decode cX4_laysFits 5 = .ok (.istore_n 2, 1) := dk_61 (dk_at dksX4_laysFits_0 5 rfl rfl)
theorem dX4_laysFits_6 : decode cX4_laysFits 6 = .ok (.iconst 0, 1) := dk_3 (dk_at dksX4_laysFits_0 6 rfl rfl)
theorem dX4_laysFits_7 : decode cX4_laysFits 7 = .ok (.istore_n 3, 1) := dk_62 (dk_at dksX4_laysFits_0 7 rfl rfl)
theorem dX4_laysFits_8 : decode cX4_laysFits 8 = .ok (.iload_n 3, 1) := dk_29 (dk_at dksX4_laysFits_0 8 rfl rfl)
theorem dX4_laysFits_9 : decode cX4_laysFits 9 = .ok (.sipush 1000, 3) := dk_17 3 232 (dk_at dksX4_laysFits_0 9 rfl rfl)
theorem dX4_laysFits_12 : decode cX4_laysFits 12 = .ok (.if_icmp .ge 70, 3) := dk_162 0 70 (dk_at dksX4_laysFits_0 12 rfl rfl)
theorem dX4_laysFits_15 : decode cX4_laysFits 15 = .ok (.aload_n 0, 1) := dk_42 (dk_at dksX4_laysFits_0 15 rfl rfl)
theorem dX4_laysFits_16 : decode cX4_laysFits 16 = .ok (.getfield 63, 3) := dk_180 0 63 (dk_at dksX4_laysFits_0 16 rfl rfl)
theorem dX4_laysFits_19 : decode cX4_laysFits 19 = .ok (.iload_n 3, 1) := dk_29 (dk_at dksX4_laysFits_0 19 rfl rfl)
theorem dX4_laysFits_20 : decode cX4_laysFits 20 = .ok (.iconst 1, 1) := dk_4 (dk_at dksX4_laysFits_0 20 rfl rfl)
theorem dX4_laysFits_21 : decode cX4_laysFits 21 = .ok (.bastore, 1) := dk_84 (dk_at dksX4_laysFits_0 21 rfl rfl)
theorem dX4_laysFits_22 : decode cX4_laysFits 22 = .ok (.iconst 0, 1) := dk_3 (dk_at dksX4_laysFits_0 22 rfl rfl)
theorem dX4_laysFits_23 : decode cX4_laysFits 23 = .ok (.istore 4, 2) := dk_54 4 (dk_at dksX4_laysFits_1 0 rfl rfl)
theorem dX4_laysFits_25 : decode cX4_laysFits 25 = .ok (.iload 4, 2) := dk_21 4 (dk_at dksX4_laysFits_1 2 rfl rfl)
theorem dX4_laysFits_27 : decode cX4_laysFits 27 = .ok (.aload_n 0, 1) := dk_42 (dk_at dksX4_laysFits_1 4 rfl rfl)
theorem dX4_laysFits_28 : decode cX4_laysFits 28 = .ok (.getfield 69, 3) := dk_180 0 69 (dk_at dksX4_laysFits_1 5 rfl rfl)
theorem dX4_laysFits_31 : decode cX4_laysFits 31 = .ok (.iload_n 1, 1) := dk_27 (dk_at dksX4_laysFits_1 8 rfl rfl)
theorem dX4_laysFits_32 : decode cX4_laysFits 32 = .ok (.iaload, 1) := dk_46 (dk_at dksX4_laysFits_1 9 rfl rfl)
theorem dX4_laysFits_33 : decode cX4_laysFits 33 = .ok (.if_icmp .ge 26, 3) := dk_162 0 26 (dk_at dksX4_laysFits_1 10 rfl rfl)
theorem dX4_laysFits_36 : decode cX4_laysFits 36 = .ok (.aload_n 0, 1) := dk_42 (dk_at dksX4_laysFits_1 13 rfl rfl)
theorem dX4_laysFits_37 : decode cX4_laysFits 37 = .ok (.getfield 63, 3) := dk_180 0 63 (dk_at dksX4_laysFits_1 14 rfl rfl)
theorem dX4_laysFits_40 : decode cX4_laysFits 40 = .ok (.iload_n 3, 1) := dk_29 (dk_at dksX4_laysFits_1 17 rfl rfl)
theorem dX4_laysFits_41 : decode cX4_laysFits 41 = .ok (.dup2, 1) := dk_92 (dk_at dksX4_laysFits_1 18 rfl rfl)
theorem dX4_laysFits_42 : decode cX4_laysFits 42 = .ok (.baload, 1) := dk_51 (dk_at dksX4_laysFits_1 19 rfl rfl)
theorem dX4_laysFits_43 : decode cX4_laysFits 43 = .ok (.aload_n 0, 1) := dk_42 (dk_at dksX4_laysFits_1 20 rfl rfl)
theorem dX4_laysFits_44 : decode cX4_laysFits 44 = .ok (.iload_n 1, 1) := dk_27 (dk_at dksX4_laysFits_1 21 rfl rfl)
theorem dX4_laysFits_45 : decode cX4_laysFits 45 = .ok (.iload 4, 2) := dk_21 4 (dk_at dksX4_laysFits_1 22 rfl rfl)
theorem dX4_laysFits_47 : decode cX4_laysFits 47 = .ok (.iload_n 3, 1) := dk_29 (dk_at dksX4_laysFits_2 0 rfl rfl)
theorem dX4_laysFits_48 : decode cX4_laysFits 48 = .ok (.invokevirtual 430, 3) := dk_182 1 174 (dk_at dksX4_laysFits_2 1 rfl rfl)
theorem dX4_laysFits_51 : decode cX4_laysFits 51 = .ok (.iand, 1) := dk_126 (dk_at dksX4_laysFits_2 4 rfl rfl)
theorem dX4_laysFits_52 : decode cX4_laysFits 52 = .ok (.bastore, 1) := dk_84 (dk_at dksX4_laysFits_2 5 rfl rfl)
theorem dX4_laysFits_53 : decode cX4_laysFits 53 = .ok (.iinc 4 2, 3) := dk_132 4 2 (dk_at dksX4_laysFits_2 6 rfl rfl)
theorem dX4_laysFits_56 : decode cX4_laysFits 56 = .ok (.goto (-31), 3) := dk_167 255 225 (dk_at dksX4_laysFits_2 9 rfl rfl)
theorem dX4_laysFits_59 : decode cX4_laysFits 59 = .ok (.iload_n 2, 1) := dk_28 (dk_at dksX4_laysFits_2 12 rfl rfl)
theorem dX4_laysFits_60 : decode cX4_laysFits 60 = .ok (.aload_n 0, 1) := dk_42 (dk_at dksX4_laysFits_2 13 rfl rfl)
theorem dX4_laysFits_61 : decode cX4_laysFits 61 = .ok (.getfield 63, 3) := dk_180 0 63 (dk_at dksX4_laysFits_2 14 rfl rfl)
theorem dX4_laysFits_64 : decode cX4_laysFits 64 = .ok (.iload_n 3, 1) := dk_29 (dk_at dksX4_laysFits_2 17 rfl rfl)
theorem dX4_laysFits_65 : decode cX4_laysFits 65 = .ok (.baload, 1) := dk_51 (dk_at dksX4_laysFits_2 18 rfl rfl)
theorem dX4_laysFits_66 : decode cX4_laysFits 66 = .ok (.ifCond .eq 7, 3) := dk_153 0 7 (dk_at dksX4_laysFits_2 19 rfl rfl)
theorem dX4_laysFits_69 : decode cX4_laysFits 69 = .ok (.iconst 1, 1) := dk_4 (dk_at dksX4_laysFits_2 22 rfl rfl)
theorem dX4_laysFits_70 : decode cX4_laysFits 70 = .ok (.goto 4, 3) := dk_167 0 4 (dk_at dksX4_laysFits_3 0 rfl rfl)
theorem dX4_laysFits_73 : decode cX4_laysFits 73 = .ok (.iconst 0, 1) := dk_3 (dk_at dksX4_laysFits_3 3 rfl rfl)
theorem dX4_laysFits_74 : decode cX4_laysFits 74 = .ok (.iadd, 1) := dk_96 (dk_at dksX4_laysFits_3 4 rfl rfl)
theorem dX4_laysFits_75 : decode cX4_laysFits 75 = .ok (.istore_n 2, 1) := dk_61 (dk_at dksX4_laysFits_3 5 rfl rfl)
theorem dX4_laysFits_76 : decode cX4_laysFits 76 = .ok (.iinc 3 1, 3) := dk_132 3 1 (dk_at dksX4_laysFits_3 6 rfl rfl)
theorem dX4_laysFits_79 : decode cX4_laysFits 79 = .ok (.goto (-71), 3) := dk_167 255 185 (dk_at dksX4_laysFits_3 9 rfl rfl)
theorem dX4_laysFits_82 : decode cX4_laysFits 82 = .ok (.iload_n 2, 1) := dk_28 (dk_at dksX4_laysFits_3 12 rfl rfl)
theorem dX4_laysFits_83 : decode cX4_laysFits 83 = .ok (.ireturn, 1) := dk_172 (dk_at dksX4_laysFits_3 13 rfl rfl)
abbrev cX4_laysDepths : ByteArray := prog_11_method_110_code
def yX4_laysDepths : MethodName := ⟨RX4, "laysDepths", "()V"⟩
def dkwX4_laysDepths_4 : List UInt8 := [167, 255, 170, 177]
abbrev dktX4_laysDepths_4 : List UInt8 := dkwX4_laysDepths_4 ++ []
def dkwX4_laysDepths_3 : List UInt8 := [16, 42, 96, 46, 21, 5, 96, 182, 0, 235, 184, 0, 245, 54, 4, 132, 5, 1, 167, 255, 197, 132, 3, 1]
abbrev dktX4_laysDepths_3 : List UInt8 := dkwX4_laysDepths_3 ++ dktX4_laysDepths_4
def dkwX4_laysDepths_2 : List UInt8 := [96, 21, 4, 79, 21, 4, 42, 28, 29, 96, 42, 180, 0, 13, 16, 43, 46, 21, 4, 42, 180, 0, 13, 27]
abbrev dktX4_laysDepths_2 : List UInt8 := dkwX4_laysDepths_2 ++ dktX4_laysDepths_3
def dkwX4_laysDepths_1 : List UInt8 := [96, 46, 54, 4, 3, 54, 5, 21, 5, 16, 60, 163, 0, 58, 42, 180, 0, 56, 16, 61, 29, 104, 21, 5]
abbrev dktX4_laysDepths_1 : List UInt8 := dkwX4_laysDepths_1 ++ dktX4_laysDepths_2
def dkwX4_laysDepths_0 : List UInt8 := [16, 23, 60, 42, 182, 1, 164, 61, 3, 62, 29, 17, 3, 232, 162, 0, 85, 42, 180, 0, 13, 27, 16, 41]
abbrev dktX4_laysDepths_0 : List UInt8 := dkwX4_laysDepths_0 ++ dktX4_laysDepths_1
theorem dksX4_laysDepths_0 : cX4_laysDepths.data.toList.drop 0 = dktX4_laysDepths_0 := by decide +kernel
theorem dksX4_laysDepths_1 : cX4_laysDepths.data.toList.drop 24 = dktX4_laysDepths_1 := dk_seg dksX4_laysDepths_0 24 rfl rfl
theorem dksX4_laysDepths_2 : cX4_laysDepths.data.toList.drop 48 = dktX4_laysDepths_2 := dk_seg dksX4_laysDepths_1 24 rfl rfl
theorem dksX4_laysDepths_3 : cX4_laysDepths.data.toList.drop 72 = dktX4_laysDepths_3 := dk_seg dksX4_laysDepths_2 24 rfl rfl
theorem dksX4_laysDepths_4 : cX4_laysDepths.data.toList.drop 96 = dktX4_laysDepths_4 := dk_seg dksX4_laysDepths_3 24 rfl rfl
theorem dX4_laysDepths_0 : decode cX4_laysDepths 0 = .ok (.bipush 23, 2) := dk_16 23 (dk_at dksX4_laysDepths_0 0 rfl rfl)
theorem dX4_laysDepths_2 : decode cX4_laysDepths 2 = .ok (.istore_n 1, 1) := dk_60 (dk_at dksX4_laysDepths_0 2 rfl rfl)
theorem dX4_laysDepths_3 : decode cX4_laysDepths 3 = .ok (.aload_n 0, 1) := dk_42 (dk_at dksX4_laysDepths_0 3 rfl rfl)
theorem dX4_laysDepths_4 : decode cX4_laysDepths 4 = .ok (.invokevirtual 420, 3) := dk_182 1 164 (dk_at dksX4_laysDepths_0 4 rfl rfl)
theorem dX4_laysDepths_7 : decode cX4_laysDepths 7 = .ok (.istore_n 2, 1) := dk_61 (dk_at dksX4_laysDepths_0 7 rfl rfl)
theorem dX4_laysDepths_8 : decode cX4_laysDepths 8 = .ok (.iconst 0, 1) := dk_3 (dk_at dksX4_laysDepths_0 8 rfl rfl)
theorem dX4_laysDepths_9 : decode cX4_laysDepths 9 = .ok (.istore_n 3, 1) := dk_62 (dk_at dksX4_laysDepths_0 9 rfl rfl)
theorem dX4_laysDepths_10 : decode cX4_laysDepths 10 = .ok (.iload_n 3, 1) := dk_29 (dk_at dksX4_laysDepths_0 10 rfl rfl)
theorem dX4_laysDepths_11 : decode cX4_laysDepths 11 = .ok (.sipush 1000, 3) := dk_17 3 232 (dk_at dksX4_laysDepths_0 11 rfl rfl)
theorem dX4_laysDepths_14 : decode cX4_laysDepths 14 = .ok (.if_icmp .ge 85, 3) := dk_162 0 85 (dk_at dksX4_laysDepths_0 14 rfl rfl)
theorem dX4_laysDepths_17 : decode cX4_laysDepths 17 = .ok (.aload_n 0, 1) := dk_42 (dk_at dksX4_laysDepths_0 17 rfl rfl)
theorem dX4_laysDepths_18 : decode cX4_laysDepths 18 = .ok (.getfield 13, 3) := dk_180 0 13 (dk_at dksX4_laysDepths_0 18 rfl rfl)
theorem dX4_laysDepths_21 : decode cX4_laysDepths 21 = .ok (.iload_n 1, 1) := dk_27 (dk_at dksX4_laysDepths_0 21 rfl rfl)
theorem dX4_laysDepths_22 : decode cX4_laysDepths 22 = .ok (.bipush 41, 2) := dk_16 41 (dk_at dksX4_laysDepths_0 22 rfl rfl)
theorem dX4_laysDepths_24 : decode cX4_laysDepths 24 = .ok (.iadd, 1) := dk_96 (dk_at dksX4_laysDepths_1 0 rfl rfl)
theorem dX4_laysDepths_25 : decode cX4_laysDepths 25 = .ok (.iaload, 1) := dk_46 (dk_at dksX4_laysDepths_1 1 rfl rfl)
theorem dX4_laysDepths_26 : decode cX4_laysDepths 26 = .ok (.istore 4, 2) := dk_54 4 (dk_at dksX4_laysDepths_1 2 rfl rfl)
theorem dX4_laysDepths_28 : decode cX4_laysDepths 28 = .ok (.iconst 0, 1) := dk_3 (dk_at dksX4_laysDepths_1 4 rfl rfl)
theorem dX4_laysDepths_29 : decode cX4_laysDepths 29 = .ok (.istore 5, 2) := dk_54 5 (dk_at dksX4_laysDepths_1 5 rfl rfl)
theorem dX4_laysDepths_31 : decode cX4_laysDepths 31 = .ok (.iload 5, 2) := dk_21 5 (dk_at dksX4_laysDepths_1 7 rfl rfl)
theorem dX4_laysDepths_33 : decode cX4_laysDepths 33 = .ok (.bipush 60, 2) := dk_16 60 (dk_at dksX4_laysDepths_1 9 rfl rfl)
theorem dX4_laysDepths_35 : decode cX4_laysDepths 35 = .ok (.if_icmp .gt 58, 3) := dk_163 0 58 (dk_at dksX4_laysDepths_1 11 rfl rfl)
theorem dX4_laysDepths_38 : decode cX4_laysDepths 38 = .ok (.aload_n 0, 1) := dk_42 (dk_at dksX4_laysDepths_1 14 rfl rfl)
theorem dX4_laysDepths_39 : decode cX4_laysDepths 39 = .ok (.getfield 56, 3) := dk_180 0 56 (dk_at dksX4_laysDepths_1 15 rfl rfl)
theorem dX4_laysDepths_42 : decode cX4_laysDepths 42 = .ok (.bipush 61, 2) := dk_16 61 (dk_at dksX4_laysDepths_1 18 rfl rfl)
theorem dX4_laysDepths_44 : decode cX4_laysDepths 44 = .ok (.iload_n 3, 1) := dk_29 (dk_at dksX4_laysDepths_1 20 rfl rfl)
theorem dX4_laysDepths_45 : decode cX4_laysDepths 45 = .ok (.imul, 1) := dk_104 (dk_at dksX4_laysDepths_1 21 rfl rfl)
theorem dX4_laysDepths_46 : decode cX4_laysDepths 46 = .ok (.iload 5, 2) := dk_21 5 (dk_at dksX4_laysDepths_1 22 rfl rfl)
theorem dX4_laysDepths_48 : decode cX4_laysDepths 48 = .ok (.iadd, 1) := dk_96 (dk_at dksX4_laysDepths_2 0 rfl rfl)
theorem dX4_laysDepths_49 : decode cX4_laysDepths 49 = .ok (.iload 4, 2) := dk_21 4 (dk_at dksX4_laysDepths_2 1 rfl rfl)
theorem dX4_laysDepths_51 : decode cX4_laysDepths 51 = .ok (.iastore, 1) := dk_79 (dk_at dksX4_laysDepths_2 3 rfl rfl)
theorem dX4_laysDepths_52 : decode cX4_laysDepths 52 = .ok (.iload 4, 2) := dk_21 4 (dk_at dksX4_laysDepths_2 4 rfl rfl)
theorem dX4_laysDepths_54 : decode cX4_laysDepths 54 = .ok (.aload_n 0, 1) := dk_42 (dk_at dksX4_laysDepths_2 6 rfl rfl)
theorem dX4_laysDepths_55 : decode cX4_laysDepths 55 = .ok (.iload_n 2, 1) := dk_28 (dk_at dksX4_laysDepths_2 7 rfl rfl)
theorem dX4_laysDepths_56 : decode cX4_laysDepths 56 = .ok (.iload_n 3, 1) := dk_29 (dk_at dksX4_laysDepths_2 8 rfl rfl)
theorem dX4_laysDepths_57 : decode cX4_laysDepths 57 = .ok (.iadd, 1) := dk_96 (dk_at dksX4_laysDepths_2 9 rfl rfl)
theorem dX4_laysDepths_58 : decode cX4_laysDepths 58 = .ok (.aload_n 0, 1) := dk_42 (dk_at dksX4_laysDepths_2 10 rfl rfl)
theorem dX4_laysDepths_59 : decode cX4_laysDepths 59 = .ok (.getfield 13, 3) := dk_180 0 13 (dk_at dksX4_laysDepths_2 11 rfl rfl)
theorem dX4_laysDepths_62 : decode cX4_laysDepths 62 = .ok (.bipush 43, 2) := dk_16 43 (dk_at dksX4_laysDepths_2 14 rfl rfl)
theorem dX4_laysDepths_64 : decode cX4_laysDepths 64 = .ok (.iaload, 1) := dk_46 (dk_at dksX4_laysDepths_2 16 rfl rfl)
theorem dX4_laysDepths_65 : decode cX4_laysDepths 65 = .ok (.iload 4, 2) := dk_21 4 (dk_at dksX4_laysDepths_2 17 rfl rfl)
theorem dX4_laysDepths_67 : decode cX4_laysDepths 67 = .ok (.aload_n 0, 1) := dk_42 (dk_at dksX4_laysDepths_2 19 rfl rfl)
theorem dX4_laysDepths_68 : decode cX4_laysDepths 68 = .ok (.getfield 13, 3) := dk_180 0 13 (dk_at dksX4_laysDepths_2 20 rfl rfl)
theorem dX4_laysDepths_71 : decode cX4_laysDepths 71 = .ok (.iload_n 1, 1) := dk_27 (dk_at dksX4_laysDepths_2 23 rfl rfl)
theorem dX4_laysDepths_72 : decode cX4_laysDepths 72 = .ok (.bipush 42, 2) := dk_16 42 (dk_at dksX4_laysDepths_3 0 rfl rfl)
theorem dX4_laysDepths_74 : decode cX4_laysDepths 74 = .ok (.iadd, 1) := dk_96 (dk_at dksX4_laysDepths_3 2 rfl rfl)
theorem dX4_laysDepths_75 : decode cX4_laysDepths 75 = .ok (.iaload, 1) := dk_46 (dk_at dksX4_laysDepths_3 3 rfl rfl)
theorem dX4_laysDepths_76 : decode cX4_laysDepths 76 = .ok (.iload 5, 2) := dk_21 5 (dk_at dksX4_laysDepths_3 4 rfl rfl)
theorem dX4_laysDepths_78 : decode cX4_laysDepths 78 = .ok (.iadd, 1) := dk_96 (dk_at dksX4_laysDepths_3 6 rfl rfl)
theorem dX4_laysDepths_79 : decode cX4_laysDepths 79 = .ok (.invokevirtual 235, 3) := dk_182 0 235 (dk_at dksX4_laysDepths_3 7 rfl rfl)
theorem dX4_laysDepths_82 : decode cX4_laysDepths 82 = .ok (.invokestatic 245, 3) := dk_184 0 245 (dk_at dksX4_laysDepths_3 10 rfl rfl)
theorem dX4_laysDepths_85 : decode cX4_laysDepths 85 = .ok (.istore 4, 2) := dk_54 4 (dk_at dksX4_laysDepths_3 13 rfl rfl)
theorem dX4_laysDepths_87 : decode cX4_laysDepths 87 = .ok (.iinc 5 1, 3) := dk_132 5 1 (dk_at dksX4_laysDepths_3 15 rfl rfl)
theorem dX4_laysDepths_90 : decode cX4_laysDepths 90 = .ok (.goto (-59), 3) := dk_167 255 197 (dk_at dksX4_laysDepths_3 18 rfl rfl)
theorem dX4_laysDepths_93 : decode cX4_laysDepths 93 = .ok (.iinc 3 1, 3) := dk_132 3 1 (dk_at dksX4_laysDepths_3 21 rfl rfl)
theorem dX4_laysDepths_96 : decode cX4_laysDepths 96 = .ok (.goto (-86), 3) := dk_167 255 170 (dk_at dksX4_laysDepths_4 0 rfl rfl)
theorem dX4_laysDepths_99 : decode cX4_laysDepths 99 = .ok (.return_, 1) := dk_177 (dk_at dksX4_laysDepths_4 3 rfl rfl)
abbrev cX4_firstWeight : ByteArray := prog_11_method_109_code
def yX4_firstWeight : MethodName := ⟨RX4, "firstWeight", "()I"⟩
def dkwX4_firstWeight_3 : List UInt8 := [180, 0, 13, 27, 16, 29, 96, 29, 96, 46, 96, 61, 132, 3, 1, 167, 255, 210, 28, 172]
abbrev dktX4_firstWeight_3 : List UInt8 := dkwX4_firstWeight_3 ++ []
def dkwX4_firstWeight_2 : List UInt8 := [162, 0, 42, 28, 42, 180, 0, 13, 27, 16, 35, 96, 29, 96, 46, 2, 160, 0, 7, 3, 167, 0, 14, 42]
abbrev dktX4_firstWeight_2 : List UInt8 := dkwX4_firstWeight_2 ++ dktX4_firstWeight_3
def dkwX4_firstWeight_1 : List UInt8 := [16, 21, 96, 29, 96, 46, 96, 61, 132, 3, 1, 167, 255, 228, 3, 62, 29, 42, 180, 0, 13, 4, 46]
abbrev dktX4_firstWeight_1 : List UInt8 := dkwX4_firstWeight_1 ++ dktX4_firstWeight_2
def dkwX4_firstWeight_0 : List UInt8 := [16, 23, 60, 3, 61, 3, 62, 29, 42, 180, 0, 13, 16, 43, 46, 162, 0, 23, 28, 42, 180, 0, 13, 27]
abbrev dktX4_firstWeight_0 : List UInt8 := dkwX4_firstWeight_0 ++ dktX4_firstWeight_1
theorem dksX4_firstWeight_0 : cX4_firstWeight.data.toList.drop 0 = dktX4_firstWeight_0 := by decide +kernel
theorem dksX4_firstWeight_1 : cX4_firstWeight.data.toList.drop 24 = dktX4_firstWeight_1 := dk_seg dksX4_firstWeight_0 24 rfl rfl
theorem dksX4_firstWeight_2 : cX4_firstWeight.data.toList.drop 47 = dktX4_firstWeight_2 := dk_seg dksX4_firstWeight_1 23 rfl rfl
theorem dksX4_firstWeight_3 : cX4_firstWeight.data.toList.drop 71 = dktX4_firstWeight_3 := dk_seg dksX4_firstWeight_2 24 rfl rfl
theorem dX4_firstWeight_0 : decode cX4_firstWeight 0 = .ok (.bipush 23, 2) := dk_16 23 (dk_at dksX4_firstWeight_0 0 rfl rfl)
theorem dX4_firstWeight_2 : decode cX4_firstWeight 2 = .ok (.istore_n 1, 1) := dk_60 (dk_at dksX4_firstWeight_0 2 rfl rfl)
theorem dX4_firstWeight_3 : decode cX4_firstWeight 3 = .ok (.iconst 0, 1) := dk_3 (dk_at dksX4_firstWeight_0 3 rfl rfl)
theorem dX4_firstWeight_4 : decode cX4_firstWeight 4 = .ok (.istore_n 2, 1) := dk_61 (dk_at dksX4_firstWeight_0 4 rfl rfl)
theorem dX4_firstWeight_5 : decode cX4_firstWeight 5 = .ok (.iconst 0, 1) := dk_3 (dk_at dksX4_firstWeight_0 5 rfl rfl)
theorem dX4_firstWeight_6 : decode cX4_firstWeight 6 = .ok (.istore_n 3, 1) := dk_62 (dk_at dksX4_firstWeight_0 6 rfl rfl)
theorem dX4_firstWeight_7 : decode cX4_firstWeight 7 = .ok (.iload_n 3, 1) := dk_29 (dk_at dksX4_firstWeight_0 7 rfl rfl)
theorem dX4_firstWeight_8 : decode cX4_firstWeight 8 = .ok (.aload_n 0, 1) := dk_42 (dk_at dksX4_firstWeight_0 8 rfl rfl)
theorem dX4_firstWeight_9 : decode cX4_firstWeight 9 = .ok (.getfield 13, 3) := dk_180 0 13 (dk_at dksX4_firstWeight_0 9 rfl rfl)
theorem dX4_firstWeight_12 : decode cX4_firstWeight 12 = .ok (.bipush 43, 2) := dk_16 43 (dk_at dksX4_firstWeight_0 12 rfl rfl)
theorem dX4_firstWeight_14 : decode cX4_firstWeight 14 = .ok (.iaload, 1) := dk_46 (dk_at dksX4_firstWeight_0 14 rfl rfl)
theorem dX4_firstWeight_15 : decode cX4_firstWeight 15 = .ok (.if_icmp .ge 23, 3) := dk_162 0 23 (dk_at dksX4_firstWeight_0 15 rfl rfl)
theorem dX4_firstWeight_18 : decode cX4_firstWeight 18 = .ok (.iload_n 2, 1) := dk_28 (dk_at dksX4_firstWeight_0 18 rfl rfl)
theorem dX4_firstWeight_19 : decode cX4_firstWeight 19 = .ok (.aload_n 0, 1) := dk_42 (dk_at dksX4_firstWeight_0 19 rfl rfl)
theorem dX4_firstWeight_20 : decode cX4_firstWeight 20 = .ok (.getfield 13, 3) := dk_180 0 13 (dk_at dksX4_firstWeight_0 20 rfl rfl)
theorem dX4_firstWeight_23 : decode cX4_firstWeight 23 = .ok (.iload_n 1, 1) := dk_27 (dk_at dksX4_firstWeight_0 23 rfl rfl)
theorem dX4_firstWeight_24 : decode cX4_firstWeight 24 = .ok (.bipush 21, 2) := dk_16 21 (dk_at dksX4_firstWeight_1 0 rfl rfl)
theorem dX4_firstWeight_26 : decode cX4_firstWeight 26 = .ok (.iadd, 1) := dk_96 (dk_at dksX4_firstWeight_1 2 rfl rfl)
theorem dX4_firstWeight_27 : decode cX4_firstWeight 27 = .ok (.iload_n 3, 1) := dk_29 (dk_at dksX4_firstWeight_1 3 rfl rfl)
theorem dX4_firstWeight_28 : decode cX4_firstWeight 28 = .ok (.iadd, 1) := dk_96 (dk_at dksX4_firstWeight_1 4 rfl rfl)
theorem dX4_firstWeight_29 : decode cX4_firstWeight 29 = .ok (.iaload, 1) := dk_46 (dk_at dksX4_firstWeight_1 5 rfl rfl)
theorem dX4_firstWeight_30 : decode cX4_firstWeight 30 = .ok (.iadd, 1) := dk_96 (dk_at dksX4_firstWeight_1 6 rfl rfl)
theorem dX4_firstWeight_31 : decode cX4_firstWeight 31 = .ok (.istore_n 2, 1) := dk_61 (dk_at dksX4_firstWeight_1 7 rfl rfl)
theorem dX4_firstWeight_32 : decode cX4_firstWeight 32 = .ok (.iinc 3 1, 3) := dk_132 3 1 (dk_at dksX4_firstWeight_1 8 rfl rfl)
theorem dX4_firstWeight_35 : decode cX4_firstWeight 35 = .ok (.goto (-28), 3) := dk_167 255 228 (dk_at dksX4_firstWeight_1 11 rfl rfl)
theorem dX4_firstWeight_38 : decode cX4_firstWeight 38 = .ok (.iconst 0, 1) := dk_3 (dk_at dksX4_firstWeight_1 14 rfl rfl)
theorem dX4_firstWeight_39 : decode cX4_firstWeight 39 = .ok (.istore_n 3, 1) := dk_62 (dk_at dksX4_firstWeight_1 15 rfl rfl)
theorem dX4_firstWeight_40 : decode cX4_firstWeight 40 = .ok (.iload_n 3, 1) := dk_29 (dk_at dksX4_firstWeight_1 16 rfl rfl)
theorem dX4_firstWeight_41 : decode cX4_firstWeight 41 = .ok (.aload_n 0, 1) := dk_42 (dk_at dksX4_firstWeight_1 17 rfl rfl)
theorem dX4_firstWeight_42 : decode cX4_firstWeight 42 = .ok (.getfield 13, 3) := dk_180 0 13 (dk_at dksX4_firstWeight_1 18 rfl rfl)
theorem dX4_firstWeight_45 : decode cX4_firstWeight 45 = .ok (.iconst 1, 1) := dk_4 (dk_at dksX4_firstWeight_1 21 rfl rfl)
theorem dX4_firstWeight_46 : decode cX4_firstWeight 46 = .ok (.iaload, 1) := dk_46 (dk_at dksX4_firstWeight_1 22 rfl rfl)
theorem dX4_firstWeight_47 : decode cX4_firstWeight 47 = .ok (.if_icmp .ge 42, 3) := dk_162 0 42 (dk_at dksX4_firstWeight_2 0 rfl rfl)
theorem dX4_firstWeight_50 : decode cX4_firstWeight 50 = .ok (.iload_n 2, 1) := dk_28 (dk_at dksX4_firstWeight_2 3 rfl rfl)
theorem dX4_firstWeight_51 : decode cX4_firstWeight 51 = .ok (.aload_n 0, 1) := dk_42 (dk_at dksX4_firstWeight_2 4 rfl rfl)
theorem dX4_firstWeight_52 : decode cX4_firstWeight 52 = .ok (.getfield 13, 3) := dk_180 0 13 (dk_at dksX4_firstWeight_2 5 rfl rfl)
theorem dX4_firstWeight_55 : decode cX4_firstWeight 55 = .ok (.iload_n 1, 1) := dk_27 (dk_at dksX4_firstWeight_2 8 rfl rfl)
theorem dX4_firstWeight_56 : decode cX4_firstWeight 56 = .ok (.bipush 35, 2) := dk_16 35 (dk_at dksX4_firstWeight_2 9 rfl rfl)
theorem dX4_firstWeight_58 : decode cX4_firstWeight 58 = .ok (.iadd, 1) := dk_96 (dk_at dksX4_firstWeight_2 11 rfl rfl)
theorem dX4_firstWeight_59 : decode cX4_firstWeight 59 = .ok (.iload_n 3, 1) := dk_29 (dk_at dksX4_firstWeight_2 12 rfl rfl)
theorem dX4_firstWeight_60 : decode cX4_firstWeight 60 = .ok (.iadd, 1) := dk_96 (dk_at dksX4_firstWeight_2 13 rfl rfl)
theorem dX4_firstWeight_61 : decode cX4_firstWeight 61 = .ok (.iaload, 1) := dk_46 (dk_at dksX4_firstWeight_2 14 rfl rfl)
theorem dX4_firstWeight_62 : decode cX4_firstWeight 62 = .ok (.iconst (-1), 1) := dk_2 (dk_at dksX4_firstWeight_2 15 rfl rfl)
theorem dX4_firstWeight_63 : decode cX4_firstWeight 63 = .ok (.if_icmp .ne 7, 3) := dk_160 0 7 (dk_at dksX4_firstWeight_2 16 rfl rfl)
theorem dX4_firstWeight_66 : decode cX4_firstWeight 66 = .ok (.iconst 0, 1) := dk_3 (dk_at dksX4_firstWeight_2 19 rfl rfl)
theorem dX4_firstWeight_67 : decode cX4_firstWeight 67 = .ok (.goto 14, 3) := dk_167 0 14 (dk_at dksX4_firstWeight_2 20 rfl rfl)
theorem dX4_firstWeight_70 : decode cX4_firstWeight 70 = .ok (.aload_n 0, 1) := dk_42 (dk_at dksX4_firstWeight_2 23 rfl rfl)
theorem dX4_firstWeight_71 : decode cX4_firstWeight 71 = .ok (.getfield 13, 3) := dk_180 0 13 (dk_at dksX4_firstWeight_3 0 rfl rfl)
theorem dX4_firstWeight_74 : decode cX4_firstWeight 74 = .ok (.iload_n 1, 1) := dk_27 (dk_at dksX4_firstWeight_3 3 rfl rfl)
theorem dX4_firstWeight_75 : decode cX4_firstWeight 75 = .ok (.bipush 29, 2) := dk_16 29 (dk_at dksX4_firstWeight_3 4 rfl rfl)
theorem dX4_firstWeight_77 : decode cX4_firstWeight 77 = .ok (.iadd, 1) := dk_96 (dk_at dksX4_firstWeight_3 6 rfl rfl)
theorem dX4_firstWeight_78 : decode cX4_firstWeight 78 = .ok (.iload_n 3, 1) := dk_29 (dk_at dksX4_firstWeight_3 7 rfl rfl)
theorem dX4_firstWeight_79 : decode cX4_firstWeight 79 = .ok (.iadd, 1) := dk_96 (dk_at dksX4_firstWeight_3 8 rfl rfl)
theorem dX4_firstWeight_80 : decode cX4_firstWeight 80 = .ok (.iaload, 1) := dk_46 (dk_at dksX4_firstWeight_3 9 rfl rfl)
theorem dX4_firstWeight_81 : decode cX4_firstWeight 81 = .ok (.iadd, 1) := dk_96 (dk_at dksX4_firstWeight_3 10 rfl rfl)
theorem dX4_firstWeight_82 : decode cX4_firstWeight 82 = .ok (.istore_n 2, 1) := dk_61 (dk_at dksX4_firstWeight_3 11 rfl rfl)
theorem dX4_firstWeight_83 : decode cX4_firstWeight 83 = .ok (.iinc 3 1, 3) := dk_132 3 1 (dk_at dksX4_firstWeight_3 12 rfl rfl)
theorem dX4_firstWeight_86 : decode cX4_firstWeight 86 = .ok (.goto (-46), 3) := dk_167 255 210 (dk_at dksX4_firstWeight_3 15 rfl rfl)
theorem dX4_firstWeight_89 : decode cX4_firstWeight 89 = .ok (.iload_n 2, 1) := dk_28 (dk_at dksX4_firstWeight_3 18 rfl rfl)
theorem dX4_firstWeight_90 : decode cX4_firstWeight 90 = .ok (.ireturn, 1) := dk_172 (dk_at dksX4_firstWeight_3 19 rfl rfl)
abbrev cX4_isMark : ByteArray := prog_11_method_112_code
def yX4_isMark : MethodName := ⟨RX4, "isMark", "(III)Z"⟩
def dkwX4_isMark_1 : List UInt8 := [180, 0, 72, 16, 40, 27, 104, 28, 96, 4, 96, 47, 148, 154, 0, 7, 4, 167, 0, 4, 3, 172]
abbrev dktX4_isMark_1 : List UInt8 := dkwX4_isMark_1 ++ []
def dkwX4_isMark_0 : List UInt8 := [42, 180, 0, 56, 16, 61, 29, 104, 42, 180, 0, 72, 16, 40, 27, 104, 28, 96, 47, 136, 96, 46, 133, 42]
abbrev dktX4_isMark_0 : List UInt8 := dkwX4_isMark_0 ++ dktX4_isMark_1
theorem dksX4_isMark_0 : cX4_isMark.data.toList.drop 0 = dktX4_isMark_0 := by decide +kernel
theorem dksX4_isMark_1 : cX4_isMark.data.toList.drop 24 = dktX4_isMark_1 := dk_seg dksX4_isMark_0 24 rfl rfl
theorem dX4_isMark_0 : decode cX4_isMark 0 = .ok (.aload_n 0, 1) := dk_42 (dk_at dksX4_isMark_0 0 rfl rfl)
theorem dX4_isMark_1 : decode cX4_isMark 1 = .ok (.getfield 56, 3) := dk_180 0 56 (dk_at dksX4_isMark_0 1 rfl rfl)
theorem dX4_isMark_4 : decode cX4_isMark 4 = .ok (.bipush 61, 2) := dk_16 61 (dk_at dksX4_isMark_0 4 rfl rfl)
theorem dX4_isMark_6 : decode cX4_isMark 6 = .ok (.iload_n 3, 1) := dk_29 (dk_at dksX4_isMark_0 6 rfl rfl)
theorem dX4_isMark_7 : decode cX4_isMark 7 = .ok (.imul, 1) := dk_104 (dk_at dksX4_isMark_0 7 rfl rfl)
theorem dX4_isMark_8 : decode cX4_isMark 8 = .ok (.aload_n 0, 1) := dk_42 (dk_at dksX4_isMark_0 8 rfl rfl)
theorem dX4_isMark_9 : decode cX4_isMark 9 = .ok (.getfield 72, 3) := dk_180 0 72 (dk_at dksX4_isMark_0 9 rfl rfl)
theorem dX4_isMark_12 : decode cX4_isMark 12 = .ok (.bipush 40, 2) := dk_16 40 (dk_at dksX4_isMark_0 12 rfl rfl)
theorem dX4_isMark_14 : decode cX4_isMark 14 = .ok (.iload_n 1, 1) := dk_27 (dk_at dksX4_isMark_0 14 rfl rfl)
theorem dX4_isMark_15 : decode cX4_isMark 15 = .ok (.imul, 1) := dk_104 (dk_at dksX4_isMark_0 15 rfl rfl)
theorem dX4_isMark_16 : decode cX4_isMark 16 = .ok (.iload_n 2, 1) := dk_28 (dk_at dksX4_isMark_0 16 rfl rfl)
theorem dX4_isMark_17 : decode cX4_isMark 17 = .ok (.iadd, 1) := dk_96 (dk_at dksX4_isMark_0 17 rfl rfl)
theorem dX4_isMark_18 : decode cX4_isMark 18 = .ok (.laload, 1) := dk_47 (dk_at dksX4_isMark_0 18 rfl rfl)
theorem dX4_isMark_19 : decode cX4_isMark 19 = .ok (.l2i, 1) := dk_136 (dk_at dksX4_isMark_0 19 rfl rfl)
theorem dX4_isMark_20 : decode cX4_isMark 20 = .ok (.iadd, 1) := dk_96 (dk_at dksX4_isMark_0 20 rfl rfl)
theorem dX4_isMark_21 : decode cX4_isMark 21 = .ok (.iaload, 1) := dk_46 (dk_at dksX4_isMark_0 21 rfl rfl)
theorem dX4_isMark_22 : decode cX4_isMark 22 = .ok (.i2l, 1) := dk_133 (dk_at dksX4_isMark_0 22 rfl rfl)
theorem dX4_isMark_23 : decode cX4_isMark 23 = .ok (.aload_n 0, 1) := dk_42 (dk_at dksX4_isMark_0 23 rfl rfl)
theorem dX4_isMark_24 : decode cX4_isMark 24 = .ok (.getfield 72, 3) := dk_180 0 72 (dk_at dksX4_isMark_1 0 rfl rfl)
theorem dX4_isMark_27 : decode cX4_isMark 27 = .ok (.bipush 40, 2) := dk_16 40 (dk_at dksX4_isMark_1 3 rfl rfl)
theorem dX4_isMark_29 : decode cX4_isMark 29 = .ok (.iload_n 1, 1) := dk_27 (dk_at dksX4_isMark_1 5 rfl rfl)
theorem dX4_isMark_30 : decode cX4_isMark 30 = .ok (.imul, 1) := dk_104 (dk_at dksX4_isMark_1 6 rfl rfl)
theorem dX4_isMark_31 : decode cX4_isMark 31 = .ok (.iload_n 2, 1) := dk_28 (dk_at dksX4_isMark_1 7 rfl rfl)
theorem dX4_isMark_32 : decode cX4_isMark 32 = .ok (.iadd, 1) := dk_96 (dk_at dksX4_isMark_1 8 rfl rfl)
theorem dX4_isMark_33 : decode cX4_isMark 33 = .ok (.iconst 1, 1) := dk_4 (dk_at dksX4_isMark_1 9 rfl rfl)
theorem dX4_isMark_34 : decode cX4_isMark 34 = .ok (.iadd, 1) := dk_96 (dk_at dksX4_isMark_1 10 rfl rfl)
theorem dX4_isMark_35 : decode cX4_isMark 35 = .ok (.laload, 1) := dk_47 (dk_at dksX4_isMark_1 11 rfl rfl)
theorem dX4_isMark_36 : decode cX4_isMark 36 = .ok (.lcmp, 1) := dk_148 (dk_at dksX4_isMark_1 12 rfl rfl)
theorem dX4_isMark_37 : decode cX4_isMark 37 = .ok (.ifCond .ne 7, 3) := dk_154 0 7 (dk_at dksX4_isMark_1 13 rfl rfl)
theorem dX4_isMark_40 : decode cX4_isMark 40 = .ok (.iconst 1, 1) := dk_4 (dk_at dksX4_isMark_1 16 rfl rfl)
theorem dX4_isMark_41 : decode cX4_isMark 41 = .ok (.goto 4, 3) := dk_167 0 4 (dk_at dksX4_isMark_1 17 rfl rfl)
theorem dX4_isMark_44 : decode cX4_isMark 44 = .ok (.iconst 0, 1) := dk_3 (dk_at dksX4_isMark_1 20 rfl rfl)
theorem dX4_isMark_45 : decode cX4_isMark 45 = .ok (.ireturn, 1) := dk_172 (dk_at dksX4_isMark_1 21 rfl rfl)
abbrev cX4_hidden : ByteArray := prog_11_method_115_code
def yX4_hidden : MethodName := ⟨RX4, "hidden", "(II)I"⟩
def dkwX4_hidden_3 : List UInt8 := [167, 255, 221, 2, 172]
abbrev dktX4_hidden_3 : List UInt8 := dkwX4_hidden_3 ++ []
def dkwX4_hidden_2 : List UInt8 := [21, 5, 51, 154, 0, 6, 167, 0, 14, 21, 4, 154, 0, 6, 21, 5, 172, 132, 4, 255, 132, 5, 1]
abbrev dktX4_hidden_2 : List UInt8 := dkwX4_hidden_2 ++ dktX4_hidden_3
def dkwX4_hidden_1 : List UInt8 := [42, 27, 182, 1, 180, 87, 28, 54, 4, 3, 54, 5, 21, 5, 17, 3, 232, 162, 0, 33, 42, 180, 0, 63]
abbrev dktX4_hidden_1 : List UInt8 := dkwX4_hidden_1 ++ dktX4_hidden_2
def dkwX4_hidden_0 : List UInt8 := [42, 3, 181, 0, 1, 42, 27, 182, 1, 177, 62, 29, 153, 0, 5, 29, 172, 28, 156, 0, 6, 16, 253, 172]
abbrev dktX4_hidden_0 : List UInt8 := dkwX4_hidden_0 ++ dktX4_hidden_1
theorem dksX4_hidden_0 : cX4_hidden.data.toList.drop 0 = dktX4_hidden_0 := by decide +kernel
theorem dksX4_hidden_1 : cX4_hidden.data.toList.drop 24 = dktX4_hidden_1 := dk_seg dksX4_hidden_0 24 rfl rfl
theorem dksX4_hidden_2 : cX4_hidden.data.toList.drop 48 = dktX4_hidden_2 := dk_seg dksX4_hidden_1 24 rfl rfl
theorem dksX4_hidden_3 : cX4_hidden.data.toList.drop 71 = dktX4_hidden_3 := dk_seg dksX4_hidden_2 23 rfl rfl
theorem dX4_hidden_0 : decode cX4_hidden 0 = .ok (.aload_n 0, 1) := dk_42 (dk_at dksX4_hidden_0 0 rfl rfl)
theorem dX4_hidden_1 : decode cX4_hidden 1 = .ok (.iconst 0, 1) := dk_3 (dk_at dksX4_hidden_0 1 rfl rfl)
theorem dX4_hidden_2 : decode cX4_hidden 2 = .ok (.putfield 1, 3) := dk_181 0 1 (dk_at dksX4_hidden_0 2 rfl rfl)
theorem dX4_hidden_5 : decode cX4_hidden 5 = .ok (.aload_n 0, 1) := dk_42 (dk_at dksX4_hidden_0 5 rfl rfl)
theorem dX4_hidden_6 : decode cX4_hidden 6 = .ok (.iload_n 1, 1) := dk_27 (dk_at dksX4_hidden_0 6 rfl rfl)
theorem dX4_hidden_7 : decode cX4_hidden 7 = .ok (.invokevirtual 433, 3) := dk_182 1 177 (dk_at dksX4_hidden_0 7 rfl rfl)
theorem dX4_hidden_10 : decode cX4_hidden 10 = .ok (.istore_n 3, 1) := dk_62 (dk_at dksX4_hidden_0 10 rfl rfl)
theorem dX4_hidden_11 : decode cX4_hidden 11 = .ok (.iload_n 3, 1) := dk_29 (dk_at dksX4_hidden_0 11 rfl rfl)
theorem dX4_hidden_12 : decode cX4_hidden 12 = .ok (.ifCond .eq 5, 3) := dk_153 0 5 (dk_at dksX4_hidden_0 12 rfl rfl)
theorem dX4_hidden_15 : decode cX4_hidden 15 = .ok (.iload_n 3, 1) := dk_29 (dk_at dksX4_hidden_0 15 rfl rfl)
theorem dX4_hidden_16 : decode cX4_hidden 16 = .ok (.ireturn, 1) := dk_172 (dk_at dksX4_hidden_0 16 rfl rfl)
theorem dX4_hidden_17 : decode cX4_hidden 17 = .ok (.iload_n 2, 1) := dk_28 (dk_at dksX4_hidden_0 17 rfl rfl)
theorem dX4_hidden_18 : decode cX4_hidden 18 = .ok (.ifCond .ge 6, 3) := dk_156 0 6 (dk_at dksX4_hidden_0 18 rfl rfl)
theorem dX4_hidden_21 : decode cX4_hidden 21 = .ok (.bipush (-3), 2) := dk_16 253 (dk_at dksX4_hidden_0 21 rfl rfl)
theorem dX4_hidden_23 : decode cX4_hidden 23 = .ok (.ireturn, 1) := dk_172 (dk_at dksX4_hidden_0 23 rfl rfl)
theorem dX4_hidden_24 : decode cX4_hidden 24 = .ok (.aload_n 0, 1) := dk_42 (dk_at dksX4_hidden_1 0 rfl rfl)
theorem dX4_hidden_25 : decode cX4_hidden 25 = .ok (.iload_n 1, 1) := dk_27 (dk_at dksX4_hidden_1 1 rfl rfl)
theorem dX4_hidden_26 : decode cX4_hidden 26 = .ok (.invokevirtual 436, 3) := dk_182 1 180 (dk_at dksX4_hidden_1 2 rfl rfl)
theorem dX4_hidden_29 : decode cX4_hidden 29 = .ok (.pop, 1) := dk_87 (dk_at dksX4_hidden_1 5 rfl rfl)
theorem dX4_hidden_30 : decode cX4_hidden 30 = .ok (.iload_n 2, 1) := dk_28 (dk_at dksX4_hidden_1 6 rfl rfl)
theorem dX4_hidden_31 : decode cX4_hidden 31 = .ok (.istore 4, 2) := dk_54 4 (dk_at dksX4_hidden_1 7 rfl rfl)
theorem dX4_hidden_33 : decode cX4_hidden 33 = .ok (.iconst 0, 1) := dk_3 (dk_at dksX4_hidden_1 9 rfl rfl)
theorem dX4_hidden_34 : decode cX4_hidden 34 = .ok (.istore 5, 2) := dk_54 5 (dk_at dksX4_hidden_1 10 rfl rfl)
theorem dX4_hidden_36 : decode cX4_hidden 36 = .ok (.iload 5, 2) := dk_21 5 (dk_at dksX4_hidden_1 12 rfl rfl)
theorem dX4_hidden_38 : decode cX4_hidden 38 = .ok (.sipush 1000, 3) := dk_17 3 232 (dk_at dksX4_hidden_1 14 rfl rfl)
theorem dX4_hidden_41 : decode cX4_hidden 41 = .ok (.if_icmp .ge 33, 3) := dk_162 0 33 (dk_at dksX4_hidden_1 17 rfl rfl)
theorem dX4_hidden_44 : decode cX4_hidden 44 = .ok (.aload_n 0, 1) := dk_42 (dk_at dksX4_hidden_1 20 rfl rfl)
theorem dX4_hidden_45 : decode cX4_hidden 45 = .ok (.getfield 63, 3) := dk_180 0 63 (dk_at dksX4_hidden_1 21 rfl rfl)
theorem dX4_hidden_48 : decode cX4_hidden 48 = .ok (.iload 5, 2) := dk_21 5 (dk_at dksX4_hidden_2 0 rfl rfl)
theorem dX4_hidden_50 : decode cX4_hidden 50 = .ok (.baload, 1) := dk_51 (dk_at dksX4_hidden_2 2 rfl rfl)
theorem dX4_hidden_51 : decode cX4_hidden 51 = .ok (.ifCond .ne 6, 3) := dk_154 0 6 (dk_at dksX4_hidden_2 3 rfl rfl)
theorem dX4_hidden_54 : decode cX4_hidden 54 = .ok (.goto 14, 3) := dk_167 0 14 (dk_at dksX4_hidden_2 6 rfl rfl)
theorem dX4_hidden_57 : decode cX4_hidden 57 = .ok (.iload 4, 2) := dk_21 4 (dk_at dksX4_hidden_2 9 rfl rfl)
theorem dX4_hidden_59 : decode cX4_hidden 59 = .ok (.ifCond .ne 6, 3) := dk_154 0 6 (dk_at dksX4_hidden_2 11 rfl rfl)
theorem dX4_hidden_62 : decode cX4_hidden 62 = .ok (.iload 5, 2) := dk_21 5 (dk_at dksX4_hidden_2 14 rfl rfl)
theorem dX4_hidden_64 : decode cX4_hidden 64 = .ok (.ireturn, 1) := dk_172 (dk_at dksX4_hidden_2 16 rfl rfl)
theorem dX4_hidden_65 : decode cX4_hidden 65 = .ok (.iinc 4 (-1), 3) := dk_132 4 255 (dk_at dksX4_hidden_2 17 rfl rfl)
theorem dX4_hidden_68 : decode cX4_hidden 68 = .ok (.iinc 5 1, 3) := dk_132 5 1 (dk_at dksX4_hidden_2 20 rfl rfl)
theorem dX4_hidden_71 : decode cX4_hidden 71 = .ok (.goto (-35), 3) := dk_167 255 221 (dk_at dksX4_hidden_3 0 rfl rfl)
theorem dX4_hidden_74 : decode cX4_hidden 74 = .ok (.iconst (-1), 1) := dk_2 (dk_at dksX4_hidden_3 3 rfl rfl)
theorem dX4_hidden_75 : decode cX4_hidden 75 = .ok (.ireturn, 1) := dk_172 (dk_at dksX4_hidden_3 4 rfl rfl)
abbrev cX4_look : ByteArray := prog_11_method_117_code
def yX4_look : MethodName := ⟨RX4, "look", "(I)I"⟩
def dkwX4_look_3 : List UInt8 := [54, 4, 132, 5, 1, 167, 255, 221, 29, 172]
abbrev dktX4_look_3 : List UInt8 := dkwX4_look_3 ++ []
def dkwX4_look_2 : List UInt8 := [42, 21, 5, 182, 1, 183, 54, 6, 21, 6, 21, 4, 161, 0, 6, 167, 0, 10, 21, 5, 62, 21, 6]
abbrev dktX4_look_2 : List UInt8 := dkwX4_look_2 ++ dktX4_look_3
def dkwX4_look_1 : List UInt8 := [154, 0, 5, 2, 172, 4, 62, 42, 4, 182, 1, 183, 54, 4, 5, 54, 5, 21, 5, 16, 60, 163, 0, 34]
abbrev dktX4_look_1 : List UInt8 := dkwX4_look_1 ++ dktX4_look_2
def dkwX4_look_0 : List UInt8 := [42, 3, 181, 0, 1, 42, 27, 182, 1, 177, 61, 28, 153, 0, 5, 28, 172, 42, 27, 182, 1, 180]
abbrev dktX4_look_0 : List UInt8 := dkwX4_look_0 ++ dktX4_look_1
theorem dksX4_look_0 : cX4_look.data.toList.drop 0 = dktX4_look_0 := by decide +kernel
theorem dksX4_look_1 : cX4_look.data.toList.drop 22 = dktX4_look_1 := dk_seg dksX4_look_0 22 rfl rfl
theorem dksX4_look_2 : cX4_look.data.toList.drop 46 = dktX4_look_2 := dk_seg dksX4_look_1 24 rfl rfl
theorem dksX4_look_3 : cX4_look.data.toList.drop 69 = dktX4_look_3 := dk_seg dksX4_look_2 23 rfl rfl
theorem dX4_look_0 : decode cX4_look 0 = .ok (.aload_n 0, 1) := dk_42 (dk_at dksX4_look_0 0 rfl rfl)
theorem dX4_look_1 : decode cX4_look 1 = .ok (.iconst 0, 1) := dk_3 (dk_at dksX4_look_0 1 rfl rfl)
theorem dX4_look_2 : decode cX4_look 2 = .ok (.putfield 1, 3) := dk_181 0 1 (dk_at dksX4_look_0 2 rfl rfl)
theorem dX4_look_5 : decode cX4_look 5 = .ok (.aload_n 0, 1) := dk_42 (dk_at dksX4_look_0 5 rfl rfl)
theorem dX4_look_6 : decode cX4_look 6 = .ok (.iload_n 1, 1) := dk_27 (dk_at dksX4_look_0 6 rfl rfl)
theorem dX4_look_7 : decode cX4_look 7 = .ok (.invokevirtual 433, 3) := dk_182 1 177 (dk_at dksX4_look_0 7 rfl rfl)
theorem dX4_look_10 : decode cX4_look 10 = .ok (.istore_n 2, 1) := dk_61 (dk_at dksX4_look_0 10 rfl rfl)
theorem dX4_look_11 : decode cX4_look 11 = .ok (.iload_n 2, 1) := dk_28 (dk_at dksX4_look_0 11 rfl rfl)
theorem dX4_look_12 : decode cX4_look 12 = .ok (.ifCond .eq 5, 3) := dk_153 0 5 (dk_at dksX4_look_0 12 rfl rfl)
theorem dX4_look_15 : decode cX4_look 15 = .ok (.iload_n 2, 1) := dk_28 (dk_at dksX4_look_0 15 rfl rfl)
theorem dX4_look_16 : decode cX4_look 16 = .ok (.ireturn, 1) := dk_172 (dk_at dksX4_look_0 16 rfl rfl)
theorem dX4_look_17 : decode cX4_look 17 = .ok (.aload_n 0, 1) := dk_42 (dk_at dksX4_look_0 17 rfl rfl)
theorem dX4_look_18 : decode cX4_look 18 = .ok (.iload_n 1, 1) := dk_27 (dk_at dksX4_look_0 18 rfl rfl)
theorem dX4_look_19 : decode cX4_look 19 = .ok (.invokevirtual 436, 3) := dk_182 1 180 (dk_at dksX4_look_0 19 rfl rfl)
theorem dX4_look_22 : decode cX4_look 22 = .ok (.ifCond .ne 5, 3) := dk_154 0 5 (dk_at dksX4_look_1 0 rfl rfl)
theorem dX4_look_25 : decode cX4_look 25 = .ok (.iconst (-1), 1) := dk_2 (dk_at dksX4_look_1 3 rfl rfl)
theorem dX4_look_26 : decode cX4_look 26 = .ok (.ireturn, 1) := dk_172 (dk_at dksX4_look_1 4 rfl rfl)
theorem dX4_look_27 : decode cX4_look 27 = .ok (.iconst 1, 1) := dk_4 (dk_at dksX4_look_1 5 rfl rfl)
theorem dX4_look_28 : decode cX4_look 28 = .ok (.istore_n 3, 1) := dk_62 (dk_at dksX4_look_1 6 rfl rfl)
theorem dX4_look_29 : decode cX4_look 29 = .ok (.aload_n 0, 1) := dk_42 (dk_at dksX4_look_1 7 rfl rfl)
theorem dX4_look_30 : decode cX4_look 30 = .ok (.iconst 1, 1) := dk_4 (dk_at dksX4_look_1 8 rfl rfl)
theorem dX4_look_31 : decode cX4_look 31 = .ok (.invokevirtual 439, 3) := dk_182 1 183 (dk_at dksX4_look_1 9 rfl rfl)
theorem dX4_look_34 : decode cX4_look 34 = .ok (.istore 4, 2) := dk_54 4 (dk_at dksX4_look_1 12 rfl rfl)
theorem dX4_look_36 : decode cX4_look 36 = .ok (.iconst 2, 1) := dk_5 (dk_at dksX4_look_1 14 rfl rfl)
theorem dX4_look_37 : decode cX4_look 37 = .ok (.istore 5, 2) := dk_54 5 (dk_at dksX4_look_1 15 rfl rfl)
theorem dX4_look_39 : decode cX4_look 39 = .ok (.iload 5, 2) := dk_21 5 (dk_at dksX4_look_1 17 rfl rfl)
theorem dX4_look_41 : decode cX4_look 41 = .ok (.bipush 60, 2) := dk_16 60 (dk_at dksX4_look_1 19 rfl rfl)
theorem dX4_look_43 : decode cX4_look 43 = .ok (.if_icmp .gt 34, 3) := dk_163 0 34 (dk_at dksX4_look_1 21 rfl rfl)
theorem dX4_look_46 : decode cX4_look 46 = .ok (.aload_n 0, 1) := dk_42 (dk_at dksX4_look_2 0 rfl rfl)
theorem dX4_look_47 : decode cX4_look 47 = .ok (.iload 5, 2) := dk_21 5 (dk_at dksX4_look_2 1 rfl rfl)
theorem dX4_look_49 : decode cX4_look 49 = .ok (.invokevirtual 439, 3) := dk_182 1 183 (dk_at dksX4_look_2 3 rfl rfl)
theorem dX4_look_52 : decode cX4_look 52 = .ok (.istore 6, 2) := dk_54 6 (dk_at dksX4_look_2 6 rfl rfl)
theorem dX4_look_54 : decode cX4_look 54 = .ok (.iload 6, 2) := dk_21 6 (dk_at dksX4_look_2 8 rfl rfl)
theorem dX4_look_56 : decode cX4_look 56 = .ok (.iload 4, 2) := dk_21 4 (dk_at dksX4_look_2 10 rfl rfl)
theorem dX4_look_58 : decode cX4_look 58 = .ok (.if_icmp .lt 6, 3) := dk_161 0 6 (dk_at dksX4_look_2 12 rfl rfl)
theorem dX4_look_61 : decode cX4_look 61 = .ok (.goto 10, 3) := dk_167 0 10 (dk_at dksX4_look_2 15 rfl rfl)
theorem dX4_look_64 : decode cX4_look 64 = .ok (.iload 5, 2) := dk_21 5 (dk_at dksX4_look_2 18 rfl rfl)
theorem dX4_look_66 : decode cX4_look 66 = .ok (.istore_n 3, 1) := dk_62 (dk_at dksX4_look_2 20 rfl rfl)
theorem dX4_look_67 : decode cX4_look 67 = .ok (.iload 6, 2) := dk_21 6 (dk_at dksX4_look_2 21 rfl rfl)
theorem dX4_look_69 : decode cX4_look 69 = .ok (.istore 4, 2) := dk_54 4 (dk_at dksX4_look_3 0 rfl rfl)
theorem dX4_look_71 : decode cX4_look 71 = .ok (.iinc 5 1, 3) := dk_132 5 1 (dk_at dksX4_look_3 2 rfl rfl)
theorem dX4_look_74 : decode cX4_look 74 = .ok (.goto (-35), 3) := dk_167 255 221 (dk_at dksX4_look_3 5 rfl rfl)
theorem dX4_look_77 : decode cX4_look 77 = .ok (.iload_n 3, 1) := dk_29 (dk_at dksX4_look_3 8 rfl rfl)
theorem dX4_look_78 : decode cX4_look 78 = .ok (.ireturn, 1) := dk_172 (dk_at dksX4_look_3 9 rfl rfl)
abbrev cX4_mostAlike : ByteArray := prog_11_method_116_code
def yX4_mostAlike : MethodName := ⟨RX4, "mostAlike", "(I)I"⟩
def dkwX4_mostAlike_5 : List UInt8 := [172]
abbrev dktX4_mostAlike_5 : List UInt8 := dkwX4_mostAlike_5 ++ []
def dkwX4_mostAlike_4 : List UInt8 := [46, 28, 164, 0, 13, 42, 180, 0, 60, 21, 4, 46, 167, 0, 4, 28, 61, 132, 3, 1, 167, 255, 187, 28]
abbrev dktX4_mostAlike_4 : List UInt8 := dkwX4_mostAlike_4 ++ dktX4_mostAlike_5
def dkwX4_mostAlike_3 : List UInt8 := [29, 104, 27, 96, 46, 54, 4, 42, 180, 0, 60, 21, 4, 92, 46, 4, 96, 79, 42, 180, 0, 60, 21, 4]
abbrev dktX4_mostAlike_3 : List UInt8 := dkwX4_mostAlike_3 ++ dktX4_mostAlike_4
def dkwX4_mostAlike_2 : List UInt8 := [17, 3, 232, 162, 0, 68, 42, 180, 0, 63, 29, 51, 154, 0, 6, 167, 0, 50, 42, 180, 0, 56, 16, 61]
abbrev dktX4_mostAlike_2 : List UInt8 := dkwX4_mostAlike_2 ++ dktX4_mostAlike_3
def dkwX4_mostAlike_1 : List UInt8 := [42, 180, 0, 56, 16, 61, 29, 104, 27, 96, 46, 3, 79, 132, 3, 1, 167, 255, 220, 3, 62, 29]
abbrev dktX4_mostAlike_1 : List UInt8 := dkwX4_mostAlike_1 ++ dktX4_mostAlike_2
def dkwX4_mostAlike_0 : List UInt8 := [3, 61, 3, 62, 29, 17, 3, 232, 162, 0, 35, 42, 180, 0, 63, 29, 51, 153, 0, 20, 42, 180, 0, 60]
abbrev dktX4_mostAlike_0 : List UInt8 := dkwX4_mostAlike_0 ++ dktX4_mostAlike_1
theorem dksX4_mostAlike_0 : cX4_mostAlike.data.toList.drop 0 = dktX4_mostAlike_0 := by decide +kernel
theorem dksX4_mostAlike_1 : cX4_mostAlike.data.toList.drop 24 = dktX4_mostAlike_1 := dk_seg dksX4_mostAlike_0 24 rfl rfl
theorem dksX4_mostAlike_2 : cX4_mostAlike.data.toList.drop 46 = dktX4_mostAlike_2 := dk_seg dksX4_mostAlike_1 22 rfl rfl
theorem dksX4_mostAlike_3 : cX4_mostAlike.data.toList.drop 70 = dktX4_mostAlike_3 := dk_seg dksX4_mostAlike_2 24 rfl rfl
theorem dksX4_mostAlike_4 : cX4_mostAlike.data.toList.drop 94 = dktX4_mostAlike_4 := dk_seg dksX4_mostAlike_3 24 rfl rfl
theorem dksX4_mostAlike_5 : cX4_mostAlike.data.toList.drop 118 = dktX4_mostAlike_5 := dk_seg dksX4_mostAlike_4 24 rfl rfl
theorem dX4_mostAlike_0 : decode cX4_mostAlike 0 = .ok (.iconst 0, 1) := dk_3 (dk_at dksX4_mostAlike_0 0 rfl rfl)
theorem dX4_mostAlike_1 : decode cX4_mostAlike 1 = .ok (.istore_n 2, 1) := dk_61 (dk_at dksX4_mostAlike_0 1 rfl rfl)
theorem dX4_mostAlike_2 : decode cX4_mostAlike 2 = .ok (.iconst 0, 1) := dk_3 (dk_at dksX4_mostAlike_0 2 rfl rfl)
theorem dX4_mostAlike_3 : decode cX4_mostAlike 3 = .ok (.istore_n 3, 1) := dk_62 (dk_at dksX4_mostAlike_0 3 rfl rfl)
theorem dX4_mostAlike_4 : decode cX4_mostAlike 4 = .ok (.iload_n 3, 1) := dk_29 (dk_at dksX4_mostAlike_0 4 rfl rfl)
theorem dX4_mostAlike_5 : decode cX4_mostAlike 5 = .ok (.sipush 1000, 3) := dk_17 3 232 (dk_at dksX4_mostAlike_0 5 rfl rfl)
theorem dX4_mostAlike_8 : decode cX4_mostAlike 8 = .ok (.if_icmp .ge 35, 3) := dk_162 0 35 (dk_at dksX4_mostAlike_0 8 rfl rfl)
theorem dX4_mostAlike_11 : decode cX4_mostAlike 11 = .ok (.aload_n 0, 1) := dk_42 (dk_at dksX4_mostAlike_0 11 rfl rfl)
theorem dX4_mostAlike_12 : decode cX4_mostAlike 12 = .ok (.getfield 63, 3) := dk_180 0 63 (dk_at dksX4_mostAlike_0 12 rfl rfl)
theorem dX4_mostAlike_15 : decode cX4_mostAlike 15 = .ok (.iload_n 3, 1) := dk_29 (dk_at dksX4_mostAlike_0 15 rfl rfl)
theorem dX4_mostAlike_16 : decode cX4_mostAlike 16 = .ok (.baload, 1) := dk_51 (dk_at dksX4_mostAlike_0 16 rfl rfl)
theorem dX4_mostAlike_17 : decode cX4_mostAlike 17 = .ok (.ifCond .eq 20, 3) := dk_153 0 20 (dk_at dksX4_mostAlike_0 17 rfl rfl)
theorem dX4_mostAlike_20 : decode cX4_mostAlike 20 = .ok (.aload_n 0, 1) := dk_42 (dk_at dksX4_mostAlike_0 20 rfl rfl)
theorem dX4_mostAlike_21 : decode cX4_mostAlike 21 = .ok (.getfield 60, 3) := dk_180 0 60 (dk_at dksX4_mostAlike_0 21 rfl rfl)
theorem dX4_mostAlike_24 : decode cX4_mostAlike 24 = .ok (.aload_n 0, 1) := dk_42 (dk_at dksX4_mostAlike_1 0 rfl rfl)
theorem dX4_mostAlike_25 : decode cX4_mostAlike 25 = .ok (.getfield 56, 3) := dk_180 0 56 (dk_at dksX4_mostAlike_1 1 rfl rfl)
theorem dX4_mostAlike_28 : decode cX4_mostAlike 28 = .ok (.bipush 61, 2) := dk_16 61 (dk_at dksX4_mostAlike_1 4 rfl rfl)
theorem dX4_mostAlike_30 : decode cX4_mostAlike 30 = .ok (.iload_n 3, 1) := dk_29 (dk_at dksX4_mostAlike_1 6 rfl rfl)
theorem dX4_mostAlike_31 : decode cX4_mostAlike 31 = .ok (.imul, 1) := dk_104 (dk_at dksX4_mostAlike_1 7 rfl rfl)
theorem dX4_mostAlike_32 : decode cX4_mostAlike 32 = .ok (.iload_n 1, 1) := dk_27 (dk_at dksX4_mostAlike_1 8 rfl rfl)
theorem dX4_mostAlike_33 : decode cX4_mostAlike 33 = .ok (.iadd, 1) := dk_96 (dk_at dksX4_mostAlike_1 9 rfl rfl)
theorem dX4_mostAlike_34 : decode cX4_mostAlike 34 = .ok (.iaload, 1) := dk_46 (dk_at dksX4_mostAlike_1 10 rfl rfl)
theorem dX4_mostAlike_35 : decode cX4_mostAlike 35 = .ok (.iconst 0, 1) := dk_3 (dk_at dksX4_mostAlike_1 11 rfl rfl)
theorem dX4_mostAlike_36 : decode cX4_mostAlike 36 = .ok (.iastore, 1) := dk_79 (dk_at dksX4_mostAlike_1 12 rfl rfl)
theorem dX4_mostAlike_37 : decode cX4_mostAlike 37 = .ok (.iinc 3 1, 3) := dk_132 3 1 (dk_at dksX4_mostAlike_1 13 rfl rfl)
theorem dX4_mostAlike_40 : decode cX4_mostAlike 40 = .ok (.goto (-36), 3) := dk_167 255 220 (dk_at dksX4_mostAlike_1 16 rfl rfl)
theorem dX4_mostAlike_43 : decode cX4_mostAlike 43 = .ok (.iconst 0, 1) := dk_3 (dk_at dksX4_mostAlike_1 19 rfl rfl)
theorem dX4_mostAlike_44 : decode cX4_mostAlike 44 = .ok (.istore_n 3, 1) := dk_62 (dk_at dksX4_mostAlike_1 20 rfl rfl)
theorem dX4_mostAlike_45 : decode cX4_mostAlike 45 = .ok (.iload_n 3, 1) := dk_29 (dk_at dksX4_mostAlike_1 21 rfl rfl)
theorem dX4_mostAlike_46 : decode cX4_mostAlike 46 = .ok (.sipush 1000, 3) := dk_17 3 232 (dk_at dksX4_mostAlike_2 0 rfl rfl)
theorem dX4_mostAlike_49 : decode cX4_mostAlike 49 = .ok (.if_icmp .ge 68, 3) := dk_162 0 68 (dk_at dksX4_mostAlike_2 3 rfl rfl)
theorem dX4_mostAlike_52 : decode cX4_mostAlike 52 = .ok (.aload_n 0, 1) := dk_42 (dk_at dksX4_mostAlike_2 6 rfl rfl)
theorem dX4_mostAlike_53 : decode cX4_mostAlike 53 = .ok (.getfield 63, 3) := dk_180 0 63 (dk_at dksX4_mostAlike_2 7 rfl rfl)
theorem dX4_mostAlike_56 : decode cX4_mostAlike 56 = .ok (.iload_n 3, 1) := dk_29 (dk_at dksX4_mostAlike_2 10 rfl rfl)
theorem dX4_mostAlike_57 : decode cX4_mostAlike 57 = .ok (.baload, 1) := dk_51 (dk_at dksX4_mostAlike_2 11 rfl rfl)
theorem dX4_mostAlike_58 : decode cX4_mostAlike 58 = .ok (.ifCond .ne 6, 3) := dk_154 0 6 (dk_at dksX4_mostAlike_2 12 rfl rfl)
theorem dX4_mostAlike_61 : decode cX4_mostAlike 61 = .ok (.goto 50, 3) := dk_167 0 50 (dk_at dksX4_mostAlike_2 15 rfl rfl)
theorem dX4_mostAlike_64 : decode cX4_mostAlike 64 = .ok (.aload_n 0, 1) := dk_42 (dk_at dksX4_mostAlike_2 18 rfl rfl)
theorem dX4_mostAlike_65 : decode cX4_mostAlike 65 = .ok (.getfield 56, 3) := dk_180 0 56 (dk_at dksX4_mostAlike_2 19 rfl rfl)
theorem dX4_mostAlike_68 : decode cX4_mostAlike 68 = .ok (.bipush 61, 2) := dk_16 61 (dk_at dksX4_mostAlike_2 22 rfl rfl)
theorem dX4_mostAlike_70 : decode cX4_mostAlike 70 = .ok (.iload_n 3, 1) := dk_29 (dk_at dksX4_mostAlike_3 0 rfl rfl)
theorem dX4_mostAlike_71 : decode cX4_mostAlike 71 = .ok (.imul, 1) := dk_104 (dk_at dksX4_mostAlike_3 1 rfl rfl)
theorem dX4_mostAlike_72 : decode cX4_mostAlike 72 = .ok (.iload_n 1, 1) := dk_27 (dk_at dksX4_mostAlike_3 2 rfl rfl)
theorem dX4_mostAlike_73 : decode cX4_mostAlike 73 = .ok (.iadd, 1) := dk_96 (dk_at dksX4_mostAlike_3 3 rfl rfl)
theorem dX4_mostAlike_74 : decode cX4_mostAlike 74 = .ok (.iaload, 1) := dk_46 (dk_at dksX4_mostAlike_3 4 rfl rfl)
theorem dX4_mostAlike_75 : decode cX4_mostAlike 75 = .ok (.istore 4, 2) := dk_54 4 (dk_at dksX4_mostAlike_3 5 rfl rfl)
theorem dX4_mostAlike_77 : decode cX4_mostAlike 77 = .ok (.aload_n 0, 1) := dk_42 (dk_at dksX4_mostAlike_3 7 rfl rfl)
theorem dX4_mostAlike_78 : decode cX4_mostAlike 78 = .ok (.getfield 60, 3) := dk_180 0 60 (dk_at dksX4_mostAlike_3 8 rfl rfl)
theorem dX4_mostAlike_81 : decode cX4_mostAlike 81 = .ok (.iload 4, 2) := dk_21 4 (dk_at dksX4_mostAlike_3 11 rfl rfl)
theorem dX4_mostAlike_83 : decode cX4_mostAlike 83 = .ok (.dup2, 1) := dk_92 (dk_at dksX4_mostAlike_3 13 rfl rfl)
theorem dX4_mostAlike_84 : decode cX4_mostAlike 84 = .ok (.iaload, 1) := dk_46 (dk_at dksX4_mostAlike_3 14 rfl rfl)
theorem dX4_mostAlike_85 : decode cX4_mostAlike 85 = .ok (.iconst 1, 1) := dk_4 (dk_at dksX4_mostAlike_3 15 rfl rfl)
theorem dX4_mostAlike_86 : decode cX4_mostAlike 86 = .ok (.iadd, 1) := dk_96 (dk_at dksX4_mostAlike_3 16 rfl rfl)
theorem dX4_mostAlike_87 : decode cX4_mostAlike 87 = .ok (.iastore, 1) := dk_79 (dk_at dksX4_mostAlike_3 17 rfl rfl)
theorem dX4_mostAlike_88 : decode cX4_mostAlike 88 = .ok (.aload_n 0, 1) := dk_42 (dk_at dksX4_mostAlike_3 18 rfl rfl)
theorem dX4_mostAlike_89 : decode cX4_mostAlike 89 = .ok (.getfield 60, 3) := dk_180 0 60 (dk_at dksX4_mostAlike_3 19 rfl rfl)
theorem dX4_mostAlike_92 : decode cX4_mostAlike 92 = .ok (.iload 4, 2) := dk_21 4 (dk_at dksX4_mostAlike_3 22 rfl rfl)
theorem dX4_mostAlike_94 : decode cX4_mostAlike 94 = .ok (.iaload, 1) := dk_46 (dk_at dksX4_mostAlike_4 0 rfl rfl)
theorem dX4_mostAlike_95 : decode cX4_mostAlike 95 = .ok (.iload_n 2, 1) := dk_28 (dk_at dksX4_mostAlike_4 1 rfl rfl)
theorem dX4_mostAlike_96 : decode cX4_mostAlike 96 = .ok (.if_icmp .le 13, 3) := dk_164 0 13 (dk_at dksX4_mostAlike_4 2 rfl rfl)
theorem dX4_mostAlike_99 : decode cX4_mostAlike 99 = .ok (.aload_n 0, 1) := dk_42 (dk_at dksX4_mostAlike_4 5 rfl rfl)
theorem dX4_mostAlike_100 : decode cX4_mostAlike 100 = .ok (.getfield 60, 3) := dk_180 0 60 (dk_at dksX4_mostAlike_4 6 rfl rfl)
theorem dX4_mostAlike_103 : decode cX4_mostAlike 103 = .ok (.iload 4, 2) := dk_21 4 (dk_at dksX4_mostAlike_4 9 rfl rfl)
theorem dX4_mostAlike_105 : decode cX4_mostAlike 105 = .ok (.iaload, 1) := dk_46 (dk_at dksX4_mostAlike_4 11 rfl rfl)
theorem dX4_mostAlike_106 : decode cX4_mostAlike 106 = .ok (.goto 4, 3) := dk_167 0 4 (dk_at dksX4_mostAlike_4 12 rfl rfl)
theorem dX4_mostAlike_109 : decode cX4_mostAlike 109 = .ok (.iload_n 2, 1) := dk_28 (dk_at dksX4_mostAlike_4 15 rfl rfl)
theorem dX4_mostAlike_110 : decode cX4_mostAlike 110 = .ok (.istore_n 2, 1) := dk_61 (dk_at dksX4_mostAlike_4 16 rfl rfl)
theorem dX4_mostAlike_111 : decode cX4_mostAlike 111 = .ok (.iinc 3 1, 3) := dk_132 3 1 (dk_at dksX4_mostAlike_4 17 rfl rfl)
theorem dX4_mostAlike_114 : decode cX4_mostAlike 114 = .ok (.goto (-69), 3) := dk_167 255 187 (dk_at dksX4_mostAlike_4 20 rfl rfl)
theorem dX4_mostAlike_117 : decode cX4_mostAlike 117 = .ok (.iload_n 2, 1) := dk_28 (dk_at dksX4_mostAlike_4 23 rfl rfl)
theorem dX4_mostAlike_118 : decode cX4_mostAlike 118 = .ok (.ireturn, 1) := dk_172 (dk_at dksX4_mostAlike_5 0 rfl rfl)
abbrev cX4_falseMark : ByteArray := prog_11_method_118_code
def yX4_falseMark : MethodName := ⟨RX4, "falseMark", "(I)I"⟩
def dkwX4_falseMark_3 : List UInt8 := [29, 5, 108, 172, 132, 3, 2, 167, 255, 201, 2, 172]
abbrev dktX4_falseMark_3 : List UInt8 := dkwX4_falseMark_3 ++ []
def dkwX4_falseMark_2 : List UInt8 := [21, 4, 42, 27, 29, 21, 5, 182, 1, 174, 128, 54, 4, 132, 5, 1, 167, 255, 232, 21, 4, 154, 0, 7]
abbrev dktX4_falseMark_2 : List UInt8 := dkwX4_falseMark_2 ++ dktX4_falseMark_3
def dkwX4_falseMark_1 : List UInt8 := [42, 180, 0, 69, 27, 46, 162, 0, 51, 3, 54, 4, 3, 54, 5, 21, 5, 17, 3, 232, 162, 0, 22]
abbrev dktX4_falseMark_1 : List UInt8 := dkwX4_falseMark_1 ++ dktX4_falseMark_2
def dkwX4_falseMark_0 : List UInt8 := [42, 3, 181, 0, 1, 42, 27, 182, 1, 177, 61, 28, 153, 0, 5, 28, 172, 42, 182, 1, 171, 3, 62, 29]
abbrev dktX4_falseMark_0 : List UInt8 := dkwX4_falseMark_0 ++ dktX4_falseMark_1
theorem dksX4_falseMark_0 : cX4_falseMark.data.toList.drop 0 = dktX4_falseMark_0 := by decide +kernel
theorem dksX4_falseMark_1 : cX4_falseMark.data.toList.drop 24 = dktX4_falseMark_1 := dk_seg dksX4_falseMark_0 24 rfl rfl
theorem dksX4_falseMark_2 : cX4_falseMark.data.toList.drop 47 = dktX4_falseMark_2 := dk_seg dksX4_falseMark_1 23 rfl rfl
theorem dksX4_falseMark_3 : cX4_falseMark.data.toList.drop 71 = dktX4_falseMark_3 := dk_seg dksX4_falseMark_2 24 rfl rfl
theorem dX4_falseMark_0 : decode cX4_falseMark 0 = .ok (.aload_n 0, 1) := dk_42 (dk_at dksX4_falseMark_0 0 rfl rfl)
theorem dX4_falseMark_1 : decode cX4_falseMark 1 = .ok (.iconst 0, 1) := dk_3 (dk_at dksX4_falseMark_0 1 rfl rfl)
theorem dX4_falseMark_2 : decode cX4_falseMark 2 = .ok (.putfield 1, 3) := dk_181 0 1 (dk_at dksX4_falseMark_0 2 rfl rfl)
theorem dX4_falseMark_5 : decode cX4_falseMark 5 = .ok (.aload_n 0, 1) := dk_42 (dk_at dksX4_falseMark_0 5 rfl rfl)
theorem dX4_falseMark_6 : decode cX4_falseMark 6 = .ok (.iload_n 1, 1) := dk_27 (dk_at dksX4_falseMark_0 6 rfl rfl)
theorem dX4_falseMark_7 : decode cX4_falseMark 7 = .ok (.invokevirtual 433, 3) := dk_182 1 177 (dk_at dksX4_falseMark_0 7 rfl rfl)
theorem dX4_falseMark_10 : decode cX4_falseMark 10 = .ok (.istore_n 2, 1) := dk_61 (dk_at dksX4_falseMark_0 10 rfl rfl)
theorem dX4_falseMark_11 : decode cX4_falseMark 11 = .ok (.iload_n 2, 1) := dk_28 (dk_at dksX4_falseMark_0 11 rfl rfl)
theorem dX4_falseMark_12 : decode cX4_falseMark 12 = .ok (.ifCond .eq 5, 3) := dk_153 0 5 (dk_at dksX4_falseMark_0 12 rfl rfl)
theorem dX4_falseMark_15 : decode cX4_falseMark 15 = .ok (.iload_n 2, 1) := dk_28 (dk_at dksX4_falseMark_0 15 rfl rfl)
theorem dX4_falseMark_16 : decode cX4_falseMark 16 = .ok (.ireturn, 1) := dk_172 (dk_at dksX4_falseMark_0 16 rfl rfl)
theorem dX4_falseMark_17 : decode cX4_falseMark 17 = .ok (.aload_n 0, 1) := dk_42 (dk_at dksX4_falseMark_0 17 rfl rfl)
theorem dX4_falseMark_18 : decode cX4_falseMark 18 = .ok (.invokevirtual 427, 3) := dk_182 1 171 (dk_at dksX4_falseMark_0 18 rfl rfl)
theorem dX4_falseMark_21 : decode cX4_falseMark 21 = .ok (.iconst 0, 1) := dk_3 (dk_at dksX4_falseMark_0 21 rfl rfl)
theorem dX4_falseMark_22 : decode cX4_falseMark 22 = .ok (.istore_n 3, 1) := dk_62 (dk_at dksX4_falseMark_0 22 rfl rfl)
theorem dX4_falseMark_23 : decode cX4_falseMark 23 = .ok (.iload_n 3, 1) := dk_29 (dk_at dksX4_falseMark_0 23 rfl rfl)
theorem dX4_falseMark_24 : decode cX4_falseMark 24 = .ok (.aload_n 0, 1) := dk_42 (dk_at dksX4_falseMark_1 0 rfl rfl)
theorem dX4_falseMark_25 : decode cX4_falseMark 25 = .ok (.getfield 69, 3) := dk_180 0 69 (dk_at dksX4_falseMark_1 1 rfl rfl)
theorem dX4_falseMark_28 : decode cX4_falseMark 28 = .ok (.iload_n 1, 1) := dk_27 (dk_at dksX4_falseMark_1 4 rfl rfl)
theorem dX4_falseMark_29 : decode cX4_falseMark 29 = .ok (.iaload, 1) := dk_46 (dk_at dksX4_falseMark_1 5 rfl rfl)
theorem dX4_falseMark_30 : decode cX4_falseMark 30 = .ok (.if_icmp .ge 51, 3) := dk_162 0 51 (dk_at dksX4_falseMark_1 6 rfl rfl)
theorem dX4_falseMark_33 : decode cX4_falseMark 33 = .ok (.iconst 0, 1) := dk_3 (dk_at dksX4_falseMark_1 9 rfl rfl)
theorem dX4_falseMark_34 : decode cX4_falseMark 34 = .ok (.istore 4, 2) := dk_54 4 (dk_at dksX4_falseMark_1 10 rfl rfl)
theorem dX4_falseMark_36 : decode cX4_falseMark 36 = .ok (.iconst 0, 1) := dk_3 (dk_at dksX4_falseMark_1 12 rfl rfl)
theorem dX4_falseMark_37 : decode cX4_falseMark 37 = .ok (.istore 5, 2) := dk_54 5 (dk_at dksX4_falseMark_1 13 rfl rfl)
theorem dX4_falseMark_39 : decode cX4_falseMark 39 = .ok (.iload 5, 2) := dk_21 5 (dk_at dksX4_falseMark_1 15 rfl rfl)
theorem dX4_falseMark_41 : decode cX4_falseMark 41 = .ok (.sipush 1000, 3) := dk_17 3 232 (dk_at dksX4_falseMark_1 17 rfl rfl)
theorem dX4_falseMark_44 : decode cX4_falseMark 44 = .ok (.if_icmp .ge 22, 3) := dk_162 0 22 (dk_at dksX4_falseMark_1 20 rfl rfl)
theorem dX4_falseMark_47 : decode cX4_falseMark 47 = .ok (.iload 4, 2) := dk_21 4 (dk_at dksX4_falseMark_2 0 rfl rfl)
theorem dX4_falseMark_49 : decode cX4_falseMark 49 = .ok (.aload_n 0, 1) := dk_42 (dk_at dksX4_falseMark_2 2 rfl rfl)
theorem dX4_falseMark_50 : decode cX4_falseMark 50 = .ok (.iload_n 1, 1) := dk_27 (dk_at dksX4_falseMark_2 3 rfl rfl)
theorem dX4_falseMark_51 : decode cX4_falseMark 51 = .ok (.iload_n 3, 1) := dk_29 (dk_at dksX4_falseMark_2 4 rfl rfl)
theorem dX4_falseMark_52 : decode cX4_falseMark 52 = .ok (.iload 5, 2) := dk_21 5 (dk_at dksX4_falseMark_2 5 rfl rfl)
theorem dX4_falseMark_54 : decode cX4_falseMark 54 = .ok (.invokevirtual 430, 3) := dk_182 1 174 (dk_at dksX4_falseMark_2 7 rfl rfl)
theorem dX4_falseMark_57 : decode cX4_falseMark 57 = .ok (.ior, 1) := dk_128 (dk_at dksX4_falseMark_2 10 rfl rfl)
theorem dX4_falseMark_58 : decode cX4_falseMark 58 = .ok (.istore 4, 2) := dk_54 4 (dk_at dksX4_falseMark_2 11 rfl rfl)
theorem dX4_falseMark_60 : decode cX4_falseMark 60 = .ok (.iinc 5 1, 3) := dk_132 5 1 (dk_at dksX4_falseMark_2 13 rfl rfl)
theorem dX4_falseMark_63 : decode cX4_falseMark 63 = .ok (.goto (-24), 3) := dk_167 255 232 (dk_at dksX4_falseMark_2 16 rfl rfl)
theorem dX4_falseMark_66 : decode cX4_falseMark 66 = .ok (.iload 4, 2) := dk_21 4 (dk_at dksX4_falseMark_2 19 rfl rfl)
theorem dX4_falseMark_68 : decode cX4_falseMark 68 = .ok (.ifCond .ne 7, 3) := dk_154 0 7 (dk_at dksX4_falseMark_2 21 rfl rfl)
theorem dX4_falseMark_71 : decode cX4_falseMark 71 = .ok (.iload_n 3, 1) := dk_29 (dk_at dksX4_falseMark_3 0 rfl rfl)
theorem dX4_falseMark_72 : decode cX4_falseMark 72 = .ok (.iconst 2, 1) := dk_5 (dk_at dksX4_falseMark_3 1 rfl rfl)
theorem dX4_falseMark_73 : decode cX4_falseMark 73 = .ok (.idiv, 1) := dk_108 (dk_at dksX4_falseMark_3 2 rfl rfl)
theorem dX4_falseMark_74 : decode cX4_falseMark 74 = .ok (.ireturn, 1) := dk_172 (dk_at dksX4_falseMark_3 3 rfl rfl)
theorem dX4_falseMark_75 : decode cX4_falseMark 75 = .ok (.iinc 3 2, 3) := dk_132 3 2 (dk_at dksX4_falseMark_3 4 rfl rfl)
theorem dX4_falseMark_78 : decode cX4_falseMark 78 = .ok (.goto (-55), 3) := dk_167 255 201 (dk_at dksX4_falseMark_3 7 rfl rfl)
theorem dX4_falseMark_81 : decode cX4_falseMark 81 = .ok (.iconst (-1), 1) := dk_2 (dk_at dksX4_falseMark_3 10 rfl rfl)
theorem dX4_falseMark_82 : decode cX4_falseMark 82 = .ok (.ireturn, 1) := dk_172 (dk_at dksX4_falseMark_3 11 rfl rfl)
abbrev cX4_numbers : ByteArray := prog_11_method_120_code
def yX4_numbers : MethodName := ⟨RX4, "numbers", "(III)I"⟩
def dkwX4_numbers_3 : List UInt8 := [180, 0, 72, 16, 40, 27, 104, 21, 4, 96, 9, 80, 132, 4, 1, 167, 255, 234, 3, 172]
abbrev dktX4_numbers_3 : List UInt8 := dkwX4_numbers_3 ++ []
def dkwX4_numbers_2 : List UInt8 := [42, 180, 0, 66, 27, 28, 79, 42, 180, 0, 69, 27, 29, 79, 3, 54, 4, 21, 4, 29, 162, 0, 22, 42]
abbrev dktX4_numbers_2 : List UInt8 := dkwX4_numbers_2 ++ dktX4_numbers_3
def dkwX4_numbers_1 : List UInt8 := [184, 0, 141, 154, 0, 6, 16, 254, 172, 29, 133, 9, 20, 1, 186, 184, 0, 141, 154, 0, 6, 16, 253, 172]
abbrev dktX4_numbers_1 : List UInt8 := dkwX4_numbers_1 ++ dktX4_numbers_2
def dkwX4_numbers_0 : List UInt8 := [42, 3, 181, 0, 1, 27, 133, 9, 20, 1, 61, 184, 0, 141, 153, 0, 15, 28, 133, 9, 20, 1, 61]
abbrev dktX4_numbers_0 : List UInt8 := dkwX4_numbers_0 ++ dktX4_numbers_1
theorem dksX4_numbers_0 : cX4_numbers.data.toList.drop 0 = dktX4_numbers_0 := by decide +kernel
theorem dksX4_numbers_1 : cX4_numbers.data.toList.drop 23 = dktX4_numbers_1 := dk_seg dksX4_numbers_0 23 rfl rfl
theorem dksX4_numbers_2 : cX4_numbers.data.toList.drop 47 = dktX4_numbers_2 := dk_seg dksX4_numbers_1 24 rfl rfl
theorem dksX4_numbers_3 : cX4_numbers.data.toList.drop 71 = dktX4_numbers_3 := dk_seg dksX4_numbers_2 24 rfl rfl
theorem dX4_numbers_0 : decode cX4_numbers 0 = .ok (.aload_n 0, 1) := dk_42 (dk_at dksX4_numbers_0 0 rfl rfl)
theorem dX4_numbers_1 : decode cX4_numbers 1 = .ok (.iconst 0, 1) := dk_3 (dk_at dksX4_numbers_0 1 rfl rfl)
theorem dX4_numbers_2 : decode cX4_numbers 2 = .ok (.putfield 1, 3) := dk_181 0 1 (dk_at dksX4_numbers_0 2 rfl rfl)
theorem dX4_numbers_5 : decode cX4_numbers 5 = .ok (.iload_n 1, 1) := dk_27 (dk_at dksX4_numbers_0 5 rfl rfl)
theorem dX4_numbers_6 : decode cX4_numbers 6 = .ok (.i2l, 1) := dk_133 (dk_at dksX4_numbers_0 6 rfl rfl)
theorem dX4_numbers_7 : decode cX4_numbers 7 = .ok (.lconst 0, 1) := dk_9 (dk_at dksX4_numbers_0 7 rfl rfl)
theorem dX4_numbers_8 : decode cX4_numbers 8 = .ok (.ldc2_w 317, 3) := dk_20 1 61 (dk_at dksX4_numbers_0 8 rfl rfl)
theorem dX4_numbers_11 : decode cX4_numbers 11 = .ok (.invokestatic 141, 3) := dk_184 0 141 (dk_at dksX4_numbers_0 11 rfl rfl)
theorem dX4_numbers_14 : decode cX4_numbers 14 = .ok (.ifCond .eq 15, 3) := dk_153 0 15 (dk_at dksX4_numbers_0 14 rfl rfl)
theorem dX4_numbers_17 : decode cX4_numbers 17 = .ok (.iload_n 2, 1) := dk_28 (dk_at dksX4_numbers_0 17 rfl rfl)
theorem dX4_numbers_18 : decode cX4_numbers 18 = .ok (.i2l, 1) := dk_133 (dk_at dksX4_numbers_0 18 rfl rfl)
theorem dX4_numbers_19 : decode cX4_numbers 19 = .ok (.lconst 0, 1) := dk_9 (dk_at dksX4_numbers_0 19 rfl rfl)
theorem dX4_numbers_20 : decode cX4_numbers 20 = .ok (.ldc2_w 317, 3) := dk_20 1 61 (dk_at dksX4_numbers_0 20 rfl rfl)
theorem dX4_numbers_23 : decode cX4_numbers 23 = .ok (.invokestatic 141, 3) := dk_184 0 141 (dk_at dksX4_numbers_1 0 rfl rfl)
theorem dX4_numbers_26 : decode cX4_numbers 26 = .ok (.ifCond .ne 6, 3) := dk_154 0 6 (dk_at dksX4_numbers_1 3 rfl rfl)
theorem dX4_numbers_29 : decode cX4_numbers 29 = .ok (.bipush (-2), 2) := dk_16 254 (dk_at dksX4_numbers_1 6 rfl rfl)
theorem dX4_numbers_31 : decode cX4_numbers 31 = .ok (.ireturn, 1) := dk_172 (dk_at dksX4_numbers_1 8 rfl rfl)
theorem dX4_numbers_32 : decode cX4_numbers 32 = .ok (.iload_n 3, 1) := dk_29 (dk_at dksX4_numbers_1 9 rfl rfl)
theorem dX4_numbers_33 : decode cX4_numbers 33 = .ok (.i2l, 1) := dk_133 (dk_at dksX4_numbers_1 10 rfl rfl)
theorem dX4_numbers_34 : decode cX4_numbers 34 = .ok (.lconst 0, 1) := dk_9 (dk_at dksX4_numbers_1 11 rfl rfl)
theorem dX4_numbers_35 : decode cX4_numbers 35 = .ok (.ldc2_w 442, 3) := dk_20 1 186 (dk_at dksX4_numbers_1 12 rfl rfl)
theorem dX4_numbers_38 : decode cX4_numbers 38 = .ok (.invokestatic 141, 3) := dk_184 0 141 (dk_at dksX4_numbers_1 15 rfl rfl)
theorem dX4_numbers_41 : decode cX4_numbers 41 = .ok (.ifCond .ne 6, 3) := dk_154 0 6 (dk_at dksX4_numbers_1 18 rfl rfl)
theorem dX4_numbers_44 : decode cX4_numbers 44 = .ok (.bipush (-3), 2) := dk_16 253 (dk_at dksX4_numbers_1 21 rfl rfl)
theorem dX4_numbers_46 : decode cX4_numbers 46 = .ok (.ireturn, 1) := dk_172 (dk_at dksX4_numbers_1 23 rfl rfl)
theorem dX4_numbers_47 : decode cX4_numbers 47 = .ok (.aload_n 0, 1) := dk_42 (dk_at dksX4_numbers_2 0 rfl rfl)
theorem dX4_numbers_48 : decode cX4_numbers 48 = .ok (.getfield 66, 3) := dk_180 0 66 (dk_at dksX4_numbers_2 1 rfl rfl)
theorem dX4_numbers_51 : decode cX4_numbers 51 = .ok (.iload_n 1, 1) := dk_27 (dk_at dksX4_numbers_2 4 rfl rfl)
theorem dX4_numbers_52 : decode cX4_numbers 52 = .ok (.iload_n 2, 1) := dk_28 (dk_at dksX4_numbers_2 5 rfl rfl)
theorem dX4_numbers_53 : decode cX4_numbers 53 = .ok (.iastore, 1) := dk_79 (dk_at dksX4_numbers_2 6 rfl rfl)
theorem dX4_numbers_54 : decode cX4_numbers 54 = .ok (.aload_n 0, 1) := dk_42 (dk_at dksX4_numbers_2 7 rfl rfl)
theorem dX4_numbers_55 : decode cX4_numbers 55 = .ok (.getfield 69, 3) := dk_180 0 69 (dk_at dksX4_numbers_2 8 rfl rfl)
theorem dX4_numbers_58 : decode cX4_numbers 58 = .ok (.iload_n 1, 1) := dk_27 (dk_at dksX4_numbers_2 11 rfl rfl)
theorem dX4_numbers_59 : decode cX4_numbers 59 = .ok (.iload_n 3, 1) := dk_29 (dk_at dksX4_numbers_2 12 rfl rfl)
theorem dX4_numbers_60 : decode cX4_numbers 60 = .ok (.iastore, 1) := dk_79 (dk_at dksX4_numbers_2 13 rfl rfl)
theorem dX4_numbers_61 : decode cX4_numbers 61 = .ok (.iconst 0, 1) := dk_3 (dk_at dksX4_numbers_2 14 rfl rfl)
theorem dX4_numbers_62 : decode cX4_numbers 62 = .ok (.istore 4, 2) := dk_54 4 (dk_at dksX4_numbers_2 15 rfl rfl)
theorem dX4_numbers_64 : decode cX4_numbers 64 = .ok (.iload 4, 2) := dk_21 4 (dk_at dksX4_numbers_2 17 rfl rfl)
theorem dX4_numbers_66 : decode cX4_numbers 66 = .ok (.iload_n 3, 1) := dk_29 (dk_at dksX4_numbers_2 19 rfl rfl)
theorem dX4_numbers_67 : decode cX4_numbers 67 = .ok (.if_icmp .ge 22, 3) := dk_162 0 22 (dk_at dksX4_numbers_2 20 rfl rfl)
theorem dX4_numbers_70 : decode cX4_numbers 70 = .ok (.aload_n 0, 1) := dk_42 (dk_at dksX4_numbers_2 23 rfl rfl)
theorem dX4_numbers_71 : decode cX4_numbers 71 = .ok (.getfield 72, 3) := dk_180 0 72 (dk_at dksX4_numbers_3 0 rfl rfl)
theorem dX4_numbers_74 : decode cX4_numbers 74 = .ok (.bipush 40, 2) := dk_16 40 (dk_at dksX4_numbers_3 3 rfl rfl)
theorem dX4_numbers_76 : decode cX4_numbers 76 = .ok (.iload_n 1, 1) := dk_27 (dk_at dksX4_numbers_3 5 rfl rfl)
theorem dX4_numbers_77 : decode cX4_numbers 77 = .ok (.imul, 1) := dk_104 (dk_at dksX4_numbers_3 6 rfl rfl)
theorem dX4_numbers_78 : decode cX4_numbers 78 = .ok (.iload 4, 2) := dk_21 4 (dk_at dksX4_numbers_3 7 rfl rfl)
theorem dX4_numbers_80 : decode cX4_numbers 80 = .ok (.iadd, 1) := dk_96 (dk_at dksX4_numbers_3 9 rfl rfl)
theorem dX4_numbers_81 : decode cX4_numbers 81 = .ok (.lconst 0, 1) := dk_9 (dk_at dksX4_numbers_3 10 rfl rfl)
theorem dX4_numbers_82 : decode cX4_numbers 82 = .ok (.lastore, 1) := dk_80 (dk_at dksX4_numbers_3 11 rfl rfl)
theorem dX4_numbers_83 : decode cX4_numbers 83 = .ok (.iinc 4 1, 3) := dk_132 4 1 (dk_at dksX4_numbers_3 12 rfl rfl)
theorem dX4_numbers_86 : decode cX4_numbers 86 = .ok (.goto (-22), 3) := dk_167 255 234 (dk_at dksX4_numbers_3 15 rfl rfl)
theorem dX4_numbers_89 : decode cX4_numbers 89 = .ok (.iconst 0, 1) := dk_3 (dk_at dksX4_numbers_3 18 rfl rfl)
theorem dX4_numbers_90 : decode cX4_numbers 90 = .ok (.ireturn, 1) := dk_172 (dk_at dksX4_numbers_3 19 rfl rfl)
abbrev cX4_write : ByteArray := prog_11_method_121_code
def yX4_write : MethodName := ⟨RX4, "write", "(IIJ)J"⟩
def dkwX4_write_3 : List UInt8 := [104, 28, 96, 47, 173]
abbrev dktX4_write_3 : List UInt8 := dkwX4_write_3 ++ []
def dkwX4_write_2 : List UInt8 := [16, 40, 27, 104, 28, 96, 33, 42, 180, 0, 66, 27, 46, 184, 1, 190, 80, 42, 180, 0, 72, 16, 40, 27]
abbrev dktX4_write_2 : List UInt8 := dkwX4_write_2 ++ dktX4_write_3
def dkwX4_write_1 : List UInt8 := [42, 180, 0, 69, 27, 46, 4, 100, 133, 184, 0, 141, 154, 0, 7, 20, 1, 188, 173, 42, 180, 0, 72]
abbrev dktX4_write_1 : List UInt8 := dkwX4_write_1 ++ dktX4_write_2
def dkwX4_write_0 : List UInt8 := [42, 3, 181, 0, 1, 42, 27, 182, 1, 63, 54, 5, 21, 5, 153, 0, 7, 21, 5, 133, 173, 28, 133, 9]
abbrev dktX4_write_0 : List UInt8 := dkwX4_write_0 ++ dktX4_write_1
theorem dksX4_write_0 : cX4_write.data.toList.drop 0 = dktX4_write_0 := by decide +kernel
theorem dksX4_write_1 : cX4_write.data.toList.drop 24 = dktX4_write_1 := dk_seg dksX4_write_0 24 rfl rfl
theorem dksX4_write_2 : cX4_write.data.toList.drop 47 = dktX4_write_2 := dk_seg dksX4_write_1 23 rfl rfl
theorem dksX4_write_3 : cX4_write.data.toList.drop 71 = dktX4_write_3 := dk_seg dksX4_write_2 24 rfl rfl
theorem dX4_write_0 : decode cX4_write 0 = .ok (.aload_n 0, 1) := dk_42 (dk_at dksX4_write_0 0 rfl rfl)
theorem dX4_write_1 : decode cX4_write 1 = .ok (.iconst 0, 1) := dk_3 (dk_at dksX4_write_0 1 rfl rfl)
theorem dX4_write_2 : decode cX4_write 2 = .ok (.putfield 1, 3) := dk_181 0 1 (dk_at dksX4_write_0 2 rfl rfl)
theorem dX4_write_5 : decode cX4_write 5 = .ok (.aload_n 0, 1) := dk_42 (dk_at dksX4_write_0 5 rfl rfl)
theorem dX4_write_6 : decode cX4_write 6 = .ok (.iload_n 1, 1) := dk_27 (dk_at dksX4_write_0 6 rfl rfl)
theorem dX4_write_7 : decode cX4_write 7 = .ok (.invokevirtual 319, 3) := dk_182 1 63 (dk_at dksX4_write_0 7 rfl rfl)
theorem dX4_write_10 : decode cX4_write 10 = .ok (.istore 5, 2) := dk_54 5 (dk_at dksX4_write_0 10 rfl rfl)
theorem dX4_write_12 : decode cX4_write 12 = .ok (.iload 5, 2) := dk_21 5 (dk_at dksX4_write_0 12 rfl rfl)
theorem dX4_write_14 : decode cX4_write 14 = .ok (.ifCond .eq 7, 3) := dk_153 0 7 (dk_at dksX4_write_0 14 rfl rfl)
theorem dX4_write_17 : decode cX4_write 17 = .ok (.iload 5, 2) := dk_21 5 (dk_at dksX4_write_0 17 rfl rfl)
theorem dX4_write_19 : decode cX4_write 19 = .ok (.i2l, 1) := dk_133 (dk_at dksX4_write_0 19 rfl rfl)
theorem dX4_write_20 : decode cX4_write 20 = .ok (.lreturn, 1) := dk_173 (dk_at dksX4_write_0 20 rfl rfl)
theorem dX4_write_21 : decode cX4_write 21 = .ok (.iload_n 2, 1) := dk_28 (dk_at dksX4_write_0 21 rfl rfl)
theorem dX4_write_22 : decode cX4_write 22 = .ok (.i2l, 1) := dk_133 (dk_at dksX4_write_0 22 rfl rfl)
theorem dX4_write_23 : decode cX4_write 23 = .ok (.lconst 0, 1) := dk_9 (dk_at dksX4_write_0 23 rfl rfl)
theorem dX4_write_24 : decode cX4_write 24 = .ok (.aload_n 0, 1) := dk_42 (dk_at dksX4_write_1 0 rfl rfl)
theorem dX4_write_25 : decode cX4_write 25 = .ok (.getfield 69, 3) := dk_180 0 69 (dk_at dksX4_write_1 1 rfl rfl)
theorem dX4_write_28 : decode cX4_write 28 = .ok (.iload_n 1, 1) := dk_27 (dk_at dksX4_write_1 4 rfl rfl)
theorem dX4_write_29 : decode cX4_write 29 = .ok (.iaload, 1) := dk_46 (dk_at dksX4_write_1 5 rfl rfl)
theorem dX4_write_30 : decode cX4_write 30 = .ok (.iconst 1, 1) := dk_4 (dk_at dksX4_write_1 6 rfl rfl)
theorem dX4_write_31 : decode cX4_write 31 = .ok (.isub, 1) := dk_100 (dk_at dksX4_write_1 7 rfl rfl)
theorem dX4_write_32 : decode cX4_write 32 = .ok (.i2l, 1) := dk_133 (dk_at dksX4_write_1 8 rfl rfl)
theorem dX4_write_33 : decode cX4_write 33 = .ok (.invokestatic 141, 3) := dk_184 0 141 (dk_at dksX4_write_1 9 rfl rfl)
theorem dX4_write_36 : decode cX4_write 36 = .ok (.ifCond .ne 7, 3) := dk_154 0 7 (dk_at dksX4_write_1 12 rfl rfl)
theorem dX4_write_39 : decode cX4_write 39 = .ok (.ldc2_w 444, 3) := dk_20 1 188 (dk_at dksX4_write_1 15 rfl rfl)
theorem dX4_write_42 : decode cX4_write 42 = .ok (.lreturn, 1) := dk_173 (dk_at dksX4_write_1 18 rfl rfl)
theorem dX4_write_43 : decode cX4_write 43 = .ok (.aload_n 0, 1) := dk_42 (dk_at dksX4_write_1 19 rfl rfl)
theorem dX4_write_44 : decode cX4_write 44 = .ok (.getfield 72, 3) := dk_180 0 72 (dk_at dksX4_write_1 20 rfl rfl)
theorem dX4_write_47 : decode cX4_write 47 = .ok (.bipush 40, 2) := dk_16 40 (dk_at dksX4_write_2 0 rfl rfl)
theorem dX4_write_49 : decode cX4_write 49 = .ok (.iload_n 1, 1) := dk_27 (dk_at dksX4_write_2 2 rfl rfl)
theorem dX4_write_50 : decode cX4_write 50 = .ok (.imul, 1) := dk_104 (dk_at dksX4_write_2 3 rfl rfl)
theorem dX4_write_51 : decode cX4_write 51 = .ok (.iload_n 2, 1) := dk_28 (dk_at dksX4_write_2 4 rfl rfl)
theorem dX4_write_52 : decode cX4_write 52 = .ok (.iadd, 1) := dk_96 (dk_at dksX4_write_2 5 rfl rfl)
theorem dX4_write_53 : decode cX4_write 53 = .ok (.lload_n 3, 1) := dk_33 (dk_at dksX4_write_2 6 rfl rfl)
theorem dX4_write_54 : decode cX4_write 54 = .ok (.aload_n 0, 1) := dk_42 (dk_at dksX4_write_2 7 rfl rfl)
theorem dX4_write_55 : decode cX4_write 55 = .ok (.getfield 66, 3) := dk_180 0 66 (dk_at dksX4_write_2 8 rfl rfl)
theorem dX4_write_58 : decode cX4_write 58 = .ok (.iload_n 1, 1) := dk_27 (dk_at dksX4_write_2 11 rfl rfl)
theorem dX4_write_59 : decode cX4_write 59 = .ok (.iaload, 1) := dk_46 (dk_at dksX4_write_2 12 rfl rfl)
theorem dX4_write_60 : decode cX4_write 60 = .ok (.invokestatic 446, 3) := dk_184 1 190 (dk_at dksX4_write_2 13 rfl rfl)
theorem dX4_write_63 : decode cX4_write 63 = .ok (.lastore, 1) := dk_80 (dk_at dksX4_write_2 16 rfl rfl)
theorem dX4_write_64 : decode cX4_write 64 = .ok (.aload_n 0, 1) := dk_42 (dk_at dksX4_write_2 17 rfl rfl)
theorem dX4_write_65 : decode cX4_write 65 = .ok (.getfield 72, 3) := dk_180 0 72 (dk_at dksX4_write_2 18 rfl rfl)
theorem dX4_write_68 : decode cX4_write 68 = .ok (.bipush 40, 2) := dk_16 40 (dk_at dksX4_write_2 21 rfl rfl)
theorem dX4_write_70 : decode cX4_write 70 = .ok (.iload_n 1, 1) := dk_27 (dk_at dksX4_write_2 23 rfl rfl)
theorem dX4_write_71 : decode cX4_write 71 = .ok (.imul, 1) := dk_104 (dk_at dksX4_write_3 0 rfl rfl)
theorem dX4_write_72 : decode cX4_write 72 = .ok (.iload_n 2, 1) := dk_28 (dk_at dksX4_write_3 1 rfl rfl)
theorem dX4_write_73 : decode cX4_write 73 = .ok (.iadd, 1) := dk_96 (dk_at dksX4_write_3 2 rfl rfl)
theorem dX4_write_74 : decode cX4_write 74 = .ok (.laload, 1) := dk_47 (dk_at dksX4_write_3 3 rfl rfl)
theorem dX4_write_75 : decode cX4_write 75 = .ok (.lreturn, 1) := dk_173 (dk_at dksX4_write_3 4 rfl rfl)
abbrev cX4_cut : ByteArray := prog_11_method_119_code
def yX4_cut : MethodName := ⟨RX4, "cut", "(JI)J"⟩
def dkwX4_cut_1 : List UInt8 := [5, 160, 0, 9, 30, 136, 133, 167, 0, 4, 30, 173]
abbrev dktX4_cut_1 : List UInt8 := dkwX4_cut_1 ++ []
def dkwX4_cut_0 : List UInt8 := [28, 154, 0, 10, 30, 136, 145, 133, 167, 0, 27, 28, 4, 160, 0, 10, 30, 136, 147, 133, 167, 0, 15, 28]
abbrev dktX4_cut_0 : List UInt8 := dkwX4_cut_0 ++ dktX4_cut_1
theorem dksX4_cut_0 : cX4_cut.data.toList.drop 0 = dktX4_cut_0 := by decide +kernel
theorem dksX4_cut_1 : cX4_cut.data.toList.drop 24 = dktX4_cut_1 := dk_seg dksX4_cut_0 24 rfl rfl
theorem dX4_cut_0 : decode cX4_cut 0 = .ok (.iload_n 2, 1) := dk_28 (dk_at dksX4_cut_0 0 rfl rfl)
theorem dX4_cut_1 : decode cX4_cut 1 = .ok (.ifCond .ne 10, 3) := dk_154 0 10 (dk_at dksX4_cut_0 1 rfl rfl)
theorem dX4_cut_4 : decode cX4_cut 4 = .ok (.lload_n 0, 1) := dk_30 (dk_at dksX4_cut_0 4 rfl rfl)
theorem dX4_cut_5 : decode cX4_cut 5 = .ok (.l2i, 1) := dk_136 (dk_at dksX4_cut_0 5 rfl rfl)
theorem dX4_cut_6 : decode cX4_cut 6 = .ok (.i2b, 1) := dk_145 (dk_at dksX4_cut_0 6 rfl rfl)
theorem dX4_cut_7 : decode cX4_cut 7 = .ok (.i2l, 1) := dk_133 (dk_at dksX4_cut_0 7 rfl rfl)
theorem dX4_cut_8 : decode cX4_cut 8 = .ok (.goto 27, 3) := dk_167 0 27 (dk_at dksX4_cut_0 8 rfl rfl)
theorem dX4_cut_11 : decode cX4_cut 11 = .ok (.iload_n 2, 1) := dk_28 (dk_at dksX4_cut_0 11 rfl rfl)
theorem dX4_cut_12 : decode cX4_cut 12 = .ok (.iconst 1, 1) := dk_4 (dk_at dksX4_cut_0 12 rfl rfl)
theorem dX4_cut_13 : decode cX4_cut 13 = .ok (.if_icmp .ne 10, 3) := dk_160 0 10 (dk_at dksX4_cut_0 13 rfl rfl)
theorem dX4_cut_16 : decode cX4_cut 16 = .ok (.lload_n 0, 1) := dk_30 (dk_at dksX4_cut_0 16 rfl rfl)
theorem dX4_cut_17 : decode cX4_cut 17 = .ok (.l2i, 1) := dk_136 (dk_at dksX4_cut_0 17 rfl rfl)
theorem dX4_cut_18 : decode cX4_cut 18 = .ok (.i2s, 1) := dk_147 (dk_at dksX4_cut_0 18 rfl rfl)
theorem dX4_cut_19 : decode cX4_cut 19 = .ok (.i2l, 1) := dk_133 (dk_at dksX4_cut_0 19 rfl rfl)
theorem dX4_cut_20 : decode cX4_cut 20 = .ok (.goto 15, 3) := dk_167 0 15 (dk_at dksX4_cut_0 20 rfl rfl)
theorem dX4_cut_23 : decode cX4_cut 23 = .ok (.iload_n 2, 1) := dk_28 (dk_at dksX4_cut_0 23 rfl rfl)
theorem dX4_cut_24 : decode cX4_cut 24 = .ok (.iconst 2, 1) := dk_5 (dk_at dksX4_cut_1 0 rfl rfl)
theorem dX4_cut_25 : decode cX4_cut 25 = .ok (.if_icmp .ne 9, 3) := dk_160 0 9 (dk_at dksX4_cut_1 1 rfl rfl)
theorem dX4_cut_28 : decode cX4_cut 28 = .ok (.lload_n 0, 1) := dk_30 (dk_at dksX4_cut_1 4 rfl rfl)
theorem dX4_cut_29 : decode cX4_cut 29 = .ok (.l2i, 1) := dk_136 (dk_at dksX4_cut_1 5 rfl rfl)
theorem dX4_cut_30 : decode cX4_cut 30 = .ok (.i2l, 1) := dk_133 (dk_at dksX4_cut_1 6 rfl rfl)
theorem dX4_cut_31 : decode cX4_cut 31 = .ok (.goto 4, 3) := dk_167 0 4 (dk_at dksX4_cut_1 7 rfl rfl)
theorem dX4_cut_34 : decode cX4_cut 34 = .ok (.lload_n 0, 1) := dk_30 (dk_at dksX4_cut_1 10 rfl rfl)
theorem dX4_cut_35 : decode cX4_cut 35 = .ok (.lreturn, 1) := dk_173 (dk_at dksX4_cut_1 11 rfl rfl)
abbrev cX4_lists : ByteArray := prog_11_method_122_code
def yX4_lists : MethodName := ⟨RX4, "lists", "(I)I"⟩
def dkwX4_lists_3 : List UInt8 := [180, 0, 69, 27, 46, 172]
abbrev dktX4_lists_3 : List UInt8 := dkwX4_lists_3 ++ []
def dkwX4_lists_2 : List UInt8 := [180, 0, 42, 29, 46, 133, 42, 180, 0, 66, 27, 46, 184, 1, 190, 80, 132, 3, 1, 167, 255, 216, 42]
abbrev dktX4_lists_2 : List UInt8 := dkwX4_lists_2 ++ dktX4_lists_3
def dkwX4_lists_1 : List UInt8 := [62, 29, 42, 180, 0, 69, 27, 46, 162, 0, 36, 42, 180, 0, 72, 16, 40, 27, 104, 29, 96, 42]
abbrev dktX4_lists_1 : List UInt8 := dkwX4_lists_1 ++ dktX4_lists_2
def dkwX4_lists_0 : List UInt8 := [42, 3, 181, 0, 1, 42, 27, 182, 1, 63, 61, 28, 153, 0, 5, 28, 172, 42, 16, 40, 182, 1, 90, 3]
abbrev dktX4_lists_0 : List UInt8 := dkwX4_lists_0 ++ dktX4_lists_1
theorem dksX4_lists_0 : cX4_lists.data.toList.drop 0 = dktX4_lists_0 := by decide +kernel
theorem dksX4_lists_1 : cX4_lists.data.toList.drop 24 = dktX4_lists_1 := dk_seg dksX4_lists_0 24 rfl rfl
theorem dksX4_lists_2 : cX4_lists.data.toList.drop 46 = dktX4_lists_2 := dk_seg dksX4_lists_1 22 rfl rfl
theorem dksX4_lists_3 : cX4_lists.data.toList.drop 69 = dktX4_lists_3 := dk_seg dksX4_lists_2 23 rfl rfl
theorem dX4_lists_0 : decode cX4_lists 0 = .ok (.aload_n 0, 1) := dk_42 (dk_at dksX4_lists_0 0 rfl rfl)
theorem dX4_lists_1 : decode cX4_lists 1 = .ok (.iconst 0, 1) := dk_3 (dk_at dksX4_lists_0 1 rfl rfl)
theorem dX4_lists_2 : decode cX4_lists 2 = .ok (.putfield 1, 3) := dk_181 0 1 (dk_at dksX4_lists_0 2 rfl rfl)
theorem dX4_lists_5 : decode cX4_lists 5 = .ok (.aload_n 0, 1) := dk_42 (dk_at dksX4_lists_0 5 rfl rfl)
theorem dX4_lists_6 : decode cX4_lists 6 = .ok (.iload_n 1, 1) := dk_27 (dk_at dksX4_lists_0 6 rfl rfl)
theorem dX4_lists_7 : decode cX4_lists 7 = .ok (.invokevirtual 319, 3) := dk_182 1 63 (dk_at dksX4_lists_0 7 rfl rfl)
theorem dX4_lists_10 : decode cX4_lists 10 = .ok (.istore_n 2, 1) := dk_61 (dk_at dksX4_lists_0 10 rfl rfl)
theorem dX4_lists_11 : decode cX4_lists 11 = .ok (.iload_n 2, 1) := dk_28 (dk_at dksX4_lists_0 11 rfl rfl)
theorem dX4_lists_12 : decode cX4_lists 12 = .ok (.ifCond .eq 5, 3) := dk_153 0 5 (dk_at dksX4_lists_0 12 rfl rfl)
theorem dX4_lists_15 : decode cX4_lists 15 = .ok (.iload_n 2, 1) := dk_28 (dk_at dksX4_lists_0 15 rfl rfl)
theorem dX4_lists_16 : decode cX4_lists 16 = .ok (.ireturn, 1) := dk_172 (dk_at dksX4_lists_0 16 rfl rfl)
theorem dX4_lists_17 : decode cX4_lists 17 = .ok (.aload_n 0, 1) := dk_42 (dk_at dksX4_lists_0 17 rfl rfl)
theorem dX4_lists_18 : decode cX4_lists 18 = .ok (.bipush 40, 2) := dk_16 40 (dk_at dksX4_lists_0 18 rfl rfl)
theorem dX4_lists_20 : decode cX4_lists 20 = .ok (.invokevirtual 346, 3) := dk_182 1 90 (dk_at dksX4_lists_0 20 rfl rfl)
theorem dX4_lists_23 : decode cX4_lists 23 = .ok (.iconst 0, 1) := dk_3 (dk_at dksX4_lists_0 23 rfl rfl)
theorem dX4_lists_24 : decode cX4_lists 24 = .ok (.istore_n 3, 1) := dk_62 (dk_at dksX4_lists_1 0 rfl rfl)
theorem dX4_lists_25 : decode cX4_lists 25 = .ok (.iload_n 3, 1) := dk_29 (dk_at dksX4_lists_1 1 rfl rfl)
theorem dX4_lists_26 : decode cX4_lists 26 = .ok (.aload_n 0, 1) := dk_42 (dk_at dksX4_lists_1 2 rfl rfl)
theorem dX4_lists_27 : decode cX4_lists 27 = .ok (.getfield 69, 3) := dk_180 0 69 (dk_at dksX4_lists_1 3 rfl rfl)
theorem dX4_lists_30 : decode cX4_lists 30 = .ok (.iload_n 1, 1) := dk_27 (dk_at dksX4_lists_1 6 rfl rfl)
theorem dX4_lists_31 : decode cX4_lists 31 = .ok (.iaload, 1) := dk_46 (dk_at dksX4_lists_1 7 rfl rfl)
theorem dX4_lists_32 : decode cX4_lists 32 = .ok (.if_icmp .ge 36, 3) := dk_162 0 36 (dk_at dksX4_lists_1 8 rfl rfl)
theorem dX4_lists_35 : decode cX4_lists 35 = .ok (.aload_n 0, 1) := dk_42 (dk_at dksX4_lists_1 11 rfl rfl)
theorem dX4_lists_36 : decode cX4_lists 36 = .ok (.getfield 72, 3) := dk_180 0 72 (dk_at dksX4_lists_1 12 rfl rfl)
theorem dX4_lists_39 : decode cX4_lists 39 = .ok (.bipush 40, 2) := dk_16 40 (dk_at dksX4_lists_1 15 rfl rfl)
theorem dX4_lists_41 : decode cX4_lists 41 = .ok (.iload_n 1, 1) := dk_27 (dk_at dksX4_lists_1 17 rfl rfl)
theorem dX4_lists_42 : decode cX4_lists 42 = .ok (.imul, 1) := dk_104 (dk_at dksX4_lists_1 18 rfl rfl)
theorem dX4_lists_43 : decode cX4_lists 43 = .ok (.iload_n 3, 1) := dk_29 (dk_at dksX4_lists_1 19 rfl rfl)
theorem dX4_lists_44 : decode cX4_lists 44 = .ok (.iadd, 1) := dk_96 (dk_at dksX4_lists_1 20 rfl rfl)
theorem dX4_lists_45 : decode cX4_lists 45 = .ok (.aload_n 0, 1) := dk_42 (dk_at dksX4_lists_1 21 rfl rfl)
theorem dX4_lists_46 : decode cX4_lists 46 = .ok (.getfield 42, 3) := dk_180 0 42 (dk_at dksX4_lists_2 0 rfl rfl)
theorem dX4_lists_49 : decode cX4_lists 49 = .ok (.iload_n 3, 1) := dk_29 (dk_at dksX4_lists_2 3 rfl rfl)
theorem dX4_lists_50 : decode cX4_lists 50 = .ok (.iaload, 1) := dk_46 (dk_at dksX4_lists_2 4 rfl rfl)
theorem dX4_lists_51 : decode cX4_lists 51 = .ok (.i2l, 1) := dk_133 (dk_at dksX4_lists_2 5 rfl rfl)
theorem dX4_lists_52 : decode cX4_lists 52 = .ok (.aload_n 0, 1) := dk_42 (dk_at dksX4_lists_2 6 rfl rfl)
theorem dX4_lists_53 : decode cX4_lists 53 = .ok (.getfield 66, 3) := dk_180 0 66 (dk_at dksX4_lists_2 7 rfl rfl)
theorem dX4_lists_56 : decode cX4_lists 56 = .ok (.iload_n 1, 1) := dk_27 (dk_at dksX4_lists_2 10 rfl rfl)
theorem dX4_lists_57 : decode cX4_lists 57 = .ok (.iaload, 1) := dk_46 (dk_at dksX4_lists_2 11 rfl rfl)
theorem dX4_lists_58 : decode cX4_lists 58 = .ok (.invokestatic 446, 3) := dk_184 1 190 (dk_at dksX4_lists_2 12 rfl rfl)
theorem dX4_lists_61 : decode cX4_lists 61 = .ok (.lastore, 1) := dk_80 (dk_at dksX4_lists_2 15 rfl rfl)
theorem dX4_lists_62 : decode cX4_lists 62 = .ok (.iinc 3 1, 3) := dk_132 3 1 (dk_at dksX4_lists_2 16 rfl rfl)
theorem dX4_lists_65 : decode cX4_lists 65 = .ok (.goto (-40), 3) := dk_167 255 216 (dk_at dksX4_lists_2 19 rfl rfl)
theorem dX4_lists_68 : decode cX4_lists 68 = .ok (.aload_n 0, 1) := dk_42 (dk_at dksX4_lists_2 22 rfl rfl)
theorem dX4_lists_69 : decode cX4_lists 69 = .ok (.getfield 69, 3) := dk_180 0 69 (dk_at dksX4_lists_3 0 rfl rfl)
theorem dX4_lists_72 : decode cX4_lists 72 = .ok (.iload_n 1, 1) := dk_27 (dk_at dksX4_lists_3 3 rfl rfl)
theorem dX4_lists_73 : decode cX4_lists 73 = .ok (.iaload, 1) := dk_46 (dk_at dksX4_lists_3 4 rfl rfl)
theorem dX4_lists_74 : decode cX4_lists 74 = .ok (.ireturn, 1) := dk_172 (dk_at dksX4_lists_3 5 rfl rfl)
abbrev cX4_image : ByteArray := prog_11_method_123_code
def yX4_image : MethodName := ⟨RX4, "image", "(I)I"⟩
def dkwX4_image_2 : List UInt8 := [132, 2, 1, 167, 255, 226, 42, 180, 0, 17, 27, 4, 84, 3, 172]
abbrev dktX4_image_2 : List UInt8 := dkwX4_image_2 ++ []
def dkwX4_image_1 : List UInt8 := [162, 0, 29, 42, 180, 0, 13, 17, 4, 174, 27, 4, 96, 104, 28, 96, 42, 180, 0, 13, 28, 46, 79]
abbrev dktX4_image_1 : List UInt8 := dkwX4_image_1 ++ dktX4_image_2
def dkwX4_image_0 : List UInt8 := [42, 3, 181, 0, 1, 27, 133, 9, 10, 184, 0, 141, 154, 0, 6, 16, 254, 172, 3, 61, 28, 17, 4, 174]
abbrev dktX4_image_0 : List UInt8 := dkwX4_image_0 ++ dktX4_image_1
theorem dksX4_image_0 : cX4_image.data.toList.drop 0 = dktX4_image_0 := by decide +kernel
theorem dksX4_image_1 : cX4_image.data.toList.drop 24 = dktX4_image_1 := dk_seg dksX4_image_0 24 rfl rfl
theorem dksX4_image_2 : cX4_image.data.toList.drop 47 = dktX4_image_2 := dk_seg dksX4_image_1 23 rfl rfl
theorem dX4_image_0 : decode cX4_image 0 = .ok (.aload_n 0, 1) := dk_42 (dk_at dksX4_image_0 0 rfl rfl)
theorem dX4_image_1 : decode cX4_image 1 = .ok (.iconst 0, 1) := dk_3 (dk_at dksX4_image_0 1 rfl rfl)
theorem dX4_image_2 : decode cX4_image 2 = .ok (.putfield 1, 3) := dk_181 0 1 (dk_at dksX4_image_0 2 rfl rfl)
theorem dX4_image_5 : decode cX4_image 5 = .ok (.iload_n 1, 1) := dk_27 (dk_at dksX4_image_0 5 rfl rfl)
theorem dX4_image_6 : decode cX4_image 6 = .ok (.i2l, 1) := dk_133 (dk_at dksX4_image_0 6 rfl rfl)
theorem dX4_image_7 : decode cX4_image 7 = .ok (.lconst 0, 1) := dk_9 (dk_at dksX4_image_0 7 rfl rfl)
theorem dX4_image_8 : decode cX4_image 8 = .ok (.lconst 1, 1) := dk_10 (dk_at dksX4_image_0 8 rfl rfl)
theorem dX4_image_9 : decode cX4_image 9 = .ok (.invokestatic 141, 3) := dk_184 0 141 (dk_at dksX4_image_0 9 rfl rfl)
theorem dX4_image_12 : decode cX4_image 12 = .ok (.ifCond .ne 6, 3) := dk_154 0 6 (dk_at dksX4_image_0 12 rfl rfl)
theorem dX4_image_15 : decode cX4_image 15 = .ok (.bipush (-2), 2) := dk_16 254 (dk_at dksX4_image_0 15 rfl rfl)
theorem dX4_image_17 : decode cX4_image 17 = .ok (.ireturn, 1) := dk_172 (dk_at dksX4_image_0 17 rfl rfl)
theorem dX4_image_18 : decode cX4_image 18 = .ok (.iconst 0, 1) := dk_3 (dk_at dksX4_image_0 18 rfl rfl)
theorem dX4_image_19 : decode cX4_image 19 = .ok (.istore_n 2, 1) := dk_61 (dk_at dksX4_image_0 19 rfl rfl)
theorem dX4_image_20 : decode cX4_image 20 = .ok (.iload_n 2, 1) := dk_28 (dk_at dksX4_image_0 20 rfl rfl)
theorem dX4_image_21 : decode cX4_image 21 = .ok (.sipush 1198, 3) := dk_17 4 174 (dk_at dksX4_image_0 21 rfl rfl)
theorem dX4_image_24 : decode cX4_image 24 = .ok (.if_icmp .ge 29, 3) := dk_162 0 29 (dk_at dksX4_image_1 0 rfl rfl)
theorem dX4_image_27 : decode cX4_image 27 = .ok (.aload_n 0, 1) := dk_42 (dk_at dksX4_image_1 3 rfl rfl)
theorem dX4_image_28 : decode cX4_image 28 = .ok (.getfield 13, 3) := dk_180 0 13 (dk_at dksX4_image_1 4 rfl rfl)
theorem dX4_image_31 : decode cX4_image 31 = .ok (.sipush 1198, 3) := dk_17 4 174 (dk_at dksX4_image_1 7 rfl rfl)
theorem dX4_image_34 : decode cX4_image 34 = .ok (.iload_n 1, 1) := dk_27 (dk_at dksX4_image_1 10 rfl rfl)
theorem dX4_image_35 : decode cX4_image 35 = .ok (.iconst 1, 1) := dk_4 (dk_at dksX4_image_1 11 rfl rfl)
theorem dX4_image_36 : decode cX4_image 36 = .ok (.iadd, 1) := dk_96 (dk_at dksX4_image_1 12 rfl rfl)
theorem dX4_image_37 : decode cX4_image 37 = .ok (.imul, 1) := dk_104 (dk_at dksX4_image_1 13 rfl rfl)
theorem dX4_image_38 : decode cX4_image 38 = .ok (.iload_n 2, 1) := dk_28 (dk_at dksX4_image_1 14 rfl rfl)
theorem dX4_image_39 : decode cX4_image 39 = .ok (.iadd, 1) := dk_96 (dk_at dksX4_image_1 15 rfl rfl)
theorem dX4_image_40 : decode cX4_image 40 = .ok (.aload_n 0, 1) := dk_42 (dk_at dksX4_image_1 16 rfl rfl)
theorem dX4_image_41 : decode cX4_image 41 = .ok (.getfield 13, 3) := dk_180 0 13 (dk_at dksX4_image_1 17 rfl rfl)
theorem dX4_image_44 : decode cX4_image 44 = .ok (.iload_n 2, 1) := dk_28 (dk_at dksX4_image_1 20 rfl rfl)
theorem dX4_image_45 : decode cX4_image 45 = .ok (.iaload, 1) := dk_46 (dk_at dksX4_image_1 21 rfl rfl)
theorem dX4_image_46 : decode cX4_image 46 = .ok (.iastore, 1) := dk_79 (dk_at dksX4_image_1 22 rfl rfl)
theorem dX4_image_47 : decode cX4_image 47 = .ok (.iinc 2 1, 3) := dk_132 2 1 (dk_at dksX4_image_2 0 rfl rfl)
theorem dX4_image_50 : decode cX4_image 50 = .ok (.goto (-30), 3) := dk_167 255 226 (dk_at dksX4_image_2 3 rfl rfl)
theorem dX4_image_53 : decode cX4_image 53 = .ok (.aload_n 0, 1) := dk_42 (dk_at dksX4_image_2 6 rfl rfl)
theorem dX4_image_54 : decode cX4_image 54 = .ok (.getfield 17, 3) := dk_180 0 17 (dk_at dksX4_image_2 7 rfl rfl)
theorem dX4_image_57 : decode cX4_image 57 = .ok (.iload_n 1, 1) := dk_27 (dk_at dksX4_image_2 10 rfl rfl)
theorem dX4_image_58 : decode cX4_image 58 = .ok (.iconst 1, 1) := dk_4 (dk_at dksX4_image_2 11 rfl rfl)
theorem dX4_image_59 : decode cX4_image 59 = .ok (.bastore, 1) := dk_84 (dk_at dksX4_image_2 12 rfl rfl)
theorem dX4_image_60 : decode cX4_image 60 = .ok (.iconst 0, 1) := dk_3 (dk_at dksX4_image_2 13 rfl rfl)
theorem dX4_image_61 : decode cX4_image 61 = .ok (.ireturn, 1) := dk_172 (dk_at dksX4_image_2 14 rfl rfl)
abbrev cX4_restore : ByteArray := prog_11_method_124_code
def yX4_restore : MethodName := ⟨RX4, "restore", "(I)I"⟩
def dkwX4_restore_3 : List UInt8 := [79, 3, 172]
abbrev dktX4_restore_3 : List UInt8 := dkwX4_restore_3 ++ []
def dkwX4_restore_2 : List UInt8 := [17, 4, 174, 27, 4, 96, 104, 28, 96, 46, 79, 132, 2, 1, 167, 255, 226, 42, 180, 0, 13, 16, 66, 3]
abbrev dktX4_restore_2 : List UInt8 := dkwX4_restore_2 ++ dktX4_restore_3
def dkwX4_restore_1 : List UInt8 := [154, 0, 6, 16, 251, 172, 3, 61, 28, 17, 4, 174, 162, 0, 29, 42, 180, 0, 13, 28, 42, 180, 0, 13]
abbrev dktX4_restore_1 : List UInt8 := dkwX4_restore_1 ++ dktX4_restore_2
def dkwX4_restore_0 : List UInt8 := [42, 3, 181, 0, 1, 27, 133, 9, 10, 184, 0, 141, 154, 0, 6, 16, 254, 172, 42, 180, 0, 17, 27, 51]
abbrev dktX4_restore_0 : List UInt8 := dkwX4_restore_0 ++ dktX4_restore_1
theorem dksX4_restore_0 : cX4_restore.data.toList.drop 0 = dktX4_restore_0 := by decide +kernel
theorem dksX4_restore_1 : cX4_restore.data.toList.drop 24 = dktX4_restore_1 := dk_seg dksX4_restore_0 24 rfl rfl
theorem dksX4_restore_2 : cX4_restore.data.toList.drop 48 = dktX4_restore_2 := dk_seg dksX4_restore_1 24 rfl rfl
theorem dksX4_restore_3 : cX4_restore.data.toList.drop 72 = dktX4_restore_3 := dk_seg dksX4_restore_2 24 rfl rfl
theorem dX4_restore_0 : decode cX4_restore 0 = .ok (.aload_n 0, 1) := dk_42 (dk_at dksX4_restore_0 0 rfl rfl)
theorem dX4_restore_1 : decode cX4_restore 1 = .ok (.iconst 0, 1) := dk_3 (dk_at dksX4_restore_0 1 rfl rfl)
theorem dX4_restore_2 : decode cX4_restore 2 = .ok (.putfield 1, 3) := dk_181 0 1 (dk_at dksX4_restore_0 2 rfl rfl)
theorem dX4_restore_5 : decode cX4_restore 5 = .ok (.iload_n 1, 1) := dk_27 (dk_at dksX4_restore_0 5 rfl rfl)
theorem dX4_restore_6 : decode cX4_restore 6 = .ok (.i2l, 1) := dk_133 (dk_at dksX4_restore_0 6 rfl rfl)
theorem dX4_restore_7 : decode cX4_restore 7 = .ok (.lconst 0, 1) := dk_9 (dk_at dksX4_restore_0 7 rfl rfl)
theorem dX4_restore_8 : decode cX4_restore 8 = .ok (.lconst 1, 1) := dk_10 (dk_at dksX4_restore_0 8 rfl rfl)
theorem dX4_restore_9 : decode cX4_restore 9 = .ok (.invokestatic 141, 3) := dk_184 0 141 (dk_at dksX4_restore_0 9 rfl rfl)
theorem dX4_restore_12 : decode cX4_restore 12 = .ok (.ifCond .ne 6, 3) := dk_154 0 6 (dk_at dksX4_restore_0 12 rfl rfl)
theorem dX4_restore_15 : decode cX4_restore 15 = .ok (.bipush (-2), 2) := dk_16 254 (dk_at dksX4_restore_0 15 rfl rfl)
theorem dX4_restore_17 : decode cX4_restore 17 = .ok (.ireturn, 1) := dk_172 (dk_at dksX4_restore_0 17 rfl rfl)
theorem dX4_restore_18 : decode cX4_restore 18 = .ok (.aload_n 0, 1) := dk_42 (dk_at dksX4_restore_0 18 rfl rfl)
theorem dX4_restore_19 : decode cX4_restore 19 = .ok (.getfield 17, 3) := dk_180 0 17 (dk_at dksX4_restore_0 19 rfl rfl)
theorem dX4_restore_22 : decode cX4_restore 22 = .ok (.iload_n 1, 1) := dk_27 (dk_at dksX4_restore_0 22 rfl rfl)
theorem dX4_restore_23 : decode cX4_restore 23 = .ok (.baload, 1) := dk_51 (dk_at dksX4_restore_0 23 rfl rfl)
theorem dX4_restore_24 : decode cX4_restore 24 = .ok (.ifCond .ne 6, 3) := dk_154 0 6 (dk_at dksX4_restore_1 0 rfl rfl)
theorem dX4_restore_27 : decode cX4_restore 27 = .ok (.bipush (-5), 2) := dk_16 251 (dk_at dksX4_restore_1 3 rfl rfl)
theorem dX4_restore_29 : decode cX4_restore 29 = .ok (.ireturn, 1) := dk_172 (dk_at dksX4_restore_1 5 rfl rfl)
theorem dX4_restore_30 : decode cX4_restore 30 = .ok (.iconst 0, 1) := dk_3 (dk_at dksX4_restore_1 6 rfl rfl)
theorem dX4_restore_31 : decode cX4_restore 31 = .ok (.istore_n 2, 1) := dk_61 (dk_at dksX4_restore_1 7 rfl rfl)
theorem dX4_restore_32 : decode cX4_restore 32 = .ok (.iload_n 2, 1) := dk_28 (dk_at dksX4_restore_1 8 rfl rfl)
theorem dX4_restore_33 : decode cX4_restore 33 = .ok (.sipush 1198, 3) := dk_17 4 174 (dk_at dksX4_restore_1 9 rfl rfl)
theorem dX4_restore_36 : decode cX4_restore 36 = .ok (.if_icmp .ge 29, 3) := dk_162 0 29 (dk_at dksX4_restore_1 12 rfl rfl)
theorem dX4_restore_39 : decode cX4_restore 39 = .ok (.aload_n 0, 1) := dk_42 (dk_at dksX4_restore_1 15 rfl rfl)
theorem dX4_restore_40 : decode cX4_restore 40 = .ok (.getfield 13, 3) := dk_180 0 13 (dk_at dksX4_restore_1 16 rfl rfl)
theorem dX4_restore_43 : decode cX4_restore 43 = .ok (.iload_n 2, 1) := dk_28 (dk_at dksX4_restore_1 19 rfl rfl)
theorem dX4_restore_44 : decode cX4_restore 44 = .ok (.aload_n 0, 1) := dk_42 (dk_at dksX4_restore_1 20 rfl rfl)
theorem dX4_restore_45 : decode cX4_restore 45 = .ok (.getfield 13, 3) := dk_180 0 13 (dk_at dksX4_restore_1 21 rfl rfl)
theorem dX4_restore_48 : decode cX4_restore 48 = .ok (.sipush 1198, 3) := dk_17 4 174 (dk_at dksX4_restore_2 0 rfl rfl)
theorem dX4_restore_51 : decode cX4_restore 51 = .ok (.iload_n 1, 1) := dk_27 (dk_at dksX4_restore_2 3 rfl rfl)
theorem dX4_restore_52 : decode cX4_restore 52 = .ok (.iconst 1, 1) := dk_4 (dk_at dksX4_restore_2 4 rfl rfl)
theorem dX4_restore_53 : decode cX4_restore 53 = .ok (.iadd, 1) := dk_96 (dk_at dksX4_restore_2 5 rfl rfl)
theorem dX4_restore_54 : decode cX4_restore 54 = .ok (.imul, 1) := dk_104 (dk_at dksX4_restore_2 6 rfl rfl)
theorem dX4_restore_55 : decode cX4_restore 55 = .ok (.iload_n 2, 1) := dk_28 (dk_at dksX4_restore_2 7 rfl rfl)
theorem dX4_restore_56 : decode cX4_restore 56 = .ok (.iadd, 1) := dk_96 (dk_at dksX4_restore_2 8 rfl rfl)
theorem dX4_restore_57 : decode cX4_restore 57 = .ok (.iaload, 1) := dk_46 (dk_at dksX4_restore_2 9 rfl rfl)
theorem dX4_restore_58 : decode cX4_restore 58 = .ok (.iastore, 1) := dk_79 (dk_at dksX4_restore_2 10 rfl rfl)
theorem dX4_restore_59 : decode cX4_restore 59 = .ok (.iinc 2 1, 3) := dk_132 2 1 (dk_at dksX4_restore_2 11 rfl rfl)
theorem dX4_restore_62 : decode cX4_restore 62 = .ok (.goto (-30), 3) := dk_167 255 226 (dk_at dksX4_restore_2 14 rfl rfl)
theorem dX4_restore_65 : decode cX4_restore 65 = .ok (.aload_n 0, 1) := dk_42 (dk_at dksX4_restore_2 17 rfl rfl)
theorem dX4_restore_66 : decode cX4_restore 66 = .ok (.getfield 13, 3) := dk_180 0 13 (dk_at dksX4_restore_2 18 rfl rfl)
theorem dX4_restore_69 : decode cX4_restore 69 = .ok (.bipush 66, 2) := dk_16 66 (dk_at dksX4_restore_2 21 rfl rfl)
theorem dX4_restore_71 : decode cX4_restore 71 = .ok (.iconst 0, 1) := dk_3 (dk_at dksX4_restore_2 23 rfl rfl)
theorem dX4_restore_72 : decode cX4_restore 72 = .ok (.iastore, 1) := dk_79 (dk_at dksX4_restore_3 0 rfl rfl)
theorem dX4_restore_73 : decode cX4_restore 73 = .ok (.iconst 0, 1) := dk_3 (dk_at dksX4_restore_3 1 rfl rfl)
theorem dX4_restore_74 : decode cX4_restore 74 = .ok (.ireturn, 1) := dk_172 (dk_at dksX4_restore_3 2 rfl rfl)
abbrev cX4_count : ByteArray := prog_11_method_127_code
def yX4_count : MethodName := ⟨RX4, "count", "(I)I"⟩
def dkwX4_count_5 : List UInt8 := [180, 0, 79, 172, 42, 180, 0, 13, 3, 46, 172, 2, 172]
abbrev dktX4_count_5 : List UInt8 := dkwX4_count_5 ++ []
def dkwX4_count_4 : List UInt8 := [42, 180, 0, 13, 4, 46, 42, 182, 1, 194, 100, 100, 172, 42, 180, 0, 13, 16, 66, 46, 172, 42]
abbrev dktX4_count_4 : List UInt8 := dkwX4_count_4 ++ dktX4_count_5
def dkwX4_count_3 : List UInt8 := [16, 41, 46, 172, 42, 180, 0, 13, 16, 42, 46, 172, 42, 182, 1, 197, 172, 42, 180, 0, 13, 16, 20, 46]
abbrev dktX4_count_3 : List UInt8 := dkwX4_count_3 ++ dktX4_count_4
def dkwX4_count_2 : List UInt8 := [42, 180, 0, 13, 16, 20, 46, 172, 42, 180, 0, 13, 4, 46, 172, 42, 182, 1, 194, 172, 42, 180, 0, 13]
abbrev dktX4_count_2 : List UInt8 := dkwX4_count_2 ++ dktX4_count_3
def dkwX4_count_1 : List UInt8 := [170, 0, 0, 0, 0, 135, 0, 0, 0, 0, 0, 0, 0, 9, 0, 0, 0, 54, 0, 0, 0, 62, 0, 0, 0, 69, 0, 0, 0, 74, 0, 0, 0, 82, 0, 0, 0, 90, 0, 0, 0, 95, 0, 0, 0, 115, 0, 0, 0, 123, 0, 0, 0, 128]
abbrev dktX4_count_1 : List UInt8 := dkwX4_count_1 ++ dktX4_count_2
def dkwX4_count_0 : List UInt8 := [42, 3, 181, 0, 1, 27]
abbrev dktX4_count_0 : List UInt8 := dkwX4_count_0 ++ dktX4_count_1
theorem dksX4_count_0 : cX4_count.data.toList.drop 0 = dktX4_count_0 := by decide +kernel
theorem dksX4_count_1 : cX4_count.data.toList.drop 6 = dktX4_count_1 := dk_seg dksX4_count_0 6 rfl rfl
theorem dksX4_count_2 : cX4_count.data.toList.drop 60 = dktX4_count_2 := dk_seg dksX4_count_1 54 rfl rfl
theorem dksX4_count_3 : cX4_count.data.toList.drop 84 = dktX4_count_3 := dk_seg dksX4_count_2 24 rfl rfl
theorem dksX4_count_4 : cX4_count.data.toList.drop 108 = dktX4_count_4 := dk_seg dksX4_count_3 24 rfl rfl
theorem dksX4_count_5 : cX4_count.data.toList.drop 130 = dktX4_count_5 := dk_seg dksX4_count_4 22 rfl rfl
theorem dX4_count_0 : decode cX4_count 0 = .ok (.aload_n 0, 1) := dk_42 (dk_at dksX4_count_0 0 rfl rfl)
theorem dX4_count_1 : decode cX4_count 1 = .ok (.iconst 0, 1) := dk_3 (dk_at dksX4_count_0 1 rfl rfl)
theorem dX4_count_2 : decode cX4_count 2 = .ok (.putfield 1, 3) := dk_181 0 1 (dk_at dksX4_count_0 2 rfl rfl)
theorem dX4_count_5 : decode cX4_count 5 = .ok (.iload_n 1, 1) := dk_27 (dk_at dksX4_count_0 5 rfl rfl)
theorem dX4_count_6 : decode cX4_count 6 = .ok (.tableswitch 135 0 9 #[54, 62, 69, 74, 82, 90, 95, 115, 123, 128], 54) := by decide +kernel
theorem dX4_count_60 : decode cX4_count 60 = .ok (.aload_n 0, 1) := dk_42 (dk_at dksX4_count_2 0 rfl rfl)
theorem dX4_count_61 : decode cX4_count 61 = .ok (.getfield 13, 3) := dk_180 0 13 (dk_at dksX4_count_2 1 rfl rfl)
theorem dX4_count_64 : decode cX4_count 64 = .ok (.bipush 20, 2) := dk_16 20 (dk_at dksX4_count_2 4 rfl rfl)
theorem dX4_count_66 : decode cX4_count 66 = .ok (.iaload, 1) := dk_46 (dk_at dksX4_count_2 6 rfl rfl)
theorem dX4_count_67 : decode cX4_count 67 = .ok (.ireturn, 1) := dk_172 (dk_at dksX4_count_2 7 rfl rfl)
theorem dX4_count_68 : decode cX4_count 68 = .ok (.aload_n 0, 1) := dk_42 (dk_at dksX4_count_2 8 rfl rfl)
theorem dX4_count_69 : decode cX4_count 69 = .ok (.getfield 13, 3) := dk_180 0 13 (dk_at dksX4_count_2 9 rfl rfl)
theorem dX4_count_72 : decode cX4_count 72 = .ok (.iconst 1, 1) := dk_4 (dk_at dksX4_count_2 12 rfl rfl)
theorem dX4_count_73 : decode cX4_count 73 = .ok (.iaload, 1) := dk_46 (dk_at dksX4_count_2 13 rfl rfl)
theorem dX4_count_74 : decode cX4_count 74 = .ok (.ireturn, 1) := dk_172 (dk_at dksX4_count_2 14 rfl rfl)
theorem dX4_count_75 : decode cX4_count 75 = .ok (.aload_n 0, 1) := dk_42 (dk_at dksX4_count_2 15 rfl rfl)
theorem dX4_count_76 : decode cX4_count 76 = .ok (.invokevirtual 450, 3) := dk_182 1 194 (dk_at dksX4_count_2 16 rfl rfl)
theorem dX4_count_79 : decode cX4_count 79 = .ok (.ireturn, 1) := dk_172 (dk_at dksX4_count_2 19 rfl rfl)
theorem dX4_count_80 : decode cX4_count 80 = .ok (.aload_n 0, 1) := dk_42 (dk_at dksX4_count_2 20 rfl rfl)
theorem dX4_count_81 : decode cX4_count 81 = .ok (.getfield 13, 3) := dk_180 0 13 (dk_at dksX4_count_2 21 rfl rfl)
theorem dX4_count_84 : decode cX4_count 84 = .ok (.bipush 41, 2) := dk_16 41 (dk_at dksX4_count_3 0 rfl rfl)
theorem dX4_count_86 : decode cX4_count 86 = .ok (.iaload, 1) := dk_46 (dk_at dksX4_count_3 2 rfl rfl)
theorem dX4_count_87 : decode cX4_count 87 = .ok (.ireturn, 1) := dk_172 (dk_at dksX4_count_3 3 rfl rfl)
theorem dX4_count_88 : decode cX4_count 88 = .ok (.aload_n 0, 1) := dk_42 (dk_at dksX4_count_3 4 rfl rfl)
theorem dX4_count_89 : decode cX4_count 89 = .ok (.getfield 13, 3) := dk_180 0 13 (dk_at dksX4_count_3 5 rfl rfl)
theorem dX4_count_92 : decode cX4_count 92 = .ok (.bipush 42, 2) := dk_16 42 (dk_at dksX4_count_3 8 rfl rfl)
theorem dX4_count_94 : decode cX4_count 94 = .ok (.iaload, 1) := dk_46 (dk_at dksX4_count_3 10 rfl rfl)
theorem dX4_count_95 : decode cX4_count 95 = .ok (.ireturn, 1) := dk_172 (dk_at dksX4_count_3 11 rfl rfl)
theorem dX4_count_96 : decode cX4_count 96 = .ok (.aload_n 0, 1) := dk_42 (dk_at dksX4_count_3 12 rfl rfl)
theorem dX4_count_97 : decode cX4_count 97 = .ok (.invokevirtual 453, 3) := dk_182 1 197 (dk_at dksX4_count_3 13 rfl rfl)
theorem dX4_count_100 : decode cX4_count 100 = .ok (.ireturn, 1) := dk_172 (dk_at dksX4_count_3 16 rfl rfl)
theorem dX4_count_101 : decode cX4_count 101 = .ok (.aload_n 0, 1) := dk_42 (dk_at dksX4_count_3 17 rfl rfl)
theorem dX4_count_102 : decode cX4_count 102 = .ok (.getfield 13, 3) := dk_180 0 13 (dk_at dksX4_count_3 18 rfl rfl)
theorem dX4_count_105 : decode cX4_count 105 = .ok (.bipush 20, 2) := dk_16 20 (dk_at dksX4_count_3 21 rfl rfl)
theorem dX4_count_107 : decode cX4_count 107 = .ok (.iaload, 1) := dk_46 (dk_at dksX4_count_3 23 rfl rfl)
theorem dX4_count_108 : decode cX4_count 108 = .ok (.aload_n 0, 1) := dk_42 (dk_at dksX4_count_4 0 rfl rfl)
theorem dX4_count_109 : decode cX4_count 109 = .ok (.getfield 13, 3) := dk_180 0 13 (dk_at dksX4_count_4 1 rfl rfl)
theorem dX4_count_112 : decode cX4_count 112 = .ok (.iconst 1, 1) := dk_4 (dk_at dksX4_count_4 4 rfl rfl)
theorem dX4_count_113 : decode cX4_count 113 = .ok (.iaload, 1) := dk_46 (dk_at dksX4_count_4 5 rfl rfl)
theorem dX4_count_114 : decode cX4_count 114 = .ok (.aload_n 0, 1) := dk_42 (dk_at dksX4_count_4 6 rfl rfl)
theorem dX4_count_115 : decode cX4_count 115 = .ok (.invokevirtual 450, 3) := dk_182 1 194 (dk_at dksX4_count_4 7 rfl rfl)
theorem dX4_count_118 : decode cX4_count 118 = .ok (.isub, 1) := dk_100 (dk_at dksX4_count_4 10 rfl rfl)
theorem dX4_count_119 : decode cX4_count 119 = .ok (.isub, 1) := dk_100 (dk_at dksX4_count_4 11 rfl rfl)
theorem dX4_count_120 : decode cX4_count 120 = .ok (.ireturn, 1) := dk_172 (dk_at dksX4_count_4 12 rfl rfl)
theorem dX4_count_121 : decode cX4_count 121 = .ok (.aload_n 0, 1) := dk_42 (dk_at dksX4_count_4 13 rfl rfl)
theorem dX4_count_122 : decode cX4_count 122 = .ok (.getfield 13, 3) := dk_180 0 13 (dk_at dksX4_count_4 14 rfl rfl)
theorem dX4_count_125 : decode cX4_count 125 = .ok (.bipush 66, 2) := dk_16 66 (dk_at dksX4_count_4 17 rfl rfl)
theorem dX4_count_127 : decode cX4_count 127 = .ok (.iaload, 1) := dk_46 (dk_at dksX4_count_4 19 rfl rfl)
theorem dX4_count_128 : decode cX4_count 128 = .ok (.ireturn, 1) := dk_172 (dk_at dksX4_count_4 20 rfl rfl)
theorem dX4_count_129 : decode cX4_count 129 = .ok (.aload_n 0, 1) := dk_42 (dk_at dksX4_count_4 21 rfl rfl)
theorem dX4_count_130 : decode cX4_count 130 = .ok (.getfield 79, 3) := dk_180 0 79 (dk_at dksX4_count_5 0 rfl rfl)
theorem dX4_count_133 : decode cX4_count 133 = .ok (.ireturn, 1) := dk_172 (dk_at dksX4_count_5 3 rfl rfl)
theorem dX4_count_134 : decode cX4_count 134 = .ok (.aload_n 0, 1) := dk_42 (dk_at dksX4_count_5 4 rfl rfl)
theorem dX4_count_135 : decode cX4_count 135 = .ok (.getfield 13, 3) := dk_180 0 13 (dk_at dksX4_count_5 5 rfl rfl)
theorem dX4_count_138 : decode cX4_count 138 = .ok (.iconst 0, 1) := dk_3 (dk_at dksX4_count_5 8 rfl rfl)
theorem dX4_count_139 : decode cX4_count 139 = .ok (.iaload, 1) := dk_46 (dk_at dksX4_count_5 9 rfl rfl)
theorem dX4_count_140 : decode cX4_count 140 = .ok (.ireturn, 1) := dk_172 (dk_at dksX4_count_5 10 rfl rfl)
theorem dX4_count_141 : decode cX4_count 141 = .ok (.iconst (-1), 1) := dk_2 (dk_at dksX4_count_5 11 rfl rfl)
theorem dX4_count_142 : decode cX4_count 142 = .ok (.ireturn, 1) := dk_172 (dk_at dksX4_count_5 12 rfl rfl)
abbrev cX4_away : ByteArray := prog_11_method_125_code
def yX4_away : MethodName := ⟨RX4, "away", "()I"⟩
def dkwX4_away_1 : List UInt8 := [2, 160, 0, 7, 4, 167, 0, 4, 3, 96, 60, 132, 2, 1, 167, 255, 222, 27, 172]
abbrev dktX4_away_1 : List UInt8 := dkwX4_away_1 ++ []
def dkwX4_away_0 : List UInt8 := [3, 60, 3, 61, 28, 42, 180, 0, 13, 4, 46, 162, 0, 30, 27, 42, 180, 0, 13, 16, 35, 28, 96, 46]
abbrev dktX4_away_0 : List UInt8 := dkwX4_away_0 ++ dktX4_away_1
theorem dksX4_away_0 : cX4_away.data.toList.drop 0 = dktX4_away_0 := by decide +kernel
theorem dksX4_away_1 : cX4_away.data.toList.drop 24 = dktX4_away_1 := dk_seg dksX4_away_0 24 rfl rfl
theorem dX4_away_0 : decode cX4_away 0 = .ok (.iconst 0, 1) := dk_3 (dk_at dksX4_away_0 0 rfl rfl)
theorem dX4_away_1 : decode cX4_away 1 = .ok (.istore_n 1, 1) := dk_60 (dk_at dksX4_away_0 1 rfl rfl)
theorem dX4_away_2 : decode cX4_away 2 = .ok (.iconst 0, 1) := dk_3 (dk_at dksX4_away_0 2 rfl rfl)
theorem dX4_away_3 : decode cX4_away 3 = .ok (.istore_n 2, 1) := dk_61 (dk_at dksX4_away_0 3 rfl rfl)
theorem dX4_away_4 : decode cX4_away 4 = .ok (.iload_n 2, 1) := dk_28 (dk_at dksX4_away_0 4 rfl rfl)
theorem dX4_away_5 : decode cX4_away 5 = .ok (.aload_n 0, 1) := dk_42 (dk_at dksX4_away_0 5 rfl rfl)
theorem dX4_away_6 : decode cX4_away 6 = .ok (.getfield 13, 3) := dk_180 0 13 (dk_at dksX4_away_0 6 rfl rfl)
theorem dX4_away_9 : decode cX4_away 9 = .ok (.iconst 1, 1) := dk_4 (dk_at dksX4_away_0 9 rfl rfl)
theorem dX4_away_10 : decode cX4_away 10 = .ok (.iaload, 1) := dk_46 (dk_at dksX4_away_0 10 rfl rfl)
theorem dX4_away_11 : decode cX4_away 11 = .ok (.if_icmp .ge 30, 3) := dk_162 0 30 (dk_at dksX4_away_0 11 rfl rfl)
theorem dX4_away_14 : decode cX4_away 14 = .ok (.iload_n 1, 1) := dk_27 (dk_at dksX4_away_0 14 rfl rfl)
theorem dX4_away_15 : decode cX4_away 15 = .ok (.aload_n 0, 1) := dk_42 (dk_at dksX4_away_0 15 rfl rfl)
theorem dX4_away_16 : decode cX4_away 16 = .ok (.getfield 13, 3) := dk_180 0 13 (dk_at dksX4_away_0 16 rfl rfl)
theorem dX4_away_19 : decode cX4_away 19 = .ok (.bipush 35, 2) := dk_16 35 (dk_at dksX4_away_0 19 rfl rfl)
theorem dX4_away_21 : decode cX4_away 21 = .ok (.iload_n 2, 1) := dk_28 (dk_at dksX4_away_0 21 rfl rfl)
theorem dX4_away_22 : decode cX4_away 22 = .ok (.iadd, 1) := dk_96 (dk_at dksX4_away_0 22 rfl rfl)
theorem dX4_away_23 : decode cX4_away 23 = .ok (.iaload, 1) := dk_46 (dk_at dksX4_away_0 23 rfl rfl)
theorem dX4_away_24 : decode cX4_away 24 = .ok (.iconst (-1), 1) := dk_2 (dk_at dksX4_away_1 0 rfl rfl)
theorem dX4_away_25 : decode cX4_away 25 = .ok (.if_icmp .ne 7, 3) := dk_160 0 7 (dk_at dksX4_away_1 1 rfl rfl)
theorem dX4_away_28 : decode cX4_away 28 = .ok (.iconst 1, 1) := dk_4 (dk_at dksX4_away_1 4 rfl rfl)
theorem dX4_away_29 : decode cX4_away 29 = .ok (.goto 4, 3) := dk_167 0 4 (dk_at dksX4_away_1 5 rfl rfl)
theorem dX4_away_32 : decode cX4_away 32 = .ok (.iconst 0, 1) := dk_3 (dk_at dksX4_away_1 8 rfl rfl)
theorem dX4_away_33 : decode cX4_away 33 = .ok (.iadd, 1) := dk_96 (dk_at dksX4_away_1 9 rfl rfl)
theorem dX4_away_34 : decode cX4_away 34 = .ok (.istore_n 1, 1) := dk_60 (dk_at dksX4_away_1 10 rfl rfl)
theorem dX4_away_35 : decode cX4_away 35 = .ok (.iinc 2 1, 3) := dk_132 2 1 (dk_at dksX4_away_1 11 rfl rfl)
theorem dX4_away_38 : decode cX4_away 38 = .ok (.goto (-34), 3) := dk_167 255 222 (dk_at dksX4_away_1 14 rfl rfl)
theorem dX4_away_41 : decode cX4_away 41 = .ok (.iload_n 1, 1) := dk_27 (dk_at dksX4_away_1 17 rfl rfl)
theorem dX4_away_42 : decode cX4_away 42 = .ok (.ireturn, 1) := dk_172 (dk_at dksX4_away_1 18 rfl rfl)
abbrev cX4_buriedMany : ByteArray := prog_11_method_126_code
def yX4_buriedMany : MethodName := ⟨RX4, "buriedMany", "()I"⟩
def dkwX4_buriedMany_1 : List UInt8 := [184, 0, 205, 153, 0, 7, 4, 167, 0, 4, 3, 96, 60, 132, 2, 1, 167, 255, 220, 27, 172]
abbrev dktX4_buriedMany_1 : List UInt8 := dkwX4_buriedMany_1 ++ []
def dkwX4_buriedMany_0 : List UInt8 := [3, 60, 3, 61, 28, 42, 180, 0, 13, 16, 20, 46, 162, 0, 31, 27, 28, 42, 180, 0, 13, 16, 41, 46]
abbrev dktX4_buriedMany_0 : List UInt8 := dkwX4_buriedMany_0 ++ dktX4_buriedMany_1
theorem dksX4_buriedMany_0 : cX4_buriedMany.data.toList.drop 0 = dktX4_buriedMany_0 := by decide +kernel
theorem dksX4_buriedMany_1 : cX4_buriedMany.data.toList.drop 24 = dktX4_buriedMany_1 := dk_seg dksX4_buriedMany_0 24 rfl rfl
theorem dX4_buriedMany_0 : decode cX4_buriedMany 0 = .ok (.iconst 0, 1) := dk_3 (dk_at dksX4_buriedMany_0 0 rfl rfl)
theorem dX4_buriedMany_1 : decode cX4_buriedMany 1 = .ok (.istore_n 1, 1) := dk_60 (dk_at dksX4_buriedMany_0 1 rfl rfl)
theorem dX4_buriedMany_2 : decode cX4_buriedMany 2 = .ok (.iconst 0, 1) := dk_3 (dk_at dksX4_buriedMany_0 2 rfl rfl)
theorem dX4_buriedMany_3 : decode cX4_buriedMany 3 = .ok (.istore_n 2, 1) := dk_61 (dk_at dksX4_buriedMany_0 3 rfl rfl)
theorem dX4_buriedMany_4 : decode cX4_buriedMany 4 = .ok (.iload_n 2, 1) := dk_28 (dk_at dksX4_buriedMany_0 4 rfl rfl)
theorem dX4_buriedMany_5 : decode cX4_buriedMany 5 = .ok (.aload_n 0, 1) := dk_42 (dk_at dksX4_buriedMany_0 5 rfl rfl)
theorem dX4_buriedMany_6 : decode cX4_buriedMany 6 = .ok (.getfield 13, 3) := dk_180 0 13 (dk_at dksX4_buriedMany_0 6 rfl rfl)
theorem dX4_buriedMany_9 : decode cX4_buriedMany 9 = .ok (.bipush 20, 2) := dk_16 20 (dk_at dksX4_buriedMany_0 9 rfl rfl)
theorem dX4_buriedMany_11 : decode cX4_buriedMany 11 = .ok (.iaload, 1) := dk_46 (dk_at dksX4_buriedMany_0 11 rfl rfl)
theorem dX4_buriedMany_12 : decode cX4_buriedMany 12 = .ok (.if_icmp .ge 31, 3) := dk_162 0 31 (dk_at dksX4_buriedMany_0 12 rfl rfl)
theorem dX4_buriedMany_15 : decode cX4_buriedMany 15 = .ok (.iload_n 1, 1) := dk_27 (dk_at dksX4_buriedMany_0 15 rfl rfl)
theorem dX4_buriedMany_16 : decode cX4_buriedMany 16 = .ok (.iload_n 2, 1) := dk_28 (dk_at dksX4_buriedMany_0 16 rfl rfl)
theorem dX4_buriedMany_17 : decode cX4_buriedMany 17 = .ok (.aload_n 0, 1) := dk_42 (dk_at dksX4_buriedMany_0 17 rfl rfl)
theorem dX4_buriedMany_18 : decode cX4_buriedMany 18 = .ok (.getfield 13, 3) := dk_180 0 13 (dk_at dksX4_buriedMany_0 18 rfl rfl)
theorem dX4_buriedMany_21 : decode cX4_buriedMany 21 = .ok (.bipush 41, 2) := dk_16 41 (dk_at dksX4_buriedMany_0 21 rfl rfl)
theorem dX4_buriedMany_23 : decode cX4_buriedMany 23 = .ok (.iaload, 1) := dk_46 (dk_at dksX4_buriedMany_0 23 rfl rfl)
theorem dX4_buriedMany_24 : decode cX4_buriedMany 24 = .ok (.invokestatic 205, 3) := dk_184 0 205 (dk_at dksX4_buriedMany_1 0 rfl rfl)
theorem dX4_buriedMany_27 : decode cX4_buriedMany 27 = .ok (.ifCond .eq 7, 3) := dk_153 0 7 (dk_at dksX4_buriedMany_1 3 rfl rfl)
theorem dX4_buriedMany_30 : decode cX4_buriedMany 30 = .ok (.iconst 1, 1) := dk_4 (dk_at dksX4_buriedMany_1 6 rfl rfl)
theorem dX4_buriedMany_31 : decode cX4_buriedMany 31 = .ok (.goto 4, 3) := dk_167 0 4 (dk_at dksX4_buriedMany_1 7 rfl rfl)
theorem dX4_buriedMany_34 : decode cX4_buriedMany 34 = .ok (.iconst 0, 1) := dk_3 (dk_at dksX4_buriedMany_1 10 rfl rfl)
theorem dX4_buriedMany_35 : decode cX4_buriedMany 35 = .ok (.iadd, 1) := dk_96 (dk_at dksX4_buriedMany_1 11 rfl rfl)
theorem dX4_buriedMany_36 : decode cX4_buriedMany 36 = .ok (.istore_n 1, 1) := dk_60 (dk_at dksX4_buriedMany_1 12 rfl rfl)
theorem dX4_buriedMany_37 : decode cX4_buriedMany 37 = .ok (.iinc 2 1, 3) := dk_132 2 1 (dk_at dksX4_buriedMany_1 13 rfl rfl)
theorem dX4_buriedMany_40 : decode cX4_buriedMany 40 = .ok (.goto (-36), 3) := dk_167 255 220 (dk_at dksX4_buriedMany_1 16 rfl rfl)
theorem dX4_buriedMany_43 : decode cX4_buriedMany 43 = .ok (.iload_n 1, 1) := dk_27 (dk_at dksX4_buriedMany_1 19 rfl rfl)
theorem dX4_buriedMany_44 : decode cX4_buriedMany 44 = .ok (.ireturn, 1) := dk_172 (dk_at dksX4_buriedMany_1 20 rfl rfl)
theorem q132 : (Jvm.Cond.initialized "SunkTowerModel") ∈ lw_all := lw_g (lw_at lw_m1 6 rfl) rfl
theorem q1382 : (Jvm.Cond.instantiable "SunkTowerModel" (38 : Nat)) ∈ lw_all := lw_g (lw_at lw_m6 56 rfl) rfl
theorem q1384 : (Jvm.Cond.instanceMethod ({ cls := "SunkTowerModel", name := "<init>", desc := "()V" } : Jvm.MethodName)) ∈ lw_all := lw_g (lw_at lw_m6 58 rfl) rfl
theorem q1385 : (Jvm.Cond.code ({ cls := "SunkTowerModel", name := "<init>", desc := "()V" } : Jvm.MethodName) prog_11_method_3_code (1 : Nat) (Option.none : Option Jvm.ClassFile.FieldType)) ∈ lw_all := lw_g (lw_at lw_m6 59 rfl) rfl
theorem q1386 : (Jvm.Cond.methodLink "SunkTowerModel" (7 : Nat) ({ cls := "java/lang/Object", name := "<init>", desc := "()V" } : Jvm.MethodName)) ∈ lw_all := lw_g (lw_at lw_m6 60 rfl) rfl
theorem q1387 : (Jvm.Cond.constant "SunkTowerModel" (55 : Nat) (61000 : Int32)) ∈ lw_all := lw_g (lw_at lw_m6 61 rfl) rfl
theorem q1388 : (Jvm.Cond.constant "SunkTowerModel" (59 : Nat) (100000 : Int32)) ∈ lw_all := lw_g (lw_at lw_m6 62 rfl) rfl
theorem q1389 : (Jvm.Cond.methodLink "SunkTowerModel" (75 : Nat) ({ cls := "SunkTowerModel", name := "plain", desc := "([I)V" } : Jvm.MethodName)) ∈ lw_all := lw_g (lw_at lw_m6 63 rfl) rfl
theorem q1390 : (Jvm.Cond.static ({ cls := "SunkTowerModel", name := "plain", desc := "([I)V" } : Jvm.MethodName)) ∈ lw_all := lw_g (lw_at lw_m6 64 rfl) rfl
theorem q1391 : (Jvm.Cond.code ({ cls := "SunkTowerModel", name := "plain", desc := "([I)V" } : Jvm.MethodName) prog_11_method_4_code (2 : Nat) (Option.none : Option Jvm.ClassFile.FieldType)) ∈ lw_all := lw_g (lw_at lw_m6 65 rfl) rfl
theorem q1392 : (Jvm.Cond.fieldLink "SunkTowerModel" (1 : Nat) "SunkTowerModel" "thrown" "I") ∈ lw_all := lw_g (lw_at lw_m6 66 rfl) rfl
theorem q1393 : (Jvm.Cond.fieldLink "SunkTowerModel" (13 : Nat) "SunkTowerModel" "all" "[I") ∈ lw_all := lw_g (lw_at lw_m6 67 rfl) rfl
theorem q1394 : (Jvm.Cond.fieldLink "SunkTowerModel" (17 : Nat) "SunkTowerModel" "hasImage" "[Z") ∈ lw_all := lw_g (lw_at lw_m6 68 rfl) rfl
theorem q1395 : (Jvm.Cond.fieldLink "SunkTowerModel" (21 : Nat) "SunkTowerModel" "tape" "[I") ∈ lw_all := lw_g (lw_at lw_m6 69 rfl) rfl
theorem q1396 : (Jvm.Cond.fieldLink "SunkTowerModel" (24 : Nat) "SunkTowerModel" "fresh" "[I") ∈ lw_all := lw_g (lw_at lw_m6 70 rfl) rfl
theorem q1397 : (Jvm.Cond.fieldLink "SunkTowerModel" (79 : Nat) "SunkTowerModel" "taped" "I") ∈ lw_all := lw_g (lw_at lw_m6 71 rfl) rfl
theorem q1398 : (Jvm.Cond.fieldLink "SunkTowerModel" (97 : Nat) "SunkTowerModel" "at" "I") ∈ lw_all := lw_g (lw_at lw_m6 72 rfl) rfl
theorem q1399 : (Jvm.Cond.fieldLink "SunkTowerModel" (100 : Nat) "SunkTowerModel" "behind" "I") ∈ lw_all := lw_g (lw_at lw_m6 73 rfl) rfl
theorem q1400 : (Jvm.Cond.fieldLink "SunkTowerModel" (82 : Nat) "SunkTowerModel" "size" "I") ∈ lw_all := lw_g (lw_at lw_m6 74 rfl) rfl
theorem q1401 : (Jvm.Cond.fieldLink "SunkTowerModel" (107 : Nat) "SunkTowerModel" "kind" "I") ∈ lw_all := lw_g (lw_at lw_m6 75 rfl) rfl
theorem q1402 : (Jvm.Cond.fieldLink "SunkTowerModel" (120 : Nat) "SunkTowerModel" "number" "I") ∈ lw_all := lw_g (lw_at lw_m6 76 rfl) rfl
theorem q1403 : (Jvm.Cond.fieldLink "SunkTowerModel" (125 : Nat) "SunkTowerModel" "wrong" "I") ∈ lw_all := lw_g (lw_at lw_m6 77 rfl) rfl
theorem q1404 : (Jvm.Cond.fieldLink "SunkTowerModel" (128 : Nat) "SunkTowerModel" "wrongAt" "I") ∈ lw_all := lw_g (lw_at lw_m6 78 rfl) rfl
theorem q1405 : (Jvm.Cond.fieldLink "SunkTowerModel" (194 : Nat) "SunkTowerModel" "faultKind" "I") ∈ lw_all := lw_g (lw_at lw_m6 79 rfl) rfl
theorem q1406 : (Jvm.Cond.fieldLink "SunkTowerModel" (27 : Nat) "SunkTowerModel" "faultPlace" "I") ∈ lw_all := lw_g (lw_at lw_m6 80 rfl) rfl
theorem q1407 : (Jvm.Cond.fieldLink "SunkTowerModel" (145 : Nat) "SunkTowerModel" "reading" "I") ∈ lw_all := lw_g (lw_at lw_m6 81 rfl) rfl
theorem q1408 : (Jvm.Cond.fieldLink "SunkTowerModel" (30 : Nat) "SunkTowerModel" "reckoned" "[I") ∈ lw_all := lw_g (lw_at lw_m6 82 rfl) rfl
theorem q1409 : (Jvm.Cond.fieldLink "SunkTowerModel" (33 : Nat) "SunkTowerModel" "words" "[I") ∈ lw_all := lw_g (lw_at lw_m6 83 rfl) rfl
theorem q1410 : (Jvm.Cond.fieldLink "SunkTowerModel" (36 : Nat) "SunkTowerModel" "was" "[I") ∈ lw_all := lw_g (lw_at lw_m6 84 rfl) rfl
theorem q1411 : (Jvm.Cond.fieldLink "SunkTowerModel" (39 : Nat) "SunkTowerModel" "gets" "[I") ∈ lw_all := lw_g (lw_at lw_m6 85 rfl) rfl
theorem q1412 : (Jvm.Cond.fieldLink "SunkTowerModel" (276 : Nat) "SunkTowerModel" "rounds" "I") ∈ lw_all := lw_g (lw_at lw_m6 86 rfl) rfl
theorem q1413 : (Jvm.Cond.fieldLink "SunkTowerModel" (308 : Nat) "SunkTowerModel" "toldWhy" "I") ∈ lw_all := lw_g (lw_at lw_m6 87 rfl) rfl
theorem q1414 : (Jvm.Cond.fieldLink "SunkTowerModel" (329 : Nat) "SunkTowerModel" "x" "I") ∈ lw_all := lw_g (lw_at lw_m6 88 rfl) rfl
theorem q1415 : (Jvm.Cond.fieldLink "SunkTowerModel" (42 : Nat) "SunkTowerModel" "sunk" "[I") ∈ lw_all := lw_g (lw_at lw_m6 89 rfl) rfl
theorem q1416 : (Jvm.Cond.fieldLink "SunkTowerModel" (45 : Nat) "SunkTowerModel" "most" "[J") ∈ lw_all := lw_g (lw_at lw_m6 90 rfl) rfl
theorem q1417 : (Jvm.Cond.fieldLink "SunkTowerModel" (363 : Nat) "SunkTowerModel" "mayTo" "I") ∈ lw_all := lw_g (lw_at lw_m6 91 rfl) rfl
theorem q1418 : (Jvm.Cond.fieldLink "SunkTowerModel" (370 : Nat) "SunkTowerModel" "months" "I") ∈ lw_all := lw_g (lw_at lw_m6 92 rfl) rfl
theorem q1419 : (Jvm.Cond.fieldLink "SunkTowerModel" (49 : Nat) "SunkTowerModel" "built" "[I") ∈ lw_all := lw_g (lw_at lw_m6 93 rfl) rfl
theorem q1420 : (Jvm.Cond.fieldLink "SunkTowerModel" (52 : Nat) "SunkTowerModel" "bestBuilt" "[I") ∈ lw_all := lw_g (lw_at lw_m6 94 rfl) rfl
theorem q1421 : (Jvm.Cond.fieldLink "SunkTowerModel" (403 : Nat) "SunkTowerModel" "bestMany" "I") ∈ lw_all := lw_g (lw_at lw_m6 95 rfl) rfl
theorem q1422 : (Jvm.Cond.fieldLink "SunkTowerModel" (406 : Nat) "SunkTowerModel" "likeMany" "I") ∈ lw_all := lw_g (lw_at lw_m6 96 rfl) rfl
theorem q1423 : (Jvm.Cond.fieldLink "SunkTowerModel" (399 : Nat) "SunkTowerModel" "bestSum" "J") ∈ lw_all := lw_g (lw_at lw_m6 97 rfl) rfl
theorem q1424 : (Jvm.Cond.fieldLink "SunkTowerModel" (56 : Nat) "SunkTowerModel" "depths" "[I") ∈ lw_all := lw_g (lw_at lw_m6 98 rfl) rfl
theorem q1425 : (Jvm.Cond.fieldLink "SunkTowerModel" (60 : Nat) "SunkTowerModel" "often" "[I") ∈ lw_all := lw_g (lw_at lw_m6 99 rfl) rfl
theorem q1426 : (Jvm.Cond.fieldLink "SunkTowerModel" (63 : Nat) "SunkTowerModel" "fits" "[Z") ∈ lw_all := lw_g (lw_at lw_m6 100 rfl) rfl
theorem q1427 : (Jvm.Cond.fieldLink "SunkTowerModel" (66 : Nat) "SunkTowerModel" "rowSort" "[I") ∈ lw_all := lw_g (lw_at lw_m6 101 rfl) rfl
theorem q1428 : (Jvm.Cond.fieldLink "SunkTowerModel" (69 : Nat) "SunkTowerModel" "rowMany" "[I") ∈ lw_all := lw_g (lw_at lw_m6 102 rfl) rfl
theorem q1429 : (Jvm.Cond.fieldLink "SunkTowerModel" (72 : Nat) "SunkTowerModel" "numbers" "[J") ∈ lw_all := lw_g (lw_at lw_m6 103 rfl) rfl
theorem q1430 : (Jvm.Cond.lays "SunkTowerModel" "SunkTowerModel" "thrown" "I") ∈ lw_all := lw_g (lw_at lw_m6 104 rfl) rfl
theorem q1431 : (Jvm.Cond.soleField "SunkTowerModel" "thrown") ∈ lw_all := lw_g (lw_at lw_m6 105 rfl) rfl
theorem q1432 : (Jvm.Cond.laysFinal "SunkTowerModel" "SunkTowerModel" "all" "[I") ∈ lw_all := lw_g (lw_at lw_m6 106 rfl) rfl
theorem q1433 : (Jvm.Cond.soleField "SunkTowerModel" "all") ∈ lw_all := lw_g (lw_at lw_m6 107 rfl) rfl
theorem q1434 : (Jvm.Cond.laysFinal "SunkTowerModel" "SunkTowerModel" "hasImage" "[Z") ∈ lw_all := lw_g (lw_at lw_m6 108 rfl) rfl
theorem q1435 : (Jvm.Cond.soleField "SunkTowerModel" "hasImage") ∈ lw_all := lw_g (lw_at lw_m6 109 rfl) rfl
theorem q1436 : (Jvm.Cond.laysFinal "SunkTowerModel" "SunkTowerModel" "tape" "[I") ∈ lw_all := lw_g (lw_at lw_m6 110 rfl) rfl
theorem q1437 : (Jvm.Cond.soleField "SunkTowerModel" "tape") ∈ lw_all := lw_g (lw_at lw_m6 111 rfl) rfl
theorem q1438 : (Jvm.Cond.laysFinal "SunkTowerModel" "SunkTowerModel" "fresh" "[I") ∈ lw_all := lw_g (lw_at lw_m6 112 rfl) rfl
theorem q1439 : (Jvm.Cond.soleField "SunkTowerModel" "fresh") ∈ lw_all := lw_g (lw_at lw_m6 113 rfl) rfl
theorem q1440 : (Jvm.Cond.lays "SunkTowerModel" "SunkTowerModel" "taped" "I") ∈ lw_all := lw_g (lw_at lw_m6 114 rfl) rfl
theorem q1441 : (Jvm.Cond.soleField "SunkTowerModel" "taped") ∈ lw_all := lw_g (lw_at lw_m6 115 rfl) rfl
theorem q1442 : (Jvm.Cond.lays "SunkTowerModel" "SunkTowerModel" "at" "I") ∈ lw_all := lw_g (lw_at lw_m6 116 rfl) rfl
theorem q1443 : (Jvm.Cond.soleField "SunkTowerModel" "at") ∈ lw_all := lw_g (lw_at lw_m6 117 rfl) rfl
theorem q1444 : (Jvm.Cond.lays "SunkTowerModel" "SunkTowerModel" "behind" "I") ∈ lw_all := lw_g (lw_at lw_m6 118 rfl) rfl
theorem q1445 : (Jvm.Cond.soleField "SunkTowerModel" "behind") ∈ lw_all := lw_g (lw_at lw_m6 119 rfl) rfl
theorem q1446 : (Jvm.Cond.lays "SunkTowerModel" "SunkTowerModel" "size" "I") ∈ lw_all := lw_g (lw_at lw_m6 120 rfl) rfl
theorem q1447 : (Jvm.Cond.soleField "SunkTowerModel" "size") ∈ lw_all := lw_g (lw_at lw_m6 121 rfl) rfl
theorem q1448 : (Jvm.Cond.lays "SunkTowerModel" "SunkTowerModel" "kind" "I") ∈ lw_all := lw_g (lw_at lw_m6 122 rfl) rfl
theorem q1449 : (Jvm.Cond.soleField "SunkTowerModel" "kind") ∈ lw_all := lw_g (lw_at lw_m6 123 rfl) rfl
theorem q1450 : (Jvm.Cond.lays "SunkTowerModel" "SunkTowerModel" "number" "I") ∈ lw_all := lw_g (lw_at lw_m6 124 rfl) rfl
theorem q1451 : (Jvm.Cond.soleField "SunkTowerModel" "number") ∈ lw_all := lw_g (lw_at lw_m6 125 rfl) rfl
theorem q1452 : (Jvm.Cond.lays "SunkTowerModel" "SunkTowerModel" "wrong" "I") ∈ lw_all := lw_g (lw_at lw_m6 126 rfl) rfl
theorem q1453 : (Jvm.Cond.soleField "SunkTowerModel" "wrong") ∈ lw_all := lw_g (lw_at lw_m6 127 rfl) rfl
theorem q1454 : (Jvm.Cond.lays "SunkTowerModel" "SunkTowerModel" "wrongAt" "I") ∈ lw_all := lw_g (lw_at lw_m6 128 rfl) rfl
theorem q1455 : (Jvm.Cond.soleField "SunkTowerModel" "wrongAt") ∈ lw_all := lw_g (lw_at lw_m6 129 rfl) rfl
theorem q1456 : (Jvm.Cond.lays "SunkTowerModel" "SunkTowerModel" "faultKind" "I") ∈ lw_all := lw_g (lw_at lw_m6 130 rfl) rfl
theorem q1457 : (Jvm.Cond.soleField "SunkTowerModel" "faultKind") ∈ lw_all := lw_g (lw_at lw_m6 131 rfl) rfl
theorem q1458 : (Jvm.Cond.lays "SunkTowerModel" "SunkTowerModel" "faultPlace" "I") ∈ lw_all := lw_g (lw_at lw_m6 132 rfl) rfl
theorem q1459 : (Jvm.Cond.soleField "SunkTowerModel" "faultPlace") ∈ lw_all := lw_g (lw_at lw_m6 133 rfl) rfl
theorem q1460 : (Jvm.Cond.lays "SunkTowerModel" "SunkTowerModel" "reading" "I") ∈ lw_all := lw_g (lw_at lw_m6 134 rfl) rfl
theorem q1461 : (Jvm.Cond.soleField "SunkTowerModel" "reading") ∈ lw_all := lw_g (lw_at lw_m6 135 rfl) rfl
theorem q1462 : (Jvm.Cond.laysFinal "SunkTowerModel" "SunkTowerModel" "reckoned" "[I") ∈ lw_all := lw_g (lw_at lw_m6 136 rfl) rfl
theorem q1463 : (Jvm.Cond.soleField "SunkTowerModel" "reckoned") ∈ lw_all := lw_g (lw_at lw_m6 137 rfl) rfl
theorem q1464 : (Jvm.Cond.laysFinal "SunkTowerModel" "SunkTowerModel" "words" "[I") ∈ lw_all := lw_g (lw_at lw_m6 138 rfl) rfl
theorem q1465 : (Jvm.Cond.soleField "SunkTowerModel" "words") ∈ lw_all := lw_g (lw_at lw_m6 139 rfl) rfl
theorem q1466 : (Jvm.Cond.laysFinal "SunkTowerModel" "SunkTowerModel" "was" "[I") ∈ lw_all := lw_g (lw_at lw_m6 140 rfl) rfl
theorem q1467 : (Jvm.Cond.soleField "SunkTowerModel" "was") ∈ lw_all := lw_g (lw_at lw_m6 141 rfl) rfl
theorem q1468 : (Jvm.Cond.laysFinal "SunkTowerModel" "SunkTowerModel" "gets" "[I") ∈ lw_all := lw_g (lw_at lw_m6 142 rfl) rfl
theorem q1469 : (Jvm.Cond.soleField "SunkTowerModel" "gets") ∈ lw_all := lw_g (lw_at lw_m6 143 rfl) rfl
theorem q1470 : (Jvm.Cond.lays "SunkTowerModel" "SunkTowerModel" "rounds" "I") ∈ lw_all := lw_g (lw_at lw_m6 144 rfl) rfl
theorem q1471 : (Jvm.Cond.soleField "SunkTowerModel" "rounds") ∈ lw_all := lw_g (lw_at lw_m6 145 rfl) rfl
theorem q1472 : (Jvm.Cond.lays "SunkTowerModel" "SunkTowerModel" "toldWhy" "I") ∈ lw_all := lw_g (lw_at lw_m6 146 rfl) rfl
theorem q1473 : (Jvm.Cond.soleField "SunkTowerModel" "toldWhy") ∈ lw_all := lw_g (lw_at lw_m6 147 rfl) rfl
theorem q1474 : (Jvm.Cond.lays "SunkTowerModel" "SunkTowerModel" "x" "I") ∈ lw_all := lw_g (lw_at lw_m6 148 rfl) rfl
theorem q1475 : (Jvm.Cond.soleField "SunkTowerModel" "x") ∈ lw_all := lw_g (lw_at lw_m6 149 rfl) rfl
theorem q1476 : (Jvm.Cond.laysFinal "SunkTowerModel" "SunkTowerModel" "sunk" "[I") ∈ lw_all := lw_g (lw_at lw_m6 150 rfl) rfl
theorem q1477 : (Jvm.Cond.soleField "SunkTowerModel" "sunk") ∈ lw_all := lw_g (lw_at lw_m6 151 rfl) rfl
theorem q1478 : (Jvm.Cond.laysFinal "SunkTowerModel" "SunkTowerModel" "most" "[J") ∈ lw_all := lw_g (lw_at lw_m6 152 rfl) rfl
theorem q1479 : (Jvm.Cond.soleField "SunkTowerModel" "most") ∈ lw_all := lw_g (lw_at lw_m6 153 rfl) rfl
theorem q1480 : (Jvm.Cond.lays "SunkTowerModel" "SunkTowerModel" "mayTo" "I") ∈ lw_all := lw_g (lw_at lw_m6 154 rfl) rfl
theorem q1481 : (Jvm.Cond.soleField "SunkTowerModel" "mayTo") ∈ lw_all := lw_g (lw_at lw_m6 155 rfl) rfl
theorem q1482 : (Jvm.Cond.lays "SunkTowerModel" "SunkTowerModel" "months" "I") ∈ lw_all := lw_g (lw_at lw_m6 156 rfl) rfl
theorem q1483 : (Jvm.Cond.soleField "SunkTowerModel" "months") ∈ lw_all := lw_g (lw_at lw_m6 157 rfl) rfl
theorem q1484 : (Jvm.Cond.laysFinal "SunkTowerModel" "SunkTowerModel" "built" "[I") ∈ lw_all := lw_g (lw_at lw_m6 158 rfl) rfl
theorem q1485 : (Jvm.Cond.soleField "SunkTowerModel" "built") ∈ lw_all := lw_g (lw_at lw_m6 159 rfl) rfl
theorem q1486 : (Jvm.Cond.laysFinal "SunkTowerModel" "SunkTowerModel" "bestBuilt" "[I") ∈ lw_all := lw_g (lw_at lw_m6 160 rfl) rfl
theorem q1487 : (Jvm.Cond.soleField "SunkTowerModel" "bestBuilt") ∈ lw_all := lw_g (lw_at lw_m6 161 rfl) rfl
theorem q1488 : (Jvm.Cond.lays "SunkTowerModel" "SunkTowerModel" "bestMany" "I") ∈ lw_all := lw_g (lw_at lw_m6 162 rfl) rfl
theorem q1489 : (Jvm.Cond.soleField "SunkTowerModel" "bestMany") ∈ lw_all := lw_g (lw_at lw_m6 163 rfl) rfl
theorem q1490 : (Jvm.Cond.lays "SunkTowerModel" "SunkTowerModel" "likeMany" "I") ∈ lw_all := lw_g (lw_at lw_m6 164 rfl) rfl
theorem q1491 : (Jvm.Cond.soleField "SunkTowerModel" "likeMany") ∈ lw_all := lw_g (lw_at lw_m6 165 rfl) rfl
theorem q1492 : (Jvm.Cond.lays "SunkTowerModel" "SunkTowerModel" "bestSum" "J") ∈ lw_all := lw_g (lw_at lw_m6 166 rfl) rfl
theorem q1493 : (Jvm.Cond.soleField "SunkTowerModel" "bestSum") ∈ lw_all := lw_g (lw_at lw_m6 167 rfl) rfl
theorem q1494 : (Jvm.Cond.laysFinal "SunkTowerModel" "SunkTowerModel" "depths" "[I") ∈ lw_all := lw_g (lw_at lw_m6 168 rfl) rfl
theorem q1495 : (Jvm.Cond.soleField "SunkTowerModel" "depths") ∈ lw_all := lw_g (lw_at lw_m6 169 rfl) rfl
theorem q1496 : (Jvm.Cond.laysFinal "SunkTowerModel" "SunkTowerModel" "often" "[I") ∈ lw_all := lw_g (lw_at lw_m6 170 rfl) rfl
theorem q1497 : (Jvm.Cond.soleField "SunkTowerModel" "often") ∈ lw_all := lw_g (lw_at lw_m6 171 rfl) rfl
theorem q1498 : (Jvm.Cond.laysFinal "SunkTowerModel" "SunkTowerModel" "fits" "[Z") ∈ lw_all := lw_g (lw_at lw_m6 172 rfl) rfl
theorem q1499 : (Jvm.Cond.soleField "SunkTowerModel" "fits") ∈ lw_all := lw_g (lw_at lw_m6 173 rfl) rfl
theorem q1500 : (Jvm.Cond.laysFinal "SunkTowerModel" "SunkTowerModel" "rowSort" "[I") ∈ lw_all := lw_g (lw_at lw_m6 174 rfl) rfl
theorem q1501 : (Jvm.Cond.soleField "SunkTowerModel" "rowSort") ∈ lw_all := lw_g (lw_at lw_m6 175 rfl) rfl
theorem q1502 : (Jvm.Cond.laysFinal "SunkTowerModel" "SunkTowerModel" "rowMany" "[I") ∈ lw_all := lw_g (lw_at lw_m6 176 rfl) rfl
theorem q1503 : (Jvm.Cond.soleField "SunkTowerModel" "rowMany") ∈ lw_all := lw_g (lw_at lw_m6 177 rfl) rfl
theorem q1504 : (Jvm.Cond.laysFinal "SunkTowerModel" "SunkTowerModel" "numbers" "[J") ∈ lw_all := lw_g (lw_at lw_m6 178 rfl) rfl
theorem q1505 : (Jvm.Cond.soleField "SunkTowerModel" "numbers") ∈ lw_all := lw_g (lw_at lw_m6 179 rfl) rfl
theorem q1506 : (Jvm.Cond.superclass "SunkTowerModel" "java/lang/Object") ∈ lw_all := lw_g (lw_at lw_m6 180 rfl) rfl
theorem q1509 : (Jvm.Cond.instanceMethod ({ cls := "SunkTowerModel", name := "feed", desc := "(IIIII)I" } : Jvm.MethodName)) ∈ lw_all := lw_g (lw_at lw_m6 183 rfl) rfl
theorem q1510 : (Jvm.Cond.selects "SunkTowerModel" ({ cls := "SunkTowerModel", name := "feed", desc := "(IIIII)I" } : Jvm.MethodName) ({ cls := "SunkTowerModel", name := "feed", desc := "(IIIII)I" } : Jvm.MethodName)) ∈ lw_all := lw_g (lw_at lw_m6 184 rfl) rfl
theorem q1511 : (Jvm.Cond.code ({ cls := "SunkTowerModel", name := "feed", desc := "(IIIII)I" } : Jvm.MethodName) prog_11_method_5_code (8 : Nat) (Option.some Jvm.ClassFile.FieldType.int)) ∈ lw_all := lw_g (lw_at lw_m6 185 rfl) rfl
theorem q1513 : (Jvm.Cond.instanceMethod ({ cls := "SunkTowerModel", name := "tower", desc := "(I)I" } : Jvm.MethodName)) ∈ lw_all := lw_g (lw_at lw_m6 187 rfl) rfl
theorem q1514 : (Jvm.Cond.selects "SunkTowerModel" ({ cls := "SunkTowerModel", name := "tower", desc := "(I)I" } : Jvm.MethodName) ({ cls := "SunkTowerModel", name := "tower", desc := "(I)I" } : Jvm.MethodName)) ∈ lw_all := lw_g (lw_at lw_m6 188 rfl) rfl
theorem q1515 : (Jvm.Cond.code ({ cls := "SunkTowerModel", name := "tower", desc := "(I)I" } : Jvm.MethodName) prog_11_method_29_code (3 : Nat) (Option.some Jvm.ClassFile.FieldType.int)) ∈ lw_all := lw_g (lw_at lw_m6 189 rfl) rfl
theorem q1516 : (Jvm.Cond.methodLink "SunkTowerModel" (141 : Nat) ({ cls := "SunkTowerModel", name := "within", desc := "(JJJ)Z" } : Jvm.MethodName)) ∈ lw_all := lw_g (lw_at lw_m6 190 rfl) rfl
theorem q1517 : (Jvm.Cond.static ({ cls := "SunkTowerModel", name := "within", desc := "(JJJ)Z" } : Jvm.MethodName)) ∈ lw_all := lw_g (lw_at lw_m6 191 rfl) rfl
theorem q1518 : (Jvm.Cond.code ({ cls := "SunkTowerModel", name := "within", desc := "(JJJ)Z" } : Jvm.MethodName) prog_11_method_2_code (6 : Nat) (Option.some Jvm.ClassFile.FieldType.boolean)) ∈ lw_all := lw_g (lw_at lw_m6 192 rfl) rfl
theorem q1519 : (Jvm.Cond.methodLink "SunkTowerModel" (134 : Nat) ({ cls := "SunkTowerModel", name := "next", desc := "()V" } : Jvm.MethodName)) ∈ lw_all := lw_g (lw_at lw_m6 193 rfl) rfl
theorem q1520 : (Jvm.Cond.privateMethod ({ cls := "SunkTowerModel", name := "next", desc := "()V" } : Jvm.MethodName)) ∈ lw_tbl := lw_at lw_m6 194 rfl
theorem q1521 : (Jvm.Cond.instanceMethod ({ cls := "SunkTowerModel", name := "next", desc := "()V" } : Jvm.MethodName)) ∈ lw_all := lw_g (lw_at lw_m6 195 rfl) rfl
theorem q1522 : (Jvm.Cond.code ({ cls := "SunkTowerModel", name := "next", desc := "()V" } : Jvm.MethodName) prog_11_method_10_code (2 : Nat) (Option.none : Option Jvm.ClassFile.FieldType)) ∈ lw_all := lw_g (lw_at lw_m6 196 rfl) rfl
theorem q1523 : (Jvm.Cond.methodLink "SunkTowerModel" (103 : Nat) ({ cls := "SunkTowerModel", name := "see", desc := "(I)I" } : Jvm.MethodName)) ∈ lw_all := lw_g (lw_at lw_m6 197 rfl) rfl
theorem q1524 : (Jvm.Cond.privateMethod ({ cls := "SunkTowerModel", name := "see", desc := "(I)I" } : Jvm.MethodName)) ∈ lw_tbl := lw_at lw_m6 198 rfl
theorem q1525 : (Jvm.Cond.instanceMethod ({ cls := "SunkTowerModel", name := "see", desc := "(I)I" } : Jvm.MethodName)) ∈ lw_all := lw_g (lw_at lw_m6 199 rfl) rfl
theorem q1526 : (Jvm.Cond.code ({ cls := "SunkTowerModel", name := "see", desc := "(I)I" } : Jvm.MethodName) prog_11_method_6_code (2 : Nat) (Option.some Jvm.ClassFile.FieldType.int)) ∈ lw_all := lw_g (lw_at lw_m6 200 rfl) rfl
theorem q1527 : (Jvm.Cond.methodLink "SunkTowerModel" (110 : Nat) ({ cls := "SunkTowerModel", name := "isSmall", desc := "(I)Z" } : Jvm.MethodName)) ∈ lw_all := lw_g (lw_at lw_m6 201 rfl) rfl
theorem q1528 : (Jvm.Cond.static ({ cls := "SunkTowerModel", name := "isSmall", desc := "(I)Z" } : Jvm.MethodName)) ∈ lw_all := lw_g (lw_at lw_m6 202 rfl) rfl
theorem q1529 : (Jvm.Cond.code ({ cls := "SunkTowerModel", name := "isSmall", desc := "(I)Z" } : Jvm.MethodName) prog_11_method_7_code (1 : Nat) (Option.some Jvm.ClassFile.FieldType.boolean)) ∈ lw_all := lw_g (lw_at lw_m6 203 rfl) rfl
theorem q1530 : (Jvm.Cond.methodLink "SunkTowerModel" (114 : Nat) ({ cls := "SunkTowerModel", name := "keyAt", desc := "()I" } : Jvm.MethodName)) ∈ lw_all := lw_g (lw_at lw_m6 204 rfl) rfl
theorem q1531 : (Jvm.Cond.privateMethod ({ cls := "SunkTowerModel", name := "keyAt", desc := "()I" } : Jvm.MethodName)) ∈ lw_tbl := lw_at lw_m6 205 rfl
theorem q1532 : (Jvm.Cond.instanceMethod ({ cls := "SunkTowerModel", name := "keyAt", desc := "()I" } : Jvm.MethodName)) ∈ lw_all := lw_g (lw_at lw_m6 206 rfl) rfl
theorem q1533 : (Jvm.Cond.code ({ cls := "SunkTowerModel", name := "keyAt", desc := "()I" } : Jvm.MethodName) prog_11_method_9_code (4 : Nat) (Option.some Jvm.ClassFile.FieldType.int)) ∈ lw_all := lw_g (lw_at lw_m6 207 rfl) rfl
theorem q1534 : (Jvm.Cond.stringRef "SunkTowerModel" (85 : Nat) " storey tenant on wants sinks pays worth sunk month build costs move weight storeys buried height goods was ") ∈ lw_tbl := lw_at lw_m6 208 rfl
theorem q1535 : (Jvm.Cond.methodLink "SunkTowerModel" (87 : Nat) ({ cls := "java/lang/String", name := "length", desc := "()I" } : Jvm.MethodName)) ∈ lw_all := lw_g (lw_at lw_m6 209 rfl) rfl
theorem q1536 : (Jvm.Cond.methodLink "SunkTowerModel" (93 : Nat) ({ cls := "java/lang/String", name := "charAt", desc := "(I)C" } : Jvm.MethodName)) ∈ lw_all := lw_g (lw_at lw_m6 210 rfl) rfl
theorem q1537 : (Jvm.Cond.methodLink "SunkTowerModel" (117 : Nat) ({ cls := "SunkTowerModel", name := "isDigit", desc := "(I)Z" } : Jvm.MethodName)) ∈ lw_all := lw_g (lw_at lw_m6 211 rfl) rfl
theorem q1538 : (Jvm.Cond.static ({ cls := "SunkTowerModel", name := "isDigit", desc := "(I)Z" } : Jvm.MethodName)) ∈ lw_all := lw_g (lw_at lw_m6 212 rfl) rfl
theorem q1539 : (Jvm.Cond.code ({ cls := "SunkTowerModel", name := "isDigit", desc := "(I)Z" } : Jvm.MethodName) prog_11_method_8_code (1 : Nat) (Option.some Jvm.ClassFile.FieldType.boolean)) ∈ lw_all := lw_g (lw_at lw_m6 213 rfl) rfl
theorem q1540 : (Jvm.Cond.stringRef "SunkTowerModel" (123 : Nat) ";:+-*()") ∈ lw_tbl := lw_at lw_m6 214 rfl
theorem q1541 : (Jvm.Cond.methodLink "SunkTowerModel" (191 : Nat) ({ cls := "SunkTowerModel", name := "readLine", desc := "()V" } : Jvm.MethodName)) ∈ lw_all := lw_g (lw_at lw_m6 215 rfl) rfl
theorem q1542 : (Jvm.Cond.privateMethod ({ cls := "SunkTowerModel", name := "readLine", desc := "()V" } : Jvm.MethodName)) ∈ lw_tbl := lw_at lw_m6 216 rfl
theorem q1543 : (Jvm.Cond.instanceMethod ({ cls := "SunkTowerModel", name := "readLine", desc := "()V" } : Jvm.MethodName)) ∈ lw_all := lw_g (lw_at lw_m6 217 rfl) rfl
theorem q1544 : (Jvm.Cond.code ({ cls := "SunkTowerModel", name := "readLine", desc := "()V" } : Jvm.MethodName) prog_11_method_28_code (1 : Nat) (Option.none : Option Jvm.ClassFile.FieldType)) ∈ lw_all := lw_g (lw_at lw_m6 218 rfl) rfl
theorem q1545 : (Jvm.Cond.methodLink "SunkTowerModel" (176 : Nat) ({ cls := "SunkTowerModel", name := "readStorey", desc := "()V" } : Jvm.MethodName)) ∈ lw_all := lw_g (lw_at lw_m6 219 rfl) rfl
theorem q1546 : (Jvm.Cond.privateMethod ({ cls := "SunkTowerModel", name := "readStorey", desc := "()V" } : Jvm.MethodName)) ∈ lw_tbl := lw_at lw_m6 220 rfl
theorem q1547 : (Jvm.Cond.instanceMethod ({ cls := "SunkTowerModel", name := "readStorey", desc := "()V" } : Jvm.MethodName)) ∈ lw_all := lw_g (lw_at lw_m6 221 rfl) rfl
theorem q1548 : (Jvm.Cond.code ({ cls := "SunkTowerModel", name := "readStorey", desc := "()V" } : Jvm.MethodName) prog_11_method_22_code (3 : Nat) (Option.none : Option Jvm.ClassFile.FieldType)) ∈ lw_all := lw_g (lw_at lw_m6 222 rfl) rfl
theorem q1549 : (Jvm.Cond.methodLink "SunkTowerModel" (137 : Nat) ({ cls := "SunkTowerModel", name := "fails", desc := "(I)V" } : Jvm.MethodName)) ∈ lw_all := lw_g (lw_at lw_m6 223 rfl) rfl
theorem q1550 : (Jvm.Cond.privateMethod ({ cls := "SunkTowerModel", name := "fails", desc := "(I)V" } : Jvm.MethodName)) ∈ lw_tbl := lw_at lw_m6 224 rfl
theorem q1551 : (Jvm.Cond.instanceMethod ({ cls := "SunkTowerModel", name := "fails", desc := "(I)V" } : Jvm.MethodName)) ∈ lw_all := lw_g (lw_at lw_m6 225 rfl) rfl
theorem q1552 : (Jvm.Cond.code ({ cls := "SunkTowerModel", name := "fails", desc := "(I)V" } : Jvm.MethodName) prog_11_method_11_code (2 : Nat) (Option.none : Option Jvm.ClassFile.FieldType)) ∈ lw_all := lw_g (lw_at lw_m6 226 rfl) rfl
theorem q1553 : (Jvm.Cond.methodLink "SunkTowerModel" (169 : Nat) ({ cls := "SunkTowerModel", name := "takes", desc := "(II)I" } : Jvm.MethodName)) ∈ lw_all := lw_g (lw_at lw_m6 227 rfl) rfl
theorem q1554 : (Jvm.Cond.privateMethod ({ cls := "SunkTowerModel", name := "takes", desc := "(II)I" } : Jvm.MethodName)) ∈ lw_tbl := lw_at lw_m6 228 rfl
theorem q1555 : (Jvm.Cond.instanceMethod ({ cls := "SunkTowerModel", name := "takes", desc := "(II)I" } : Jvm.MethodName)) ∈ lw_all := lw_g (lw_at lw_m6 229 rfl) rfl
theorem q1556 : (Jvm.Cond.code ({ cls := "SunkTowerModel", name := "takes", desc := "(II)I" } : Jvm.MethodName) prog_11_method_14_code (4 : Nat) (Option.some Jvm.ClassFile.FieldType.int)) ∈ lw_all := lw_g (lw_at lw_m6 230 rfl) rfl
theorem q1557 : (Jvm.Cond.methodLink "SunkTowerModel" (131 : Nat) ({ cls := "SunkTowerModel", name := "is", desc := "(I)Z" } : Jvm.MethodName)) ∈ lw_all := lw_g (lw_at lw_m6 231 rfl) rfl
theorem q1558 : (Jvm.Cond.privateMethod ({ cls := "SunkTowerModel", name := "is", desc := "(I)Z" } : Jvm.MethodName)) ∈ lw_tbl := lw_at lw_m6 232 rfl
theorem q1559 : (Jvm.Cond.instanceMethod ({ cls := "SunkTowerModel", name := "is", desc := "(I)Z" } : Jvm.MethodName)) ∈ lw_all := lw_g (lw_at lw_m6 233 rfl) rfl
theorem q1560 : (Jvm.Cond.code ({ cls := "SunkTowerModel", name := "is", desc := "(I)Z" } : Jvm.MethodName) prog_11_method_12_code (2 : Nat) (Option.some Jvm.ClassFile.FieldType.boolean)) ∈ lw_all := lw_g (lw_at lw_m6 234 rfl) rfl
theorem q1561 : (Jvm.Cond.methodLink "SunkTowerModel" (179 : Nat) ({ cls := "SunkTowerModel", name := "readTenant", desc := "()V" } : Jvm.MethodName)) ∈ lw_all := lw_g (lw_at lw_m6 235 rfl) rfl
theorem q1562 : (Jvm.Cond.privateMethod ({ cls := "SunkTowerModel", name := "readTenant", desc := "()V" } : Jvm.MethodName)) ∈ lw_tbl := lw_at lw_m6 236 rfl
theorem q1563 : (Jvm.Cond.instanceMethod ({ cls := "SunkTowerModel", name := "readTenant", desc := "()V" } : Jvm.MethodName)) ∈ lw_all := lw_g (lw_at lw_m6 237 rfl) rfl
theorem q1564 : (Jvm.Cond.code ({ cls := "SunkTowerModel", name := "readTenant", desc := "()V" } : Jvm.MethodName) prog_11_method_24_code (2 : Nat) (Option.none : Option Jvm.ClassFile.FieldType)) ∈ lw_all := lw_g (lw_at lw_m6 238 rfl) rfl
theorem q1565 : (Jvm.Cond.methodLink "SunkTowerModel" (160 : Nat) ({ cls := "SunkTowerModel", name := "eats", desc := "(I)Z" } : Jvm.MethodName)) ∈ lw_all := lw_g (lw_at lw_m6 239 rfl) rfl
theorem q1566 : (Jvm.Cond.privateMethod ({ cls := "SunkTowerModel", name := "eats", desc := "(I)Z" } : Jvm.MethodName)) ∈ lw_tbl := lw_at lw_m7 0 rfl
theorem q1567 : (Jvm.Cond.instanceMethod ({ cls := "SunkTowerModel", name := "eats", desc := "(I)Z" } : Jvm.MethodName)) ∈ lw_all := lw_g (lw_at lw_m7 1 rfl) rfl
theorem q1568 : (Jvm.Cond.code ({ cls := "SunkTowerModel", name := "eats", desc := "(I)Z" } : Jvm.MethodName) prog_11_method_13_code (2 : Nat) (Option.some Jvm.ClassFile.FieldType.boolean)) ∈ lw_all := lw_g (lw_at lw_m7 2 rfl) rfl
theorem q1569 : (Jvm.Cond.methodLink "SunkTowerModel" (173 : Nat) ({ cls := "SunkTowerModel", name := "readOn", desc := "(I)V" } : Jvm.MethodName)) ∈ lw_all := lw_g (lw_at lw_m7 3 rfl) rfl
theorem q1570 : (Jvm.Cond.privateMethod ({ cls := "SunkTowerModel", name := "readOn", desc := "(I)V" } : Jvm.MethodName)) ∈ lw_tbl := lw_at lw_m7 4 rfl
theorem q1571 : (Jvm.Cond.instanceMethod ({ cls := "SunkTowerModel", name := "readOn", desc := "(I)V" } : Jvm.MethodName)) ∈ lw_all := lw_g (lw_at lw_m7 5 rfl) rfl
theorem q1572 : (Jvm.Cond.code ({ cls := "SunkTowerModel", name := "readOn", desc := "(I)V" } : Jvm.MethodName) prog_11_method_23_code (3 : Nat) (Option.none : Option Jvm.ClassFile.FieldType)) ∈ lw_all := lw_g (lw_at lw_m7 6 rfl) rfl
theorem q1573 : (Jvm.Cond.methodLink "SunkTowerModel" (182 : Nat) ({ cls := "SunkTowerModel", name := "readLaw", desc := "(I)V" } : Jvm.MethodName)) ∈ lw_all := lw_g (lw_at lw_m7 7 rfl) rfl
theorem q1574 : (Jvm.Cond.privateMethod ({ cls := "SunkTowerModel", name := "readLaw", desc := "(I)V" } : Jvm.MethodName)) ∈ lw_tbl := lw_at lw_m7 8 rfl
theorem q1575 : (Jvm.Cond.instanceMethod ({ cls := "SunkTowerModel", name := "readLaw", desc := "(I)V" } : Jvm.MethodName)) ∈ lw_all := lw_g (lw_at lw_m7 9 rfl) rfl
theorem q1576 : (Jvm.Cond.code ({ cls := "SunkTowerModel", name := "readLaw", desc := "(I)V" } : Jvm.MethodName) prog_11_method_25_code (3 : Nat) (Option.none : Option Jvm.ClassFile.FieldType)) ∈ lw_all := lw_g (lw_at lw_m7 10 rfl) rfl
theorem q1577 : (Jvm.Cond.methodLink "SunkTowerModel" (157 : Nat) ({ cls := "SunkTowerModel", name := "readSum", desc := "(I)V" } : Jvm.MethodName)) ∈ lw_all := lw_g (lw_at lw_m7 11 rfl) rfl
theorem q1578 : (Jvm.Cond.privateMethod ({ cls := "SunkTowerModel", name := "readSum", desc := "(I)V" } : Jvm.MethodName)) ∈ lw_tbl := lw_at lw_m7 12 rfl
theorem q1579 : (Jvm.Cond.instanceMethod ({ cls := "SunkTowerModel", name := "readSum", desc := "(I)V" } : Jvm.MethodName)) ∈ lw_all := lw_g (lw_at lw_m7 13 rfl) rfl
theorem q1580 : (Jvm.Cond.code ({ cls := "SunkTowerModel", name := "readSum", desc := "(I)V" } : Jvm.MethodName) prog_11_method_21_code (3 : Nat) (Option.none : Option Jvm.ClassFile.FieldType)) ∈ lw_all := lw_g (lw_at lw_m7 14 rfl) rfl
theorem q1581 : (Jvm.Cond.methodLink "SunkTowerModel" (166 : Nat) ({ cls := "SunkTowerModel", name := "readTerm", desc := "(I)V" } : Jvm.MethodName)) ∈ lw_all := lw_g (lw_at lw_m7 15 rfl) rfl
theorem q1582 : (Jvm.Cond.privateMethod ({ cls := "SunkTowerModel", name := "readTerm", desc := "(I)V" } : Jvm.MethodName)) ∈ lw_tbl := lw_at lw_m7 16 rfl
theorem q1583 : (Jvm.Cond.instanceMethod ({ cls := "SunkTowerModel", name := "readTerm", desc := "(I)V" } : Jvm.MethodName)) ∈ lw_all := lw_g (lw_at lw_m7 17 rfl) rfl
theorem q1584 : (Jvm.Cond.code ({ cls := "SunkTowerModel", name := "readTerm", desc := "(I)V" } : Jvm.MethodName) prog_11_method_20_code (2 : Nat) (Option.none : Option Jvm.ClassFile.FieldType)) ∈ lw_all := lw_g (lw_at lw_m7 18 rfl) rfl
theorem q1585 : (Jvm.Cond.methodLink "SunkTowerModel" (163 : Nat) ({ cls := "SunkTowerModel", name := "readAtom", desc := "(I)V" } : Jvm.MethodName)) ∈ lw_all := lw_g (lw_at lw_m7 19 rfl) rfl
theorem q1586 : (Jvm.Cond.privateMethod ({ cls := "SunkTowerModel", name := "readAtom", desc := "(I)V" } : Jvm.MethodName)) ∈ lw_tbl := lw_at lw_m7 20 rfl
theorem q1587 : (Jvm.Cond.instanceMethod ({ cls := "SunkTowerModel", name := "readAtom", desc := "(I)V" } : Jvm.MethodName)) ∈ lw_all := lw_g (lw_at lw_m7 21 rfl) rfl
theorem q1588 : (Jvm.Cond.code ({ cls := "SunkTowerModel", name := "readAtom", desc := "(I)V" } : Jvm.MethodName) prog_11_method_19_code (2 : Nat) (Option.none : Option Jvm.ClassFile.FieldType)) ∈ lw_all := lw_g (lw_at lw_m7 22 rfl) rfl
theorem q1589 : (Jvm.Cond.methodLink "SunkTowerModel" (148 : Nat) ({ cls := "SunkTowerModel", name := "codes", desc := "(I)V" } : Jvm.MethodName)) ∈ lw_all := lw_g (lw_at lw_m7 23 rfl) rfl
theorem q1590 : (Jvm.Cond.privateMethod ({ cls := "SunkTowerModel", name := "codes", desc := "(I)V" } : Jvm.MethodName)) ∈ lw_tbl := lw_at lw_m7 24 rfl
theorem q1591 : (Jvm.Cond.instanceMethod ({ cls := "SunkTowerModel", name := "codes", desc := "(I)V" } : Jvm.MethodName)) ∈ lw_all := lw_g (lw_at lw_m7 25 rfl) rfl
theorem q1592 : (Jvm.Cond.code ({ cls := "SunkTowerModel", name := "codes", desc := "(I)V" } : Jvm.MethodName) prog_11_method_17_code (2 : Nat) (Option.none : Option Jvm.ClassFile.FieldType)) ∈ lw_all := lw_g (lw_at lw_m7 26 rfl) rfl
theorem q1593 : (Jvm.Cond.methodLink "SunkTowerModel" (151 : Nat) ({ cls := "SunkTowerModel", name := "wordOf", desc := "(I)I" } : Jvm.MethodName)) ∈ lw_all := lw_g (lw_at lw_m7 27 rfl) rfl
theorem q1594 : (Jvm.Cond.privateMethod ({ cls := "SunkTowerModel", name := "wordOf", desc := "(I)I" } : Jvm.MethodName)) ∈ lw_tbl := lw_at lw_m7 28 rfl
theorem q1595 : (Jvm.Cond.instanceMethod ({ cls := "SunkTowerModel", name := "wordOf", desc := "(I)I" } : Jvm.MethodName)) ∈ lw_all := lw_g (lw_at lw_m7 29 rfl) rfl
theorem q1596 : (Jvm.Cond.code ({ cls := "SunkTowerModel", name := "wordOf", desc := "(I)I" } : Jvm.MethodName) prog_11_method_16_code (2 : Nat) (Option.some Jvm.ClassFile.FieldType.int)) ∈ lw_all := lw_g (lw_at lw_m7 30 rfl) rfl
theorem q1597 : (Jvm.Cond.methodLink "SunkTowerModel" (154 : Nat) ({ cls := "SunkTowerModel", name := "goesIn", desc := "(I)Z" } : Jvm.MethodName)) ∈ lw_all := lw_g (lw_at lw_m7 31 rfl) rfl
theorem q1598 : (Jvm.Cond.privateMethod ({ cls := "SunkTowerModel", name := "goesIn", desc := "(I)Z" } : Jvm.MethodName)) ∈ lw_tbl := lw_at lw_m7 32 rfl
theorem q1599 : (Jvm.Cond.instanceMethod ({ cls := "SunkTowerModel", name := "goesIn", desc := "(I)Z" } : Jvm.MethodName)) ∈ lw_all := lw_g (lw_at lw_m7 33 rfl) rfl
theorem q1600 : (Jvm.Cond.code ({ cls := "SunkTowerModel", name := "goesIn", desc := "(I)Z" } : Jvm.MethodName) prog_11_method_18_code (2 : Nat) (Option.some Jvm.ClassFile.FieldType.boolean)) ∈ lw_all := lw_g (lw_at lw_m7 34 rfl) rfl
theorem q1601 : (Jvm.Cond.methodLink "SunkTowerModel" (185 : Nat) ({ cls := "SunkTowerModel", name := "readOne", desc := "(I)V" } : Jvm.MethodName)) ∈ lw_all := lw_g (lw_at lw_m7 35 rfl) rfl
theorem q1602 : (Jvm.Cond.privateMethod ({ cls := "SunkTowerModel", name := "readOne", desc := "(I)V" } : Jvm.MethodName)) ∈ lw_tbl := lw_at lw_m7 36 rfl
theorem q1603 : (Jvm.Cond.instanceMethod ({ cls := "SunkTowerModel", name := "readOne", desc := "(I)V" } : Jvm.MethodName)) ∈ lw_all := lw_g (lw_at lw_m7 37 rfl) rfl
theorem q1604 : (Jvm.Cond.code ({ cls := "SunkTowerModel", name := "readOne", desc := "(I)V" } : Jvm.MethodName) prog_11_method_27_code (3 : Nat) (Option.none : Option Jvm.ClassFile.FieldType)) ∈ lw_all := lw_g (lw_at lw_m7 38 rfl) rfl
theorem q1605 : (Jvm.Cond.methodLink "SunkTowerModel" (188 : Nat) ({ cls := "SunkTowerModel", name := "readBuild", desc := "()V" } : Jvm.MethodName)) ∈ lw_all := lw_g (lw_at lw_m7 39 rfl) rfl
theorem q1606 : (Jvm.Cond.privateMethod ({ cls := "SunkTowerModel", name := "readBuild", desc := "()V" } : Jvm.MethodName)) ∈ lw_tbl := lw_at lw_m7 40 rfl
theorem q1607 : (Jvm.Cond.instanceMethod ({ cls := "SunkTowerModel", name := "readBuild", desc := "()V" } : Jvm.MethodName)) ∈ lw_all := lw_g (lw_at lw_m7 41 rfl) rfl
theorem q1608 : (Jvm.Cond.code ({ cls := "SunkTowerModel", name := "readBuild", desc := "()V" } : Jvm.MethodName) prog_11_method_26_code (3 : Nat) (Option.none : Option Jvm.ClassFile.FieldType)) ∈ lw_all := lw_g (lw_at lw_m7 42 rfl) rfl
theorem q1610 : (Jvm.Cond.instanceMethod ({ cls := "SunkTowerModel", name := "fault", desc := "(I)I" } : Jvm.MethodName)) ∈ lw_all := lw_g (lw_at lw_m7 44 rfl) rfl
theorem q1611 : (Jvm.Cond.selects "SunkTowerModel" ({ cls := "SunkTowerModel", name := "fault", desc := "(I)I" } : Jvm.MethodName) ({ cls := "SunkTowerModel", name := "fault", desc := "(I)I" } : Jvm.MethodName)) ∈ lw_all := lw_g (lw_at lw_m7 45 rfl) rfl
theorem q1612 : (Jvm.Cond.code ({ cls := "SunkTowerModel", name := "fault", desc := "(I)I" } : Jvm.MethodName) prog_11_method_30_code (2 : Nat) (Option.some Jvm.ClassFile.FieldType.int)) ∈ lw_all := lw_g (lw_at lw_m7 46 rfl) rfl
theorem q1614 : (Jvm.Cond.instanceMethod ({ cls := "SunkTowerModel", name := "storey", desc := "(II)I" } : Jvm.MethodName)) ∈ lw_all := lw_g (lw_at lw_m7 48 rfl) rfl
theorem q1615 : (Jvm.Cond.selects "SunkTowerModel" ({ cls := "SunkTowerModel", name := "storey", desc := "(II)I" } : Jvm.MethodName) ({ cls := "SunkTowerModel", name := "storey", desc := "(II)I" } : Jvm.MethodName)) ∈ lw_all := lw_g (lw_at lw_m7 49 rfl) rfl
theorem q1616 : (Jvm.Cond.code ({ cls := "SunkTowerModel", name := "storey", desc := "(II)I" } : Jvm.MethodName) prog_11_method_44_code (3 : Nat) (Option.some Jvm.ClassFile.FieldType.int)) ∈ lw_all := lw_g (lw_at lw_m7 50 rfl) rfl
theorem q1617 : (Jvm.Cond.methodLink "SunkTowerModel" (220 : Nat) ({ cls := "SunkTowerModel", name := "isStorey", desc := "(J)Z" } : Jvm.MethodName)) ∈ lw_all := lw_g (lw_at lw_m7 51 rfl) rfl
theorem q1618 : (Jvm.Cond.privateMethod ({ cls := "SunkTowerModel", name := "isStorey", desc := "(J)Z" } : Jvm.MethodName)) ∈ lw_tbl := lw_at lw_m7 52 rfl
theorem q1619 : (Jvm.Cond.instanceMethod ({ cls := "SunkTowerModel", name := "isStorey", desc := "(J)Z" } : Jvm.MethodName)) ∈ lw_all := lw_g (lw_at lw_m7 53 rfl) rfl
theorem q1620 : (Jvm.Cond.code ({ cls := "SunkTowerModel", name := "isStorey", desc := "(J)Z" } : Jvm.MethodName) prog_11_method_31_code (3 : Nat) (Option.some Jvm.ClassFile.FieldType.boolean)) ∈ lw_all := lw_g (lw_at lw_m7 54 rfl) rfl
theorem q1621 : (Jvm.Cond.constantLong "SunkTowerModel" (224 : Nat) (2 : Int64)) ∈ lw_all := lw_g (lw_at lw_m7 55 rfl) rfl
theorem q1622 : (Jvm.Cond.methodLink "SunkTowerModel" (226 : Nat) ({ cls := "SunkTowerModel", name := "livesOn", desc := "(I)I" } : Jvm.MethodName)) ∈ lw_all := lw_g (lw_at lw_m7 56 rfl) rfl
theorem q1623 : (Jvm.Cond.privateMethod ({ cls := "SunkTowerModel", name := "livesOn", desc := "(I)I" } : Jvm.MethodName)) ∈ lw_tbl := lw_at lw_m7 57 rfl
theorem q1624 : (Jvm.Cond.instanceMethod ({ cls := "SunkTowerModel", name := "livesOn", desc := "(I)I" } : Jvm.MethodName)) ∈ lw_all := lw_g (lw_at lw_m7 58 rfl) rfl
theorem q1625 : (Jvm.Cond.code ({ cls := "SunkTowerModel", name := "livesOn", desc := "(I)I" } : Jvm.MethodName) prog_11_method_33_code (3 : Nat) (Option.some Jvm.ClassFile.FieldType.int)) ∈ lw_all := lw_g (lw_at lw_m7 59 rfl) rfl
theorem q1626 : (Jvm.Cond.methodLink "SunkTowerModel" (205 : Nat) ({ cls := "SunkTowerModel", name := "isBuried", desc := "(II)Z" } : Jvm.MethodName)) ∈ lw_all := lw_g (lw_at lw_m7 60 rfl) rfl
theorem q1627 : (Jvm.Cond.static ({ cls := "SunkTowerModel", name := "isBuried", desc := "(II)Z" } : Jvm.MethodName)) ∈ lw_all := lw_g (lw_at lw_m7 61 rfl) rfl
theorem q1628 : (Jvm.Cond.code ({ cls := "SunkTowerModel", name := "isBuried", desc := "(II)Z" } : Jvm.MethodName) prog_11_method_35_code (2 : Nat) (Option.some Jvm.ClassFile.FieldType.boolean)) ∈ lw_all := lw_g (lw_at lw_m7 62 rfl) rfl
theorem q1630 : (Jvm.Cond.instanceMethod ({ cls := "SunkTowerModel", name := "tenant", desc := "(II)I" } : Jvm.MethodName)) ∈ lw_all := lw_g (lw_at lw_m7 64 rfl) rfl
theorem q1631 : (Jvm.Cond.selects "SunkTowerModel" ({ cls := "SunkTowerModel", name := "tenant", desc := "(II)I" } : Jvm.MethodName) ({ cls := "SunkTowerModel", name := "tenant", desc := "(II)I" } : Jvm.MethodName)) ∈ lw_all := lw_g (lw_at lw_m7 65 rfl) rfl
theorem q1632 : (Jvm.Cond.code ({ cls := "SunkTowerModel", name := "tenant", desc := "(II)I" } : Jvm.MethodName) prog_11_method_45_code (3 : Nat) (Option.some Jvm.ClassFile.FieldType.int)) ∈ lw_all := lw_g (lw_at lw_m7 66 rfl) rfl
theorem q1633 : (Jvm.Cond.methodLink "SunkTowerModel" (229 : Nat) ({ cls := "SunkTowerModel", name := "isTenant", desc := "(J)Z" } : Jvm.MethodName)) ∈ lw_all := lw_g (lw_at lw_m7 67 rfl) rfl
theorem q1634 : (Jvm.Cond.privateMethod ({ cls := "SunkTowerModel", name := "isTenant", desc := "(J)Z" } : Jvm.MethodName)) ∈ lw_tbl := lw_at lw_m7 68 rfl
theorem q1635 : (Jvm.Cond.instanceMethod ({ cls := "SunkTowerModel", name := "isTenant", desc := "(J)Z" } : Jvm.MethodName)) ∈ lw_all := lw_g (lw_at lw_m7 69 rfl) rfl
theorem q1636 : (Jvm.Cond.code ({ cls := "SunkTowerModel", name := "isTenant", desc := "(J)Z" } : Jvm.MethodName) prog_11_method_32_code (3 : Nat) (Option.some Jvm.ClassFile.FieldType.boolean)) ∈ lw_all := lw_g (lw_at lw_m7 70 rfl) rfl
theorem q1638 : (Jvm.Cond.instanceMethod ({ cls := "SunkTowerModel", name := "weight", desc := "()I" } : Jvm.MethodName)) ∈ lw_all := lw_g (lw_at lw_m7 72 rfl) rfl
theorem q1639 : (Jvm.Cond.selects "SunkTowerModel" ({ cls := "SunkTowerModel", name := "weight", desc := "()I" } : Jvm.MethodName) ({ cls := "SunkTowerModel", name := "weight", desc := "()I" } : Jvm.MethodName)) ∈ lw_all := lw_g (lw_at lw_m7 73 rfl) rfl
theorem q1640 : (Jvm.Cond.code ({ cls := "SunkTowerModel", name := "weight", desc := "()I" } : Jvm.MethodName) prog_11_method_46_code (1 : Nat) (Option.some Jvm.ClassFile.FieldType.int)) ∈ lw_all := lw_g (lw_at lw_m7 74 rfl) rfl
theorem q1641 : (Jvm.Cond.methodLink "SunkTowerModel" (232 : Nat) ({ cls := "SunkTowerModel", name := "weightOf", desc := "(I)I" } : Jvm.MethodName)) ∈ lw_all := lw_g (lw_at lw_m7 75 rfl) rfl
theorem q1642 : (Jvm.Cond.privateMethod ({ cls := "SunkTowerModel", name := "weightOf", desc := "(I)I" } : Jvm.MethodName)) ∈ lw_tbl := lw_at lw_m7 76 rfl
theorem q1643 : (Jvm.Cond.instanceMethod ({ cls := "SunkTowerModel", name := "weightOf", desc := "(I)I" } : Jvm.MethodName)) ∈ lw_all := lw_g (lw_at lw_m7 77 rfl) rfl
theorem q1644 : (Jvm.Cond.code ({ cls := "SunkTowerModel", name := "weightOf", desc := "(I)I" } : Jvm.MethodName) prog_11_method_36_code (4 : Nat) (Option.some Jvm.ClassFile.FieldType.int)) ∈ lw_all := lw_g (lw_at lw_m7 78 rfl) rfl
theorem q1646 : (Jvm.Cond.instanceMethod ({ cls := "SunkTowerModel", name := "sinks", desc := "()I" } : Jvm.MethodName)) ∈ lw_all := lw_g (lw_at lw_m7 80 rfl) rfl
theorem q1647 : (Jvm.Cond.selects "SunkTowerModel" ({ cls := "SunkTowerModel", name := "sinks", desc := "()I" } : Jvm.MethodName) ({ cls := "SunkTowerModel", name := "sinks", desc := "()I" } : Jvm.MethodName)) ∈ lw_all := lw_g (lw_at lw_m7 81 rfl) rfl
theorem q1648 : (Jvm.Cond.code ({ cls := "SunkTowerModel", name := "sinks", desc := "()I" } : Jvm.MethodName) prog_11_method_47_code (1 : Nat) (Option.some Jvm.ClassFile.FieldType.int)) ∈ lw_all := lw_g (lw_at lw_m7 82 rfl) rfl
theorem q1649 : (Jvm.Cond.methodLink "SunkTowerModel" (235 : Nat) ({ cls := "SunkTowerModel", name := "sinksBy", desc := "(IIII)I" } : Jvm.MethodName)) ∈ lw_all := lw_g (lw_at lw_m7 83 rfl) rfl
theorem q1650 : (Jvm.Cond.privateMethod ({ cls := "SunkTowerModel", name := "sinksBy", desc := "(IIII)I" } : Jvm.MethodName)) ∈ lw_tbl := lw_at lw_m7 84 rfl
theorem q1651 : (Jvm.Cond.instanceMethod ({ cls := "SunkTowerModel", name := "sinksBy", desc := "(IIII)I" } : Jvm.MethodName)) ∈ lw_all := lw_g (lw_at lw_m7 85 rfl) rfl
theorem q1652 : (Jvm.Cond.code ({ cls := "SunkTowerModel", name := "sinksBy", desc := "(IIII)I" } : Jvm.MethodName) prog_11_method_39_code (7 : Nat) (Option.some Jvm.ClassFile.FieldType.int)) ∈ lw_all := lw_g (lw_at lw_m7 86 rfl) rfl
theorem q1653 : (Jvm.Cond.methodLink "SunkTowerModel" (209 : Nat) ({ cls := "SunkTowerModel", name := "reckons", desc := "(I)I" } : Jvm.MethodName)) ∈ lw_all := lw_g (lw_at lw_m7 87 rfl) rfl
theorem q1654 : (Jvm.Cond.privateMethod ({ cls := "SunkTowerModel", name := "reckons", desc := "(I)I" } : Jvm.MethodName)) ∈ lw_tbl := lw_at lw_m7 88 rfl
theorem q1655 : (Jvm.Cond.instanceMethod ({ cls := "SunkTowerModel", name := "reckons", desc := "(I)I" } : Jvm.MethodName)) ∈ lw_all := lw_g (lw_at lw_m7 89 rfl) rfl
theorem q1656 : (Jvm.Cond.code ({ cls := "SunkTowerModel", name := "reckons", desc := "(I)I" } : Jvm.MethodName) prog_11_method_38_code (5 : Nat) (Option.some Jvm.ClassFile.FieldType.int)) ∈ lw_all := lw_g (lw_at lw_m7 90 rfl) rfl
theorem q1657 : (Jvm.Cond.methodLink "SunkTowerModel" (201 : Nat) ({ cls := "SunkTowerModel", name := "between", desc := "(III)I" } : Jvm.MethodName)) ∈ lw_all := lw_g (lw_at lw_m7 91 rfl) rfl
theorem q1658 : (Jvm.Cond.static ({ cls := "SunkTowerModel", name := "between", desc := "(III)I" } : Jvm.MethodName)) ∈ lw_all := lw_g (lw_at lw_m7 92 rfl) rfl
theorem q1659 : (Jvm.Cond.code ({ cls := "SunkTowerModel", name := "between", desc := "(III)I" } : Jvm.MethodName) prog_11_method_37_code (5 : Nat) (Option.some Jvm.ClassFile.FieldType.int)) ∈ lw_all := lw_g (lw_at lw_m7 93 rfl) rfl
theorem q1660 : (Jvm.Cond.constantLong "SunkTowerModel" (197 : Nat) (1000000 : Int64)) ∈ lw_all := lw_g (lw_at lw_m7 94 rfl) rfl
theorem q1661 : (Jvm.Cond.constantLong "SunkTowerModel" (199 : Nat) (-1000000 : Int64)) ∈ lw_all := lw_g (lw_at lw_m7 95 rfl) rfl
theorem q1663 : (Jvm.Cond.instanceMethod ({ cls := "SunkTowerModel", name := "pays", desc := "(I)I" } : Jvm.MethodName)) ∈ lw_all := lw_g (lw_at lw_m7 97 rfl) rfl
theorem q1664 : (Jvm.Cond.selects "SunkTowerModel" ({ cls := "SunkTowerModel", name := "pays", desc := "(I)I" } : Jvm.MethodName) ({ cls := "SunkTowerModel", name := "pays", desc := "(I)I" } : Jvm.MethodName)) ∈ lw_all := lw_g (lw_at lw_m7 98 rfl) rfl
theorem q1665 : (Jvm.Cond.code ({ cls := "SunkTowerModel", name := "pays", desc := "(I)I" } : Jvm.MethodName) prog_11_method_48_code (2 : Nat) (Option.some Jvm.ClassFile.FieldType.int)) ∈ lw_all := lw_g (lw_at lw_m7 99 rfl) rfl
theorem q1666 : (Jvm.Cond.methodLink "SunkTowerModel" (238 : Nat) ({ cls := "SunkTowerModel", name := "paysOf", desc := "(III)I" } : Jvm.MethodName)) ∈ lw_all := lw_g (lw_at lw_m7 100 rfl) rfl
theorem q1667 : (Jvm.Cond.privateMethod ({ cls := "SunkTowerModel", name := "paysOf", desc := "(III)I" } : Jvm.MethodName)) ∈ lw_tbl := lw_at lw_m7 101 rfl
theorem q1668 : (Jvm.Cond.instanceMethod ({ cls := "SunkTowerModel", name := "paysOf", desc := "(III)I" } : Jvm.MethodName)) ∈ lw_all := lw_g (lw_at lw_m7 102 rfl) rfl
theorem q1669 : (Jvm.Cond.code ({ cls := "SunkTowerModel", name := "paysOf", desc := "(III)I" } : Jvm.MethodName) prog_11_method_41_code (4 : Nat) (Option.some Jvm.ClassFile.FieldType.int)) ∈ lw_all := lw_g (lw_at lw_m7 103 rfl) rfl
theorem q1670 : (Jvm.Cond.methodLink "SunkTowerModel" (213 : Nat) ({ cls := "SunkTowerModel", name := "heightOf", desc := "(II)I" } : Jvm.MethodName)) ∈ lw_all := lw_g (lw_at lw_m7 104 rfl) rfl
theorem q1671 : (Jvm.Cond.static ({ cls := "SunkTowerModel", name := "heightOf", desc := "(II)I" } : Jvm.MethodName)) ∈ lw_all := lw_g (lw_at lw_m7 105 rfl) rfl
theorem q1672 : (Jvm.Cond.code ({ cls := "SunkTowerModel", name := "heightOf", desc := "(II)I" } : Jvm.MethodName) prog_11_method_34_code (3 : Nat) (Option.some Jvm.ClassFile.FieldType.int)) ∈ lw_all := lw_g (lw_at lw_m7 106 rfl) rfl
theorem q1673 : (Jvm.Cond.constant "SunkTowerModel" (241 : Nat) (-90000002 : Int32)) ∈ lw_all := lw_g (lw_at lw_m7 107 rfl) rfl
theorem q1675 : (Jvm.Cond.instanceMethod ({ cls := "SunkTowerModel", name := "worth", desc := "(II)I" } : Jvm.MethodName)) ∈ lw_all := lw_g (lw_at lw_m7 109 rfl) rfl
theorem q1676 : (Jvm.Cond.selects "SunkTowerModel" ({ cls := "SunkTowerModel", name := "worth", desc := "(II)I" } : Jvm.MethodName) ({ cls := "SunkTowerModel", name := "worth", desc := "(II)I" } : Jvm.MethodName)) ∈ lw_all := lw_g (lw_at lw_m7 110 rfl) rfl
theorem q1677 : (Jvm.Cond.code ({ cls := "SunkTowerModel", name := "worth", desc := "(II)I" } : Jvm.MethodName) prog_11_method_49_code (3 : Nat) (Option.some Jvm.ClassFile.FieldType.int)) ∈ lw_all := lw_g (lw_at lw_m7 111 rfl) rfl
theorem q1678 : (Jvm.Cond.methodLink "SunkTowerModel" (242 : Nat) ({ cls := "SunkTowerModel", name := "worthNow", desc := "(II)I" } : Jvm.MethodName)) ∈ lw_all := lw_g (lw_at lw_m7 112 rfl) rfl
theorem q1679 : (Jvm.Cond.privateMethod ({ cls := "SunkTowerModel", name := "worthNow", desc := "(II)I" } : Jvm.MethodName)) ∈ lw_tbl := lw_at lw_m7 113 rfl
theorem q1680 : (Jvm.Cond.instanceMethod ({ cls := "SunkTowerModel", name := "worthNow", desc := "(II)I" } : Jvm.MethodName)) ∈ lw_all := lw_g (lw_at lw_m7 114 rfl) rfl
theorem q1681 : (Jvm.Cond.code ({ cls := "SunkTowerModel", name := "worthNow", desc := "(II)I" } : Jvm.MethodName) prog_11_method_43_code (3 : Nat) (Option.some Jvm.ClassFile.FieldType.int)) ∈ lw_all := lw_g (lw_at lw_m7 115 rfl) rfl
theorem q1682 : (Jvm.Cond.methodLink "SunkTowerModel" (216 : Nat) ({ cls := "SunkTowerModel", name := "worthOf", desc := "(IIII)I" } : Jvm.MethodName)) ∈ lw_all := lw_g (lw_at lw_m7 116 rfl) rfl
theorem q1683 : (Jvm.Cond.privateMethod ({ cls := "SunkTowerModel", name := "worthOf", desc := "(IIII)I" } : Jvm.MethodName)) ∈ lw_tbl := lw_at lw_m7 117 rfl
theorem q1684 : (Jvm.Cond.instanceMethod ({ cls := "SunkTowerModel", name := "worthOf", desc := "(IIII)I" } : Jvm.MethodName)) ∈ lw_all := lw_g (lw_at lw_m7 118 rfl) rfl
theorem q1685 : (Jvm.Cond.code ({ cls := "SunkTowerModel", name := "worthOf", desc := "(IIII)I" } : Jvm.MethodName) prog_11_method_42_code (5 : Nat) (Option.some Jvm.ClassFile.FieldType.int)) ∈ lw_all := lw_g (lw_at lw_m7 119 rfl) rfl
theorem q1687 : (Jvm.Cond.instanceMethod ({ cls := "SunkTowerModel", name := "months", desc := "(I)I" } : Jvm.MethodName)) ∈ lw_all := lw_g (lw_at lw_m7 121 rfl) rfl
theorem q1688 : (Jvm.Cond.selects "SunkTowerModel" ({ cls := "SunkTowerModel", name := "months", desc := "(I)I" } : Jvm.MethodName) ({ cls := "SunkTowerModel", name := "months", desc := "(I)I" } : Jvm.MethodName)) ∈ lw_all := lw_g (lw_at lw_m7 122 rfl) rfl
theorem q1689 : (Jvm.Cond.code ({ cls := "SunkTowerModel", name := "months", desc := "(I)I" } : Jvm.MethodName) prog_11_method_54_code (3 : Nat) (Option.some Jvm.ClassFile.FieldType.int)) ∈ lw_all := lw_g (lw_at lw_m7 123 rfl) rfl
theorem q1690 : (Jvm.Cond.constantLong "SunkTowerModel" (248 : Nat) (99 : Int64)) ∈ lw_all := lw_g (lw_at lw_m7 124 rfl) rfl
theorem q1691 : (Jvm.Cond.methodLink "SunkTowerModel" (250 : Nat) ({ cls := "SunkTowerModel", name := "keeps", desc := "()V" } : Jvm.MethodName)) ∈ lw_all := lw_g (lw_at lw_m7 125 rfl) rfl
theorem q1692 : (Jvm.Cond.privateMethod ({ cls := "SunkTowerModel", name := "keeps", desc := "()V" } : Jvm.MethodName)) ∈ lw_tbl := lw_at lw_m7 126 rfl
theorem q1693 : (Jvm.Cond.instanceMethod ({ cls := "SunkTowerModel", name := "keeps", desc := "()V" } : Jvm.MethodName)) ∈ lw_all := lw_g (lw_at lw_m7 127 rfl) rfl
theorem q1694 : (Jvm.Cond.code ({ cls := "SunkTowerModel", name := "keeps", desc := "()V" } : Jvm.MethodName) prog_11_method_50_code (2 : Nat) (Option.none : Option Jvm.ClassFile.FieldType)) ∈ lw_all := lw_g (lw_at lw_m7 128 rfl) rfl
theorem q1695 : (Jvm.Cond.methodLink "SunkTowerModel" (253 : Nat) ({ cls := "SunkTowerModel", name := "goesMonth", desc := "()V" } : Jvm.MethodName)) ∈ lw_all := lw_g (lw_at lw_m7 129 rfl) rfl
theorem q1696 : (Jvm.Cond.privateMethod ({ cls := "SunkTowerModel", name := "goesMonth", desc := "()V" } : Jvm.MethodName)) ∈ lw_tbl := lw_at lw_m7 130 rfl
theorem q1697 : (Jvm.Cond.instanceMethod ({ cls := "SunkTowerModel", name := "goesMonth", desc := "()V" } : Jvm.MethodName)) ∈ lw_all := lw_g (lw_at lw_m7 131 rfl) rfl
theorem q1698 : (Jvm.Cond.code ({ cls := "SunkTowerModel", name := "goesMonth", desc := "()V" } : Jvm.MethodName) prog_11_method_53_code (1 : Nat) (Option.none : Option Jvm.ClassFile.FieldType)) ∈ lw_all := lw_g (lw_at lw_m7 132 rfl) rfl
theorem q1699 : (Jvm.Cond.methodLink "SunkTowerModel" (245 : Nat) ({ cls := "SunkTowerModel", name := "deeper", desc := "(II)I" } : Jvm.MethodName)) ∈ lw_all := lw_g (lw_at lw_m7 133 rfl) rfl
theorem q1700 : (Jvm.Cond.static ({ cls := "SunkTowerModel", name := "deeper", desc := "(II)I" } : Jvm.MethodName)) ∈ lw_all := lw_g (lw_at lw_m7 134 rfl) rfl
theorem q1701 : (Jvm.Cond.code ({ cls := "SunkTowerModel", name := "deeper", desc := "(II)I" } : Jvm.MethodName) prog_11_method_40_code (2 : Nat) (Option.some Jvm.ClassFile.FieldType.int)) ∈ lw_all := lw_g (lw_at lw_m7 135 rfl) rfl
theorem q1702 : (Jvm.Cond.constant "SunkTowerModel" (212 : Nat) (99999 : Int32)) ∈ lw_all := lw_g (lw_at lw_m7 136 rfl) rfl
theorem q1703 : (Jvm.Cond.methodLink "SunkTowerModel" (256 : Nat) ({ cls := "SunkTowerModel", name := "notes", desc := "()V" } : Jvm.MethodName)) ∈ lw_all := lw_g (lw_at lw_m7 137 rfl) rfl
theorem q1704 : (Jvm.Cond.privateMethod ({ cls := "SunkTowerModel", name := "notes", desc := "()V" } : Jvm.MethodName)) ∈ lw_tbl := lw_at lw_m7 138 rfl
theorem q1705 : (Jvm.Cond.instanceMethod ({ cls := "SunkTowerModel", name := "notes", desc := "()V" } : Jvm.MethodName)) ∈ lw_all := lw_g (lw_at lw_m7 139 rfl) rfl
theorem q1706 : (Jvm.Cond.code ({ cls := "SunkTowerModel", name := "notes", desc := "()V" } : Jvm.MethodName) prog_11_method_52_code (2 : Nat) (Option.none : Option Jvm.ClassFile.FieldType)) ∈ lw_all := lw_g (lw_at lw_m7 140 rfl) rfl
theorem q1708 : (Jvm.Cond.instanceMethod ({ cls := "SunkTowerModel", name := "builds", desc := "()I" } : Jvm.MethodName)) ∈ lw_all := lw_g (lw_at lw_m7 142 rfl) rfl
theorem q1709 : (Jvm.Cond.selects "SunkTowerModel" ({ cls := "SunkTowerModel", name := "builds", desc := "()I" } : Jvm.MethodName) ({ cls := "SunkTowerModel", name := "builds", desc := "()I" } : Jvm.MethodName)) ∈ lw_all := lw_g (lw_at lw_m7 143 rfl) rfl
theorem q1710 : (Jvm.Cond.code ({ cls := "SunkTowerModel", name := "builds", desc := "()I" } : Jvm.MethodName) prog_11_method_56_code (1 : Nat) (Option.some Jvm.ClassFile.FieldType.int)) ∈ lw_all := lw_g (lw_at lw_m7 144 rfl) rfl
theorem q1711 : (Jvm.Cond.methodLink "SunkTowerModel" (259 : Nat) ({ cls := "SunkTowerModel", name := "goesUp", desc := "()V" } : Jvm.MethodName)) ∈ lw_all := lw_g (lw_at lw_m7 145 rfl) rfl
theorem q1712 : (Jvm.Cond.privateMethod ({ cls := "SunkTowerModel", name := "goesUp", desc := "()V" } : Jvm.MethodName)) ∈ lw_tbl := lw_at lw_m7 146 rfl
theorem q1713 : (Jvm.Cond.instanceMethod ({ cls := "SunkTowerModel", name := "goesUp", desc := "()V" } : Jvm.MethodName)) ∈ lw_all := lw_g (lw_at lw_m7 147 rfl) rfl
theorem q1714 : (Jvm.Cond.code ({ cls := "SunkTowerModel", name := "goesUp", desc := "()V" } : Jvm.MethodName) prog_11_method_55_code (1 : Nat) (Option.none : Option Jvm.ClassFile.FieldType)) ∈ lw_all := lw_g (lw_at lw_m7 148 rfl) rfl
theorem q1716 : (Jvm.Cond.instanceMethod ({ cls := "SunkTowerModel", name := "moves", desc := "(II)I" } : Jvm.MethodName)) ∈ lw_all := lw_g (lw_at lw_m7 150 rfl) rfl
theorem q1717 : (Jvm.Cond.selects "SunkTowerModel" ({ cls := "SunkTowerModel", name := "moves", desc := "(II)I" } : Jvm.MethodName) ({ cls := "SunkTowerModel", name := "moves", desc := "(II)I" } : Jvm.MethodName)) ∈ lw_all := lw_g (lw_at lw_m7 151 rfl) rfl
theorem q1718 : (Jvm.Cond.code ({ cls := "SunkTowerModel", name := "moves", desc := "(II)I" } : Jvm.MethodName) prog_11_method_59_code (4 : Nat) (Option.some Jvm.ClassFile.FieldType.int)) ∈ lw_all := lw_g (lw_at lw_m7 152 rfl) rfl
theorem q1719 : (Jvm.Cond.methodLink "SunkTowerModel" (262 : Nat) ({ cls := "SunkTowerModel", name := "whyMove", desc := "(JJ)I" } : Jvm.MethodName)) ∈ lw_all := lw_g (lw_at lw_m7 153 rfl) rfl
theorem q1720 : (Jvm.Cond.privateMethod ({ cls := "SunkTowerModel", name := "whyMove", desc := "(JJ)I" } : Jvm.MethodName)) ∈ lw_tbl := lw_at lw_m7 154 rfl
theorem q1721 : (Jvm.Cond.instanceMethod ({ cls := "SunkTowerModel", name := "whyMove", desc := "(JJ)I" } : Jvm.MethodName)) ∈ lw_all := lw_g (lw_at lw_m7 155 rfl) rfl
theorem q1722 : (Jvm.Cond.code ({ cls := "SunkTowerModel", name := "whyMove", desc := "(JJ)I" } : Jvm.MethodName) prog_11_method_57_code (5 : Nat) (Option.some Jvm.ClassFile.FieldType.int)) ∈ lw_all := lw_g (lw_at lw_m7 156 rfl) rfl
theorem q1724 : (Jvm.Cond.instanceMethod ({ cls := "SunkTowerModel", name := "leaves", desc := "(I)I" } : Jvm.MethodName)) ∈ lw_all := lw_g (lw_at lw_m7 158 rfl) rfl
theorem q1725 : (Jvm.Cond.selects "SunkTowerModel" ({ cls := "SunkTowerModel", name := "leaves", desc := "(I)I" } : Jvm.MethodName) ({ cls := "SunkTowerModel", name := "leaves", desc := "(I)I" } : Jvm.MethodName)) ∈ lw_all := lw_g (lw_at lw_m7 159 rfl) rfl
theorem q1726 : (Jvm.Cond.code ({ cls := "SunkTowerModel", name := "leaves", desc := "(I)I" } : Jvm.MethodName) prog_11_method_60_code (3 : Nat) (Option.some Jvm.ClassFile.FieldType.int)) ∈ lw_all := lw_g (lw_at lw_m7 160 rfl) rfl
theorem q1727 : (Jvm.Cond.methodLink "SunkTowerModel" (266 : Nat) ({ cls := "SunkTowerModel", name := "whyLeave", desc := "(J)I" } : Jvm.MethodName)) ∈ lw_all := lw_g (lw_at lw_m7 161 rfl) rfl
theorem q1728 : (Jvm.Cond.privateMethod ({ cls := "SunkTowerModel", name := "whyLeave", desc := "(J)I" } : Jvm.MethodName)) ∈ lw_tbl := lw_at lw_m7 162 rfl
theorem q1729 : (Jvm.Cond.instanceMethod ({ cls := "SunkTowerModel", name := "whyLeave", desc := "(J)I" } : Jvm.MethodName)) ∈ lw_all := lw_g (lw_at lw_m7 163 rfl) rfl
theorem q1730 : (Jvm.Cond.code ({ cls := "SunkTowerModel", name := "whyLeave", desc := "(J)I" } : Jvm.MethodName) prog_11_method_58_code (3 : Nat) (Option.some Jvm.ClassFile.FieldType.int)) ∈ lw_all := lw_g (lw_at lw_m7 164 rfl) rfl
theorem q1732 : (Jvm.Cond.instanceMethod ({ cls := "SunkTowerModel", name := "carries", desc := "(II)I" } : Jvm.MethodName)) ∈ lw_all := lw_g (lw_at lw_m7 166 rfl) rfl
theorem q1733 : (Jvm.Cond.selects "SunkTowerModel" ({ cls := "SunkTowerModel", name := "carries", desc := "(II)I" } : Jvm.MethodName) ({ cls := "SunkTowerModel", name := "carries", desc := "(II)I" } : Jvm.MethodName)) ∈ lw_all := lw_g (lw_at lw_m7 167 rfl) rfl
theorem q1734 : (Jvm.Cond.code ({ cls := "SunkTowerModel", name := "carries", desc := "(II)I" } : Jvm.MethodName) prog_11_method_61_code (3 : Nat) (Option.some Jvm.ClassFile.FieldType.int)) ∈ lw_all := lw_g (lw_at lw_m7 168 rfl) rfl
theorem q1735 : (Jvm.Cond.constantLong "SunkTowerModel" (270 : Nat) (999 : Int64)) ∈ lw_all := lw_g (lw_at lw_m7 169 rfl) rfl
theorem q1737 : (Jvm.Cond.instanceMethod ({ cls := "SunkTowerModel", name := "rings", desc := "()I" } : Jvm.MethodName)) ∈ lw_all := lw_g (lw_at lw_m7 171 rfl) rfl
theorem q1738 : (Jvm.Cond.selects "SunkTowerModel" ({ cls := "SunkTowerModel", name := "rings", desc := "()I" } : Jvm.MethodName) ({ cls := "SunkTowerModel", name := "rings", desc := "()I" } : Jvm.MethodName)) ∈ lw_all := lw_g (lw_at lw_m7 172 rfl) rfl
theorem q1739 : (Jvm.Cond.code ({ cls := "SunkTowerModel", name := "rings", desc := "()I" } : Jvm.MethodName) prog_11_method_65_code (2 : Nat) (Option.some Jvm.ClassFile.FieldType.int)) ∈ lw_all := lw_g (lw_at lw_m7 173 rfl) rfl
theorem q1740 : (Jvm.Cond.methodLink "SunkTowerModel" (285 : Nat) ({ cls := "SunkTowerModel", name := "goesRings", desc := "()I" } : Jvm.MethodName)) ∈ lw_all := lw_g (lw_at lw_m7 174 rfl) rfl
theorem q1741 : (Jvm.Cond.privateMethod ({ cls := "SunkTowerModel", name := "goesRings", desc := "()I" } : Jvm.MethodName)) ∈ lw_tbl := lw_at lw_m7 175 rfl
theorem q1742 : (Jvm.Cond.instanceMethod ({ cls := "SunkTowerModel", name := "goesRings", desc := "()I" } : Jvm.MethodName)) ∈ lw_all := lw_g (lw_at lw_m7 176 rfl) rfl
theorem q1743 : (Jvm.Cond.code ({ cls := "SunkTowerModel", name := "goesRings", desc := "()I" } : Jvm.MethodName) prog_11_method_64_code (3 : Nat) (Option.some Jvm.ClassFile.FieldType.int)) ∈ lw_all := lw_g (lw_at lw_m7 177 rfl) rfl
theorem q1744 : (Jvm.Cond.methodLink "SunkTowerModel" (282 : Nat) ({ cls := "SunkTowerModel", name := "laysRings", desc := "()V" } : Jvm.MethodName)) ∈ lw_all := lw_g (lw_at lw_m7 178 rfl) rfl
theorem q1745 : (Jvm.Cond.privateMethod ({ cls := "SunkTowerModel", name := "laysRings", desc := "()V" } : Jvm.MethodName)) ∈ lw_tbl := lw_at lw_m7 179 rfl
theorem q1746 : (Jvm.Cond.instanceMethod ({ cls := "SunkTowerModel", name := "laysRings", desc := "()V" } : Jvm.MethodName)) ∈ lw_all := lw_g (lw_at lw_m7 180 rfl) rfl
theorem q1747 : (Jvm.Cond.code ({ cls := "SunkTowerModel", name := "laysRings", desc := "()V" } : Jvm.MethodName) prog_11_method_63_code (5 : Nat) (Option.none : Option Jvm.ClassFile.FieldType)) ∈ lw_all := lw_g (lw_at lw_m7 181 rfl) rfl
theorem q1748 : (Jvm.Cond.methodLink "SunkTowerModel" (272 : Nat) ({ cls := "SunkTowerModel", name := "isIn", desc := "(JI)Z" } : Jvm.MethodName)) ∈ lw_all := lw_g (lw_at lw_m7 182 rfl) rfl
theorem q1749 : (Jvm.Cond.static ({ cls := "SunkTowerModel", name := "isIn", desc := "(JI)Z" } : Jvm.MethodName)) ∈ lw_all := lw_g (lw_at lw_m7 183 rfl) rfl
theorem q1750 : (Jvm.Cond.code ({ cls := "SunkTowerModel", name := "isIn", desc := "(JI)Z" } : Jvm.MethodName) prog_11_method_15_code (3 : Nat) (Option.some Jvm.ClassFile.FieldType.boolean)) ∈ lw_all := lw_g (lw_at lw_m7 184 rfl) rfl
theorem q1751 : (Jvm.Cond.methodLink "SunkTowerModel" (279 : Nat) ({ cls := "SunkTowerModel", name := "pointsAt", desc := "(II)I" } : Jvm.MethodName)) ∈ lw_all := lw_g (lw_at lw_m7 185 rfl) rfl
theorem q1752 : (Jvm.Cond.privateMethod ({ cls := "SunkTowerModel", name := "pointsAt", desc := "(II)I" } : Jvm.MethodName)) ∈ lw_tbl := lw_at lw_m7 186 rfl
theorem q1753 : (Jvm.Cond.instanceMethod ({ cls := "SunkTowerModel", name := "pointsAt", desc := "(II)I" } : Jvm.MethodName)) ∈ lw_all := lw_g (lw_at lw_m7 187 rfl) rfl
theorem q1754 : (Jvm.Cond.code ({ cls := "SunkTowerModel", name := "pointsAt", desc := "(II)I" } : Jvm.MethodName) prog_11_method_62_code (6 : Nat) (Option.some Jvm.ClassFile.FieldType.int)) ∈ lw_all := lw_g (lw_at lw_m7 188 rfl) rfl
theorem q1756 : (Jvm.Cond.instanceMethod ({ cls := "SunkTowerModel", name := "undo", desc := "(I)I" } : Jvm.MethodName)) ∈ lw_all := lw_g (lw_at lw_m7 190 rfl) rfl
theorem q1757 : (Jvm.Cond.selects "SunkTowerModel" ({ cls := "SunkTowerModel", name := "undo", desc := "(I)I" } : Jvm.MethodName) ({ cls := "SunkTowerModel", name := "undo", desc := "(I)I" } : Jvm.MethodName)) ∈ lw_all := lw_g (lw_at lw_m7 191 rfl) rfl
theorem q1758 : (Jvm.Cond.code ({ cls := "SunkTowerModel", name := "undo", desc := "(I)I" } : Jvm.MethodName) prog_11_method_66_code (3 : Nat) (Option.some Jvm.ClassFile.FieldType.int)) ∈ lw_all := lw_g (lw_at lw_m7 192 rfl) rfl
theorem q1759 : (Jvm.Cond.constantLong "SunkTowerModel" (288 : Nat) (10 : Int64)) ∈ lw_all := lw_g (lw_at lw_m7 193 rfl) rfl
theorem q1761 : (Jvm.Cond.instanceMethod ({ cls := "SunkTowerModel", name := "judge", desc := "(II)I" } : Jvm.MethodName)) ∈ lw_all := lw_g (lw_at lw_m7 195 rfl) rfl
theorem q1762 : (Jvm.Cond.selects "SunkTowerModel" ({ cls := "SunkTowerModel", name := "judge", desc := "(II)I" } : Jvm.MethodName) ({ cls := "SunkTowerModel", name := "judge", desc := "(II)I" } : Jvm.MethodName)) ∈ lw_all := lw_g (lw_at lw_m7 196 rfl) rfl
theorem q1763 : (Jvm.Cond.code ({ cls := "SunkTowerModel", name := "judge", desc := "(II)I" } : Jvm.MethodName) prog_11_method_71_code (7 : Nat) (Option.some Jvm.ClassFile.FieldType.int)) ∈ lw_all := lw_g (lw_at lw_m7 197 rfl) rfl
theorem q1764 : (Jvm.Cond.constantLong "SunkTowerModel" (317 : Nat) (3 : Int64)) ∈ lw_all := lw_g (lw_at lw_m7 198 rfl) rfl
theorem q1765 : (Jvm.Cond.methodLink "SunkTowerModel" (319 : Nat) ({ cls := "SunkTowerModel", name := "noTray", desc := "(I)I" } : Jvm.MethodName)) ∈ lw_all := lw_g (lw_at lw_m7 199 rfl) rfl
theorem q1766 : (Jvm.Cond.privateMethod ({ cls := "SunkTowerModel", name := "noTray", desc := "(I)I" } : Jvm.MethodName)) ∈ lw_tbl := lw_at lw_m7 200 rfl
theorem q1767 : (Jvm.Cond.instanceMethod ({ cls := "SunkTowerModel", name := "noTray", desc := "(I)I" } : Jvm.MethodName)) ∈ lw_all := lw_g (lw_at lw_m7 201 rfl) rfl
theorem q1768 : (Jvm.Cond.code ({ cls := "SunkTowerModel", name := "noTray", desc := "(I)I" } : Jvm.MethodName) prog_11_method_70_code (2 : Nat) (Option.some Jvm.ClassFile.FieldType.int)) ∈ lw_all := lw_g (lw_at lw_m7 202 rfl) rfl
theorem q1769 : (Jvm.Cond.methodLink "SunkTowerModel" (322 : Nat) ({ cls := "SunkTowerModel", name := "tells", desc := "(I)I" } : Jvm.MethodName)) ∈ lw_all := lw_g (lw_at lw_m7 203 rfl) rfl
theorem q1770 : (Jvm.Cond.privateMethod ({ cls := "SunkTowerModel", name := "tells", desc := "(I)I" } : Jvm.MethodName)) ∈ lw_tbl := lw_at lw_m7 204 rfl
theorem q1771 : (Jvm.Cond.instanceMethod ({ cls := "SunkTowerModel", name := "tells", desc := "(I)I" } : Jvm.MethodName)) ∈ lw_all := lw_g (lw_at lw_m7 205 rfl) rfl
theorem q1772 : (Jvm.Cond.code ({ cls := "SunkTowerModel", name := "tells", desc := "(I)I" } : Jvm.MethodName) prog_11_method_69_code (3 : Nat) (Option.some Jvm.ClassFile.FieldType.int)) ∈ lw_all := lw_g (lw_at lw_m7 206 rfl) rfl
theorem q1773 : (Jvm.Cond.methodLink "SunkTowerModel" (311 : Nat) ({ cls := "SunkTowerModel", name := "whyNot", desc := "(J)I" } : Jvm.MethodName)) ∈ lw_all := lw_g (lw_at lw_m7 207 rfl) rfl
theorem q1774 : (Jvm.Cond.privateMethod ({ cls := "SunkTowerModel", name := "whyNot", desc := "(J)I" } : Jvm.MethodName)) ∈ lw_tbl := lw_at lw_m7 208 rfl
theorem q1775 : (Jvm.Cond.instanceMethod ({ cls := "SunkTowerModel", name := "whyNot", desc := "(J)I" } : Jvm.MethodName)) ∈ lw_all := lw_g (lw_at lw_m7 209 rfl) rfl
theorem q1776 : (Jvm.Cond.code ({ cls := "SunkTowerModel", name := "whyNot", desc := "(J)I" } : Jvm.MethodName) prog_11_method_67_code (3 : Nat) (Option.some Jvm.ClassFile.FieldType.int)) ∈ lw_all := lw_g (lw_at lw_m7 210 rfl) rfl
theorem q1777 : (Jvm.Cond.constantLong "SunkTowerModel" (290 : Nat) (-1 : Int64)) ∈ lw_all := lw_g (lw_at lw_m7 211 rfl) rfl
theorem q1778 : (Jvm.Cond.constantLong "SunkTowerModel" (292 : Nat) (3000 : Int64)) ∈ lw_all := lw_g (lw_at lw_m7 212 rfl) rfl
theorem q1779 : (Jvm.Cond.constantLong "SunkTowerModel" (294 : Nat) (2000 : Int64)) ∈ lw_all := lw_g (lw_at lw_m7 213 rfl) rfl
theorem q1780 : (Jvm.Cond.constantLong "SunkTowerModel" (296 : Nat) (599 : Int64)) ∈ lw_all := lw_g (lw_at lw_m7 214 rfl) rfl
theorem q1781 : (Jvm.Cond.constantLong "SunkTowerModel" (298 : Nat) (100 : Int64)) ∈ lw_all := lw_g (lw_at lw_m7 215 rfl) rfl
theorem q1782 : (Jvm.Cond.constantLong "SunkTowerModel" (300 : Nat) (1000 : Int64)) ∈ lw_all := lw_g (lw_at lw_m7 216 rfl) rfl
theorem q1783 : (Jvm.Cond.constantLong "SunkTowerModel" (302 : Nat) (1099 : Int64)) ∈ lw_all := lw_g (lw_at lw_m7 217 rfl) rfl
theorem q1784 : (Jvm.Cond.constantLong "SunkTowerModel" (304 : Nat) (10000 : Int64)) ∈ lw_all := lw_g (lw_at lw_m7 218 rfl) rfl
theorem q1785 : (Jvm.Cond.constantLong "SunkTowerModel" (306 : Nat) (15999 : Int64)) ∈ lw_all := lw_g (lw_at lw_m7 219 rfl) rfl
theorem q1786 : (Jvm.Cond.methodLink "SunkTowerModel" (314 : Nat) ({ cls := "SunkTowerModel", name := "does", desc := "(I)V" } : Jvm.MethodName)) ∈ lw_all := lw_g (lw_at lw_m7 220 rfl) rfl
theorem q1787 : (Jvm.Cond.privateMethod ({ cls := "SunkTowerModel", name := "does", desc := "(I)V" } : Jvm.MethodName)) ∈ lw_tbl := lw_at lw_m7 221 rfl
theorem q1788 : (Jvm.Cond.instanceMethod ({ cls := "SunkTowerModel", name := "does", desc := "(I)V" } : Jvm.MethodName)) ∈ lw_all := lw_g (lw_at lw_m7 222 rfl) rfl
theorem q1789 : (Jvm.Cond.code ({ cls := "SunkTowerModel", name := "does", desc := "(I)V" } : Jvm.MethodName) prog_11_method_68_code (2 : Nat) (Option.none : Option Jvm.ClassFile.FieldType)) ∈ lw_all := lw_g (lw_at lw_m7 223 rfl) rfl
theorem q1790 : (Jvm.Cond.methodLink "SunkTowerModel" (325 : Nat) ({ cls := "SunkTowerModel", name := "isAgain", desc := "()V" } : Jvm.MethodName)) ∈ lw_all := lw_g (lw_at lw_m7 224 rfl) rfl
theorem q1791 : (Jvm.Cond.privateMethod ({ cls := "SunkTowerModel", name := "isAgain", desc := "()V" } : Jvm.MethodName)) ∈ lw_tbl := lw_at lw_m7 225 rfl
theorem q1792 : (Jvm.Cond.instanceMethod ({ cls := "SunkTowerModel", name := "isAgain", desc := "()V" } : Jvm.MethodName)) ∈ lw_all := lw_g (lw_at lw_m7 226 rfl) rfl
theorem q1793 : (Jvm.Cond.code ({ cls := "SunkTowerModel", name := "isAgain", desc := "()V" } : Jvm.MethodName) prog_11_method_51_code (2 : Nat) (Option.none : Option Jvm.ClassFile.FieldType)) ∈ lw_all := lw_g (lw_at lw_m7 227 rfl) rfl
theorem q1795 : (Jvm.Cond.instanceMethod ({ cls := "SunkTowerModel", name := "perform", desc := "(I)I" } : Jvm.MethodName)) ∈ lw_all := lw_g (lw_at lw_m7 229 rfl) rfl
theorem q1796 : (Jvm.Cond.selects "SunkTowerModel" ({ cls := "SunkTowerModel", name := "perform", desc := "(I)I" } : Jvm.MethodName) ({ cls := "SunkTowerModel", name := "perform", desc := "(I)I" } : Jvm.MethodName)) ∈ lw_all := lw_g (lw_at lw_m7 230 rfl) rfl
theorem q1797 : (Jvm.Cond.code ({ cls := "SunkTowerModel", name := "perform", desc := "(I)I" } : Jvm.MethodName) prog_11_method_72_code (4 : Nat) (Option.some Jvm.ClassFile.FieldType.int)) ∈ lw_all := lw_g (lw_at lw_m7 231 rfl) rfl
theorem q1799 : (Jvm.Cond.instanceMethod ({ cls := "SunkTowerModel", name := "years", desc := "(II)I" } : Jvm.MethodName)) ∈ lw_all := lw_g (lw_at lw_m7 233 rfl) rfl
theorem q1800 : (Jvm.Cond.selects "SunkTowerModel" ({ cls := "SunkTowerModel", name := "years", desc := "(II)I" } : Jvm.MethodName) ({ cls := "SunkTowerModel", name := "years", desc := "(II)I" } : Jvm.MethodName)) ∈ lw_all := lw_g (lw_at lw_m7 234 rfl) rfl
theorem q1801 : (Jvm.Cond.code ({ cls := "SunkTowerModel", name := "years", desc := "(II)I" } : Jvm.MethodName) prog_11_method_75_code (6 : Nat) (Option.some Jvm.ClassFile.FieldType.int)) ∈ lw_all := lw_g (lw_at lw_m7 235 rfl) rfl
theorem q1802 : (Jvm.Cond.constantLong "SunkTowerModel" (335 : Nat) (30 : Int64)) ∈ lw_all := lw_g (lw_at lw_m7 236 rfl) rfl
theorem q1803 : (Jvm.Cond.methodLink "SunkTowerModel" (337 : Nat) ({ cls := "SunkTowerModel", name := "drawn", desc := "()I" } : Jvm.MethodName)) ∈ lw_all := lw_g (lw_at lw_m7 237 rfl) rfl
theorem q1804 : (Jvm.Cond.privateMethod ({ cls := "SunkTowerModel", name := "drawn", desc := "()I" } : Jvm.MethodName)) ∈ lw_tbl := lw_at lw_m7 238 rfl
theorem q1805 : (Jvm.Cond.instanceMethod ({ cls := "SunkTowerModel", name := "drawn", desc := "()I" } : Jvm.MethodName)) ∈ lw_all := lw_g (lw_at lw_m7 239 rfl) rfl
theorem q1806 : (Jvm.Cond.code ({ cls := "SunkTowerModel", name := "drawn", desc := "()I" } : Jvm.MethodName) prog_11_method_74_code (3 : Nat) (Option.some Jvm.ClassFile.FieldType.int)) ∈ lw_all := lw_g (lw_at lw_m8 0 rfl) rfl
theorem q1807 : (Jvm.Cond.methodLink "SunkTowerModel" (332 : Nat) ({ cls := "SunkTowerModel", name := "draw", desc := "(I)I" } : Jvm.MethodName)) ∈ lw_all := lw_g (lw_at lw_m8 1 rfl) rfl
theorem q1808 : (Jvm.Cond.privateMethod ({ cls := "SunkTowerModel", name := "draw", desc := "(I)I" } : Jvm.MethodName)) ∈ lw_tbl := lw_at lw_m8 2 rfl
theorem q1809 : (Jvm.Cond.instanceMethod ({ cls := "SunkTowerModel", name := "draw", desc := "(I)I" } : Jvm.MethodName)) ∈ lw_all := lw_g (lw_at lw_m8 3 rfl) rfl
theorem q1810 : (Jvm.Cond.code ({ cls := "SunkTowerModel", name := "draw", desc := "(I)I" } : Jvm.MethodName) prog_11_method_73_code (2 : Nat) (Option.some Jvm.ClassFile.FieldType.int)) ∈ lw_all := lw_g (lw_at lw_m8 4 rfl) rfl
theorem q1811 : (Jvm.Cond.constant "SunkTowerModel" (328 : Nat) (1103515245 : Int32)) ∈ lw_all := lw_g (lw_at lw_m8 5 rfl) rfl
theorem q1813 : (Jvm.Cond.instanceMethod ({ cls := "SunkTowerModel", name := "sunkIn", desc := "(I)I" } : Jvm.MethodName)) ∈ lw_all := lw_g (lw_at lw_m8 7 rfl) rfl
theorem q1814 : (Jvm.Cond.selects "SunkTowerModel" ({ cls := "SunkTowerModel", name := "sunkIn", desc := "(I)I" } : Jvm.MethodName) ({ cls := "SunkTowerModel", name := "sunkIn", desc := "(I)I" } : Jvm.MethodName)) ∈ lw_all := lw_g (lw_at lw_m8 8 rfl) rfl
theorem q1815 : (Jvm.Cond.code ({ cls := "SunkTowerModel", name := "sunkIn", desc := "(I)I" } : Jvm.MethodName) prog_11_method_78_code (2 : Nat) (Option.some Jvm.ClassFile.FieldType.int)) ∈ lw_all := lw_g (lw_at lw_m8 9 rfl) rfl
theorem q1816 : (Jvm.Cond.constantLong "SunkTowerModel" (344 : Nat) (600 : Int64)) ∈ lw_all := lw_g (lw_at lw_m8 10 rfl) rfl
theorem q1817 : (Jvm.Cond.methodLink "SunkTowerModel" (346 : Nat) ({ cls := "SunkTowerModel", name := "laysAll", desc := "(I)V" } : Jvm.MethodName)) ∈ lw_all := lw_g (lw_at lw_m8 11 rfl) rfl
theorem q1818 : (Jvm.Cond.privateMethod ({ cls := "SunkTowerModel", name := "laysAll", desc := "(I)V" } : Jvm.MethodName)) ∈ lw_tbl := lw_at lw_m8 12 rfl
theorem q1819 : (Jvm.Cond.instanceMethod ({ cls := "SunkTowerModel", name := "laysAll", desc := "(I)V" } : Jvm.MethodName)) ∈ lw_all := lw_g (lw_at lw_m8 13 rfl) rfl
theorem q1820 : (Jvm.Cond.code ({ cls := "SunkTowerModel", name := "laysAll", desc := "(I)V" } : Jvm.MethodName) prog_11_method_77_code (2 : Nat) (Option.none : Option Jvm.ClassFile.FieldType)) ∈ lw_all := lw_g (lw_at lw_m8 14 rfl) rfl
theorem q1821 : (Jvm.Cond.methodLink "SunkTowerModel" (340 : Nat) ({ cls := "SunkTowerModel", name := "laysSunk", desc := "(II)V" } : Jvm.MethodName)) ∈ lw_all := lw_g (lw_at lw_m8 15 rfl) rfl
theorem q1822 : (Jvm.Cond.privateMethod ({ cls := "SunkTowerModel", name := "laysSunk", desc := "(II)V" } : Jvm.MethodName)) ∈ lw_tbl := lw_at lw_m8 16 rfl
theorem q1823 : (Jvm.Cond.instanceMethod ({ cls := "SunkTowerModel", name := "laysSunk", desc := "(II)V" } : Jvm.MethodName)) ∈ lw_all := lw_g (lw_at lw_m8 17 rfl) rfl
theorem q1824 : (Jvm.Cond.code ({ cls := "SunkTowerModel", name := "laysSunk", desc := "(II)V" } : Jvm.MethodName) prog_11_method_76_code (4 : Nat) (Option.none : Option Jvm.ClassFile.FieldType)) ∈ lw_all := lw_g (lw_at lw_m8 18 rfl) rfl
theorem q1826 : (Jvm.Cond.instanceMethod ({ cls := "SunkTowerModel", name := "heightIn", desc := "(II)I" } : Jvm.MethodName)) ∈ lw_all := lw_g (lw_at lw_m8 20 rfl) rfl
theorem q1827 : (Jvm.Cond.selects "SunkTowerModel" ({ cls := "SunkTowerModel", name := "heightIn", desc := "(II)I" } : Jvm.MethodName) ({ cls := "SunkTowerModel", name := "heightIn", desc := "(II)I" } : Jvm.MethodName)) ∈ lw_all := lw_g (lw_at lw_m8 21 rfl) rfl
theorem q1828 : (Jvm.Cond.code ({ cls := "SunkTowerModel", name := "heightIn", desc := "(II)I" } : Jvm.MethodName) prog_11_method_79_code (3 : Nat) (Option.some Jvm.ClassFile.FieldType.int)) ∈ lw_all := lw_g (lw_at lw_m8 22 rfl) rfl
theorem q1829 : (Jvm.Cond.constant "SunkTowerModel" (349 : Nat) (-90000003 : Int32)) ∈ lw_all := lw_g (lw_at lw_m8 23 rfl) rfl
theorem q1831 : (Jvm.Cond.instanceMethod ({ cls := "SunkTowerModel", name := "doorIn", desc := "(I)I" } : Jvm.MethodName)) ∈ lw_all := lw_g (lw_at lw_m8 25 rfl) rfl
theorem q1832 : (Jvm.Cond.selects "SunkTowerModel" ({ cls := "SunkTowerModel", name := "doorIn", desc := "(I)I" } : Jvm.MethodName) ({ cls := "SunkTowerModel", name := "doorIn", desc := "(I)I" } : Jvm.MethodName)) ∈ lw_all := lw_g (lw_at lw_m8 26 rfl) rfl
theorem q1833 : (Jvm.Cond.code ({ cls := "SunkTowerModel", name := "doorIn", desc := "(I)I" } : Jvm.MethodName) prog_11_method_80_code (3 : Nat) (Option.some Jvm.ClassFile.FieldType.int)) ∈ lw_all := lw_g (lw_at lw_m8 27 rfl) rfl
theorem q1835 : (Jvm.Cond.instanceMethod ({ cls := "SunkTowerModel", name := "buriedIn", desc := "(I)I" } : Jvm.MethodName)) ∈ lw_all := lw_g (lw_at lw_m8 29 rfl) rfl
theorem q1836 : (Jvm.Cond.selects "SunkTowerModel" ({ cls := "SunkTowerModel", name := "buriedIn", desc := "(I)I" } : Jvm.MethodName) ({ cls := "SunkTowerModel", name := "buriedIn", desc := "(I)I" } : Jvm.MethodName)) ∈ lw_all := lw_g (lw_at lw_m8 30 rfl) rfl
theorem q1837 : (Jvm.Cond.code ({ cls := "SunkTowerModel", name := "buriedIn", desc := "(I)I" } : Jvm.MethodName) prog_11_method_82_code (2 : Nat) (Option.some Jvm.ClassFile.FieldType.int)) ∈ lw_all := lw_g (lw_at lw_m8 31 rfl) rfl
theorem q1838 : (Jvm.Cond.methodLink "SunkTowerModel" (350 : Nat) ({ cls := "SunkTowerModel", name := "sunkFirst", desc := "(I)I" } : Jvm.MethodName)) ∈ lw_all := lw_g (lw_at lw_m8 32 rfl) rfl
theorem q1839 : (Jvm.Cond.privateMethod ({ cls := "SunkTowerModel", name := "sunkFirst", desc := "(I)I" } : Jvm.MethodName)) ∈ lw_tbl := lw_at lw_m8 33 rfl
theorem q1840 : (Jvm.Cond.instanceMethod ({ cls := "SunkTowerModel", name := "sunkFirst", desc := "(I)I" } : Jvm.MethodName)) ∈ lw_all := lw_g (lw_at lw_m8 34 rfl) rfl
theorem q1841 : (Jvm.Cond.code ({ cls := "SunkTowerModel", name := "sunkFirst", desc := "(I)I" } : Jvm.MethodName) prog_11_method_81_code (3 : Nat) (Option.some Jvm.ClassFile.FieldType.int)) ∈ lw_all := lw_g (lw_at lw_m8 35 rfl) rfl
theorem q1843 : (Jvm.Cond.instanceMethod ({ cls := "SunkTowerModel", name := "sunkBy", desc := "(I)I" } : Jvm.MethodName)) ∈ lw_all := lw_g (lw_at lw_m8 37 rfl) rfl
theorem q1844 : (Jvm.Cond.selects "SunkTowerModel" ({ cls := "SunkTowerModel", name := "sunkBy", desc := "(I)I" } : Jvm.MethodName) ({ cls := "SunkTowerModel", name := "sunkBy", desc := "(I)I" } : Jvm.MethodName)) ∈ lw_all := lw_g (lw_at lw_m8 38 rfl) rfl
theorem q1845 : (Jvm.Cond.code ({ cls := "SunkTowerModel", name := "sunkBy", desc := "(I)I" } : Jvm.MethodName) prog_11_method_83_code (2 : Nat) (Option.some Jvm.ClassFile.FieldType.int)) ∈ lw_all := lw_g (lw_at lw_m8 39 rfl) rfl
theorem q1847 : (Jvm.Cond.instanceMethod ({ cls := "SunkTowerModel", name := "fastest", desc := "()I" } : Jvm.MethodName)) ∈ lw_all := lw_g (lw_at lw_m8 41 rfl) rfl
theorem q1848 : (Jvm.Cond.selects "SunkTowerModel" ({ cls := "SunkTowerModel", name := "fastest", desc := "()I" } : Jvm.MethodName) ({ cls := "SunkTowerModel", name := "fastest", desc := "()I" } : Jvm.MethodName)) ∈ lw_all := lw_g (lw_at lw_m8 42 rfl) rfl
theorem q1849 : (Jvm.Cond.code ({ cls := "SunkTowerModel", name := "fastest", desc := "()I" } : Jvm.MethodName) prog_11_method_84_code (3 : Nat) (Option.some Jvm.ClassFile.FieldType.int)) ∈ lw_all := lw_g (lw_at lw_m8 43 rfl) rfl
theorem q1851 : (Jvm.Cond.instanceMethod ({ cls := "SunkTowerModel", name := "paid", desc := "(I)J" } : Jvm.MethodName)) ∈ lw_all := lw_g (lw_at lw_m8 45 rfl) rfl
theorem q1852 : (Jvm.Cond.selects "SunkTowerModel" ({ cls := "SunkTowerModel", name := "paid", desc := "(I)J" } : Jvm.MethodName) ({ cls := "SunkTowerModel", name := "paid", desc := "(I)J" } : Jvm.MethodName)) ∈ lw_all := lw_g (lw_at lw_m8 46 rfl) rfl
theorem q1853 : (Jvm.Cond.code ({ cls := "SunkTowerModel", name := "paid", desc := "(I)J" } : Jvm.MethodName) prog_11_method_85_code (6 : Nat) (Option.some Jvm.ClassFile.FieldType.long)) ∈ lw_all := lw_g (lw_at lw_m8 47 rfl) rfl
theorem q1854 : (Jvm.Cond.constantLong "SunkTowerModel" (353 : Nat) (-90000000003 : Int64)) ∈ lw_all := lw_g (lw_at lw_m8 48 rfl) rfl
theorem q1856 : (Jvm.Cond.instanceMethod ({ cls := "SunkTowerModel", name := "share", desc := "(II)I" } : Jvm.MethodName)) ∈ lw_all := lw_g (lw_at lw_m8 50 rfl) rfl
theorem q1857 : (Jvm.Cond.selects "SunkTowerModel" ({ cls := "SunkTowerModel", name := "share", desc := "(II)I" } : Jvm.MethodName) ({ cls := "SunkTowerModel", name := "share", desc := "(II)I" } : Jvm.MethodName)) ∈ lw_all := lw_g (lw_at lw_m8 51 rfl) rfl
theorem q1858 : (Jvm.Cond.code ({ cls := "SunkTowerModel", name := "share", desc := "(II)I" } : Jvm.MethodName) prog_11_method_87_code (3 : Nat) (Option.some Jvm.ClassFile.FieldType.int)) ∈ lw_all := lw_g (lw_at lw_m8 52 rfl) rfl
theorem q1859 : (Jvm.Cond.methodLink "SunkTowerModel" (355 : Nat) ({ cls := "SunkTowerModel", name := "shareOf", desc := "(II)I" } : Jvm.MethodName)) ∈ lw_all := lw_g (lw_at lw_m8 53 rfl) rfl
theorem q1860 : (Jvm.Cond.privateMethod ({ cls := "SunkTowerModel", name := "shareOf", desc := "(II)I" } : Jvm.MethodName)) ∈ lw_tbl := lw_at lw_m8 54 rfl
theorem q1861 : (Jvm.Cond.instanceMethod ({ cls := "SunkTowerModel", name := "shareOf", desc := "(II)I" } : Jvm.MethodName)) ∈ lw_all := lw_g (lw_at lw_m8 55 rfl) rfl
theorem q1862 : (Jvm.Cond.code ({ cls := "SunkTowerModel", name := "shareOf", desc := "(II)I" } : Jvm.MethodName) prog_11_method_86_code (4 : Nat) (Option.some Jvm.ClassFile.FieldType.int)) ∈ lw_all := lw_g (lw_at lw_m8 56 rfl) rfl
theorem q1864 : (Jvm.Cond.instanceMethod ({ cls := "SunkTowerModel", name := "heaviest", desc := "(I)I" } : Jvm.MethodName)) ∈ lw_all := lw_g (lw_at lw_m8 58 rfl) rfl
theorem q1865 : (Jvm.Cond.selects "SunkTowerModel" ({ cls := "SunkTowerModel", name := "heaviest", desc := "(I)I" } : Jvm.MethodName) ({ cls := "SunkTowerModel", name := "heaviest", desc := "(I)I" } : Jvm.MethodName)) ∈ lw_all := lw_g (lw_at lw_m8 59 rfl) rfl
theorem q1866 : (Jvm.Cond.code ({ cls := "SunkTowerModel", name := "heaviest", desc := "(I)I" } : Jvm.MethodName) prog_11_method_88_code (6 : Nat) (Option.some Jvm.ClassFile.FieldType.int)) ∈ lw_all := lw_g (lw_at lw_m8 60 rfl) rfl
theorem q1868 : (Jvm.Cond.instanceMethod ({ cls := "SunkTowerModel", name := "bears", desc := "(II)I" } : Jvm.MethodName)) ∈ lw_all := lw_g (lw_at lw_m8 62 rfl) rfl
theorem q1869 : (Jvm.Cond.selects "SunkTowerModel" ({ cls := "SunkTowerModel", name := "bears", desc := "(II)I" } : Jvm.MethodName) ({ cls := "SunkTowerModel", name := "bears", desc := "(II)I" } : Jvm.MethodName)) ∈ lw_all := lw_g (lw_at lw_m8 63 rfl) rfl
theorem q1870 : (Jvm.Cond.code ({ cls := "SunkTowerModel", name := "bears", desc := "(II)I" } : Jvm.MethodName) prog_11_method_89_code (5 : Nat) (Option.some Jvm.ClassFile.FieldType.int)) ∈ lw_all := lw_g (lw_at lw_m8 64 rfl) rfl
theorem q1871 : (Jvm.Cond.constantLong "SunkTowerModel" (358 : Nat) (60 : Int64)) ∈ lw_all := lw_g (lw_at lw_m8 65 rfl) rfl
theorem q1873 : (Jvm.Cond.instanceMethod ({ cls := "SunkTowerModel", name := "stays", desc := "(II)J" } : Jvm.MethodName)) ∈ lw_all := lw_g (lw_at lw_m8 67 rfl) rfl
theorem q1874 : (Jvm.Cond.selects "SunkTowerModel" ({ cls := "SunkTowerModel", name := "stays", desc := "(II)J" } : Jvm.MethodName) ({ cls := "SunkTowerModel", name := "stays", desc := "(II)J" } : Jvm.MethodName)) ∈ lw_all := lw_g (lw_at lw_m8 68 rfl) rfl
theorem q1875 : (Jvm.Cond.code ({ cls := "SunkTowerModel", name := "stays", desc := "(II)J" } : Jvm.MethodName) prog_11_method_97_code (3 : Nat) (Option.some Jvm.ClassFile.FieldType.long)) ∈ lw_all := lw_g (lw_at lw_m8 69 rfl) rfl
theorem q1876 : (Jvm.Cond.constantLong "SunkTowerModel" (383 : Nat) (-90000000002 : Int64)) ∈ lw_all := lw_g (lw_at lw_m8 70 rfl) rfl
theorem q1877 : (Jvm.Cond.constantLong "SunkTowerModel" (385 : Nat) (5 : Int64)) ∈ lw_all := lw_g (lw_at lw_m8 71 rfl) rfl
theorem q1878 : (Jvm.Cond.methodLink "SunkTowerModel" (387 : Nat) ({ cls := "SunkTowerModel", name := "laysMost", desc := "(II)V" } : Jvm.MethodName)) ∈ lw_all := lw_g (lw_at lw_m8 72 rfl) rfl
theorem q1879 : (Jvm.Cond.privateMethod ({ cls := "SunkTowerModel", name := "laysMost", desc := "(II)V" } : Jvm.MethodName)) ∈ lw_tbl := lw_at lw_m8 73 rfl
theorem q1880 : (Jvm.Cond.instanceMethod ({ cls := "SunkTowerModel", name := "laysMost", desc := "(II)V" } : Jvm.MethodName)) ∈ lw_all := lw_g (lw_at lw_m8 74 rfl) rfl
theorem q1881 : (Jvm.Cond.code ({ cls := "SunkTowerModel", name := "laysMost", desc := "(II)V" } : Jvm.MethodName) prog_11_method_94_code (10 : Nat) (Option.none : Option Jvm.ClassFile.FieldType)) ∈ lw_all := lw_g (lw_at lw_m8 75 rfl) rfl
theorem q1882 : (Jvm.Cond.constantLong "SunkTowerModel" (373 : Nat) (-1000000000000000 : Int64)) ∈ lw_all := lw_g (lw_at lw_m8 76 rfl) rfl
theorem q1883 : (Jvm.Cond.methodLink "SunkTowerModel" (375 : Nat) ({ cls := "SunkTowerModel", name := "mayGo", desc := "(III)Z" } : Jvm.MethodName)) ∈ lw_all := lw_g (lw_at lw_m8 77 rfl) rfl
theorem q1884 : (Jvm.Cond.privateMethod ({ cls := "SunkTowerModel", name := "mayGo", desc := "(III)Z" } : Jvm.MethodName)) ∈ lw_tbl := lw_at lw_m8 78 rfl
theorem q1885 : (Jvm.Cond.instanceMethod ({ cls := "SunkTowerModel", name := "mayGo", desc := "(III)Z" } : Jvm.MethodName)) ∈ lw_all := lw_g (lw_at lw_m8 79 rfl) rfl
theorem q1886 : (Jvm.Cond.code ({ cls := "SunkTowerModel", name := "mayGo", desc := "(III)Z" } : Jvm.MethodName) prog_11_method_92_code (4 : Nat) (Option.some Jvm.ClassFile.FieldType.boolean)) ∈ lw_all := lw_g (lw_at lw_m8 80 rfl) rfl
theorem q1887 : (Jvm.Cond.methodLink "SunkTowerModel" (360 : Nat) ({ cls := "SunkTowerModel", name := "isMay", desc := "(I)Z" } : Jvm.MethodName)) ∈ lw_all := lw_g (lw_at lw_m8 81 rfl) rfl
theorem q1888 : (Jvm.Cond.privateMethod ({ cls := "SunkTowerModel", name := "isMay", desc := "(I)Z" } : Jvm.MethodName)) ∈ lw_tbl := lw_at lw_m8 82 rfl
theorem q1889 : (Jvm.Cond.instanceMethod ({ cls := "SunkTowerModel", name := "isMay", desc := "(I)Z" } : Jvm.MethodName)) ∈ lw_all := lw_g (lw_at lw_m8 83 rfl) rfl
theorem q1890 : (Jvm.Cond.code ({ cls := "SunkTowerModel", name := "isMay", desc := "(I)Z" } : Jvm.MethodName) prog_11_method_90_code (2 : Nat) (Option.some Jvm.ClassFile.FieldType.boolean)) ∈ lw_all := lw_g (lw_at lw_m8 84 rfl) rfl
theorem q1891 : (Jvm.Cond.methodLink "SunkTowerModel" (379 : Nat) ({ cls := "SunkTowerModel", name := "goesBy", desc := "(IIII)J" } : Jvm.MethodName)) ∈ lw_all := lw_g (lw_at lw_m8 85 rfl) rfl
theorem q1892 : (Jvm.Cond.privateMethod ({ cls := "SunkTowerModel", name := "goesBy", desc := "(IIII)J" } : Jvm.MethodName)) ∈ lw_tbl := lw_at lw_m8 86 rfl
theorem q1893 : (Jvm.Cond.instanceMethod ({ cls := "SunkTowerModel", name := "goesBy", desc := "(IIII)J" } : Jvm.MethodName)) ∈ lw_all := lw_g (lw_at lw_m8 87 rfl) rfl
theorem q1894 : (Jvm.Cond.code ({ cls := "SunkTowerModel", name := "goesBy", desc := "(IIII)J" } : Jvm.MethodName) prog_11_method_93_code (5 : Nat) (Option.some Jvm.ClassFile.FieldType.long)) ∈ lw_all := lw_g (lw_at lw_m8 88 rfl) rfl
theorem q1895 : (Jvm.Cond.methodLink "SunkTowerModel" (366 : Nat) ({ cls := "SunkTowerModel", name := "gainIn", desc := "(III)J" } : Jvm.MethodName)) ∈ lw_all := lw_g (lw_at lw_m8 89 rfl) rfl
theorem q1896 : (Jvm.Cond.privateMethod ({ cls := "SunkTowerModel", name := "gainIn", desc := "(III)J" } : Jvm.MethodName)) ∈ lw_tbl := lw_at lw_m8 90 rfl
theorem q1897 : (Jvm.Cond.instanceMethod ({ cls := "SunkTowerModel", name := "gainIn", desc := "(III)J" } : Jvm.MethodName)) ∈ lw_all := lw_g (lw_at lw_m8 91 rfl) rfl
theorem q1898 : (Jvm.Cond.code ({ cls := "SunkTowerModel", name := "gainIn", desc := "(III)J" } : Jvm.MethodName) prog_11_method_91_code (5 : Nat) (Option.some Jvm.ClassFile.FieldType.long)) ∈ lw_all := lw_g (lw_at lw_m8 92 rfl) rfl
theorem q1899 : (Jvm.Cond.methodLink "SunkTowerModel" (390 : Nat) ({ cls := "SunkTowerModel", name := "whereNow", desc := "(I)I" } : Jvm.MethodName)) ∈ lw_all := lw_g (lw_at lw_m8 93 rfl) rfl
theorem q1900 : (Jvm.Cond.privateMethod ({ cls := "SunkTowerModel", name := "whereNow", desc := "(I)I" } : Jvm.MethodName)) ∈ lw_tbl := lw_at lw_m8 94 rfl
theorem q1901 : (Jvm.Cond.instanceMethod ({ cls := "SunkTowerModel", name := "whereNow", desc := "(I)I" } : Jvm.MethodName)) ∈ lw_all := lw_g (lw_at lw_m8 95 rfl) rfl
theorem q1902 : (Jvm.Cond.code ({ cls := "SunkTowerModel", name := "whereNow", desc := "(I)I" } : Jvm.MethodName) prog_11_method_95_code (2 : Nat) (Option.some Jvm.ClassFile.FieldType.int)) ∈ lw_all := lw_g (lw_at lw_m8 96 rfl) rfl
theorem q1904 : (Jvm.Cond.instanceMethod ({ cls := "SunkTowerModel", name := "goesTo", desc := "(III)I" } : Jvm.MethodName)) ∈ lw_all := lw_g (lw_at lw_m8 98 rfl) rfl
theorem q1905 : (Jvm.Cond.selects "SunkTowerModel" ({ cls := "SunkTowerModel", name := "goesTo", desc := "(III)I" } : Jvm.MethodName) ({ cls := "SunkTowerModel", name := "goesTo", desc := "(III)I" } : Jvm.MethodName)) ∈ lw_all := lw_g (lw_at lw_m8 99 rfl) rfl
theorem q1906 : (Jvm.Cond.code ({ cls := "SunkTowerModel", name := "goesTo", desc := "(III)I" } : Jvm.MethodName) prog_11_method_98_code (7 : Nat) (Option.some Jvm.ClassFile.FieldType.int)) ∈ lw_all := lw_g (lw_at lw_m8 100 rfl) rfl
theorem q1907 : (Jvm.Cond.methodLink "SunkTowerModel" (393 : Nat) ({ cls := "SunkTowerModel", name := "goesIn", desc := "(III)I" } : Jvm.MethodName)) ∈ lw_all := lw_g (lw_at lw_m8 101 rfl) rfl
theorem q1908 : (Jvm.Cond.privateMethod ({ cls := "SunkTowerModel", name := "goesIn", desc := "(III)I" } : Jvm.MethodName)) ∈ lw_tbl := lw_at lw_m8 102 rfl
theorem q1909 : (Jvm.Cond.instanceMethod ({ cls := "SunkTowerModel", name := "goesIn", desc := "(III)I" } : Jvm.MethodName)) ∈ lw_all := lw_g (lw_at lw_m8 103 rfl) rfl
theorem q1910 : (Jvm.Cond.code ({ cls := "SunkTowerModel", name := "goesIn", desc := "(III)I" } : Jvm.MethodName) prog_11_method_96_code (5 : Nat) (Option.some Jvm.ClassFile.FieldType.int)) ∈ lw_all := lw_g (lw_at lw_m8 104 rfl) rfl
theorem q1912 : (Jvm.Cond.instanceMethod ({ cls := "SunkTowerModel", name := "movesMany", desc := "(II)I" } : Jvm.MethodName)) ∈ lw_all := lw_g (lw_at lw_m8 106 rfl) rfl
theorem q1913 : (Jvm.Cond.selects "SunkTowerModel" ({ cls := "SunkTowerModel", name := "movesMany", desc := "(II)I" } : Jvm.MethodName) ({ cls := "SunkTowerModel", name := "movesMany", desc := "(II)I" } : Jvm.MethodName)) ∈ lw_all := lw_g (lw_at lw_m8 107 rfl) rfl
theorem q1914 : (Jvm.Cond.code ({ cls := "SunkTowerModel", name := "movesMany", desc := "(II)I" } : Jvm.MethodName) prog_11_method_99_code (7 : Nat) (Option.some Jvm.ClassFile.FieldType.int)) ∈ lw_all := lw_g (lw_at lw_m8 108 rfl) rfl
theorem q1916 : (Jvm.Cond.instanceMethod ({ cls := "SunkTowerModel", name := "best", desc := "(I)I" } : Jvm.MethodName)) ∈ lw_all := lw_g (lw_at lw_m8 110 rfl) rfl
theorem q1917 : (Jvm.Cond.selects "SunkTowerModel" ({ cls := "SunkTowerModel", name := "best", desc := "(I)I" } : Jvm.MethodName) ({ cls := "SunkTowerModel", name := "best", desc := "(I)I" } : Jvm.MethodName)) ∈ lw_all := lw_g (lw_at lw_m8 111 rfl) rfl
theorem q1918 : (Jvm.Cond.code ({ cls := "SunkTowerModel", name := "best", desc := "(I)I" } : Jvm.MethodName) prog_11_method_100_code (8 : Nat) (Option.some Jvm.ClassFile.FieldType.int)) ∈ lw_all := lw_g (lw_at lw_m8 112 rfl) rfl
theorem q1920 : (Jvm.Cond.instanceMethod ({ cls := "SunkTowerModel", name := "building", desc := "(III)J" } : Jvm.MethodName)) ∈ lw_all := lw_g (lw_at lw_m8 114 rfl) rfl
theorem q1921 : (Jvm.Cond.selects "SunkTowerModel" ({ cls := "SunkTowerModel", name := "building", desc := "(III)J" } : Jvm.MethodName) ({ cls := "SunkTowerModel", name := "building", desc := "(III)J" } : Jvm.MethodName)) ∈ lw_all := lw_g (lw_at lw_m8 115 rfl) rfl
theorem q1922 : (Jvm.Cond.code ({ cls := "SunkTowerModel", name := "building", desc := "(III)J" } : Jvm.MethodName) prog_11_method_104_code (4 : Nat) (Option.some Jvm.ClassFile.FieldType.long)) ∈ lw_all := lw_g (lw_at lw_m8 116 rfl) rfl
theorem q1923 : (Jvm.Cond.constantLong "SunkTowerModel" (413 : Nat) (12 : Int64)) ∈ lw_all := lw_g (lw_at lw_m8 117 rfl) rfl
theorem q1924 : (Jvm.Cond.constantLong "SunkTowerModel" (415 : Nat) (24 : Int64)) ∈ lw_all := lw_g (lw_at lw_m8 118 rfl) rfl
theorem q1925 : (Jvm.Cond.methodLink "SunkTowerModel" (417 : Nat) ({ cls := "SunkTowerModel", name := "laysBuilding", desc := "(II)V" } : Jvm.MethodName)) ∈ lw_all := lw_g (lw_at lw_m8 119 rfl) rfl
theorem q1926 : (Jvm.Cond.privateMethod ({ cls := "SunkTowerModel", name := "laysBuilding", desc := "(II)V" } : Jvm.MethodName)) ∈ lw_tbl := lw_at lw_m8 120 rfl
theorem q1927 : (Jvm.Cond.instanceMethod ({ cls := "SunkTowerModel", name := "laysBuilding", desc := "(II)V" } : Jvm.MethodName)) ∈ lw_all := lw_g (lw_at lw_m8 121 rfl) rfl
theorem q1928 : (Jvm.Cond.code ({ cls := "SunkTowerModel", name := "laysBuilding", desc := "(II)V" } : Jvm.MethodName) prog_11_method_103_code (4 : Nat) (Option.none : Option Jvm.ClassFile.FieldType)) ∈ lw_all := lw_g (lw_at lw_m8 122 rfl) rfl
theorem q1929 : (Jvm.Cond.methodLink "SunkTowerModel" (409 : Nat) ({ cls := "SunkTowerModel", name := "goesBuild", desc := "(IIII)V" } : Jvm.MethodName)) ∈ lw_all := lw_g (lw_at lw_m8 123 rfl) rfl
theorem q1930 : (Jvm.Cond.privateMethod ({ cls := "SunkTowerModel", name := "goesBuild", desc := "(IIII)V" } : Jvm.MethodName)) ∈ lw_tbl := lw_at lw_m8 124 rfl
theorem q1931 : (Jvm.Cond.instanceMethod ({ cls := "SunkTowerModel", name := "goesBuild", desc := "(IIII)V" } : Jvm.MethodName)) ∈ lw_all := lw_g (lw_at lw_m8 125 rfl) rfl
theorem q1932 : (Jvm.Cond.code ({ cls := "SunkTowerModel", name := "goesBuild", desc := "(IIII)V" } : Jvm.MethodName) prog_11_method_102_code (8 : Nat) (Option.none : Option Jvm.ClassFile.FieldType)) ∈ lw_all := lw_g (lw_at lw_m8 126 rfl) rfl
theorem q1933 : (Jvm.Cond.methodLink "SunkTowerModel" (395 : Nat) ({ cls := "SunkTowerModel", name := "sumOf", desc := "(II)J" } : Jvm.MethodName)) ∈ lw_all := lw_g (lw_at lw_m8 127 rfl) rfl
theorem q1934 : (Jvm.Cond.privateMethod ({ cls := "SunkTowerModel", name := "sumOf", desc := "(II)J" } : Jvm.MethodName)) ∈ lw_tbl := lw_at lw_m8 128 rfl
theorem q1935 : (Jvm.Cond.instanceMethod ({ cls := "SunkTowerModel", name := "sumOf", desc := "(II)J" } : Jvm.MethodName)) ∈ lw_all := lw_g (lw_at lw_m8 129 rfl) rfl
theorem q1936 : (Jvm.Cond.code ({ cls := "SunkTowerModel", name := "sumOf", desc := "(II)J" } : Jvm.MethodName) prog_11_method_101_code (11 : Nat) (Option.some Jvm.ClassFile.FieldType.long)) ∈ lw_all := lw_g (lw_at lw_m8 130 rfl) rfl
theorem q1938 : (Jvm.Cond.instanceMethod ({ cls := "SunkTowerModel", name := "buildings", desc := "(II)I" } : Jvm.MethodName)) ∈ lw_all := lw_g (lw_at lw_m8 132 rfl) rfl
theorem q1939 : (Jvm.Cond.selects "SunkTowerModel" ({ cls := "SunkTowerModel", name := "buildings", desc := "(II)I" } : Jvm.MethodName) ({ cls := "SunkTowerModel", name := "buildings", desc := "(II)I" } : Jvm.MethodName)) ∈ lw_all := lw_g (lw_at lw_m8 133 rfl) rfl
theorem q1940 : (Jvm.Cond.code ({ cls := "SunkTowerModel", name := "buildings", desc := "(II)I" } : Jvm.MethodName) prog_11_method_105_code (3 : Nat) (Option.some Jvm.ClassFile.FieldType.int)) ∈ lw_all := lw_g (lw_at lw_m8 134 rfl) rfl
theorem q1942 : (Jvm.Cond.instanceMethod ({ cls := "SunkTowerModel", name := "envies", desc := "(I)I" } : Jvm.MethodName)) ∈ lw_all := lw_g (lw_at lw_m8 136 rfl) rfl
theorem q1943 : (Jvm.Cond.selects "SunkTowerModel" ({ cls := "SunkTowerModel", name := "envies", desc := "(I)I" } : Jvm.MethodName) ({ cls := "SunkTowerModel", name := "envies", desc := "(I)I" } : Jvm.MethodName)) ∈ lw_all := lw_g (lw_at lw_m8 137 rfl) rfl
theorem q1944 : (Jvm.Cond.code ({ cls := "SunkTowerModel", name := "envies", desc := "(I)I" } : Jvm.MethodName) prog_11_method_106_code (4 : Nat) (Option.some Jvm.ClassFile.FieldType.int)) ∈ lw_all := lw_g (lw_at lw_m8 138 rfl) rfl
theorem q1946 : (Jvm.Cond.instanceMethod ({ cls := "SunkTowerModel", name := "byRings", desc := "(I)I" } : Jvm.MethodName)) ∈ lw_all := lw_g (lw_at lw_m8 140 rfl) rfl
theorem q1947 : (Jvm.Cond.selects "SunkTowerModel" ({ cls := "SunkTowerModel", name := "byRings", desc := "(I)I" } : Jvm.MethodName) ({ cls := "SunkTowerModel", name := "byRings", desc := "(I)I" } : Jvm.MethodName)) ∈ lw_all := lw_g (lw_at lw_m8 141 rfl) rfl
theorem q1948 : (Jvm.Cond.code ({ cls := "SunkTowerModel", name := "byRings", desc := "(I)I" } : Jvm.MethodName) prog_11_method_107_code (2 : Nat) (Option.some Jvm.ClassFile.FieldType.int)) ∈ lw_all := lw_g (lw_at lw_m8 142 rfl) rfl
theorem q1950 : (Jvm.Cond.instanceMethod ({ cls := "SunkTowerModel", name := "ringsMany", desc := "()I" } : Jvm.MethodName)) ∈ lw_all := lw_g (lw_at lw_m8 144 rfl) rfl
theorem q1951 : (Jvm.Cond.selects "SunkTowerModel" ({ cls := "SunkTowerModel", name := "ringsMany", desc := "()I" } : Jvm.MethodName) ({ cls := "SunkTowerModel", name := "ringsMany", desc := "()I" } : Jvm.MethodName)) ∈ lw_all := lw_g (lw_at lw_m8 145 rfl) rfl
theorem q1952 : (Jvm.Cond.code ({ cls := "SunkTowerModel", name := "ringsMany", desc := "()I" } : Jvm.MethodName) prog_11_method_108_code (1 : Nat) (Option.some Jvm.ClassFile.FieldType.int)) ∈ lw_all := lw_g (lw_at lw_m8 146 rfl) rfl
theorem q1954 : (Jvm.Cond.instanceMethod ({ cls := "SunkTowerModel", name := "marks", desc := "(I)I" } : Jvm.MethodName)) ∈ lw_all := lw_g (lw_at lw_m8 148 rfl) rfl
theorem q1955 : (Jvm.Cond.selects "SunkTowerModel" ({ cls := "SunkTowerModel", name := "marks", desc := "(I)I" } : Jvm.MethodName) ({ cls := "SunkTowerModel", name := "marks", desc := "(I)I" } : Jvm.MethodName)) ∈ lw_all := lw_g (lw_at lw_m8 149 rfl) rfl
theorem q1956 : (Jvm.Cond.code ({ cls := "SunkTowerModel", name := "marks", desc := "(I)I" } : Jvm.MethodName) prog_11_method_114_code (3 : Nat) (Option.some Jvm.ClassFile.FieldType.int)) ∈ lw_all := lw_g (lw_at lw_m8 150 rfl) rfl
theorem q1957 : (Jvm.Cond.methodLink "SunkTowerModel" (433 : Nat) ({ cls := "SunkTowerModel", name := "noMarks", desc := "(I)I" } : Jvm.MethodName)) ∈ lw_all := lw_g (lw_at lw_m8 151 rfl) rfl
theorem q1958 : (Jvm.Cond.privateMethod ({ cls := "SunkTowerModel", name := "noMarks", desc := "(I)I" } : Jvm.MethodName)) ∈ lw_tbl := lw_at lw_m8 152 rfl
theorem q1959 : (Jvm.Cond.instanceMethod ({ cls := "SunkTowerModel", name := "noMarks", desc := "(I)I" } : Jvm.MethodName)) ∈ lw_all := lw_g (lw_at lw_m8 153 rfl) rfl
theorem q1960 : (Jvm.Cond.code ({ cls := "SunkTowerModel", name := "noMarks", desc := "(I)I" } : Jvm.MethodName) prog_11_method_111_code (5 : Nat) (Option.some Jvm.ClassFile.FieldType.int)) ∈ lw_all := lw_g (lw_at lw_m8 154 rfl) rfl
theorem q1961 : (Jvm.Cond.constantLong "SunkTowerModel" (423 : Nat) (16 : Int64)) ∈ lw_all := lw_g (lw_at lw_m8 155 rfl) rfl
theorem q1962 : (Jvm.Cond.constantLong "SunkTowerModel" (425 : Nat) (99999 : Int64)) ∈ lw_all := lw_g (lw_at lw_m8 156 rfl) rfl
theorem q1963 : (Jvm.Cond.methodLink "SunkTowerModel" (436 : Nat) ({ cls := "SunkTowerModel", name := "laysFits", desc := "(I)I" } : Jvm.MethodName)) ∈ lw_all := lw_g (lw_at lw_m8 157 rfl) rfl
theorem q1964 : (Jvm.Cond.privateMethod ({ cls := "SunkTowerModel", name := "laysFits", desc := "(I)I" } : Jvm.MethodName)) ∈ lw_tbl := lw_at lw_m8 158 rfl
theorem q1965 : (Jvm.Cond.instanceMethod ({ cls := "SunkTowerModel", name := "laysFits", desc := "(I)I" } : Jvm.MethodName)) ∈ lw_all := lw_g (lw_at lw_m8 159 rfl) rfl
theorem q1966 : (Jvm.Cond.code ({ cls := "SunkTowerModel", name := "laysFits", desc := "(I)I" } : Jvm.MethodName) prog_11_method_113_code (5 : Nat) (Option.some Jvm.ClassFile.FieldType.int)) ∈ lw_all := lw_g (lw_at lw_m8 160 rfl) rfl
theorem q1967 : (Jvm.Cond.methodLink "SunkTowerModel" (427 : Nat) ({ cls := "SunkTowerModel", name := "laysDepths", desc := "()V" } : Jvm.MethodName)) ∈ lw_all := lw_g (lw_at lw_m8 161 rfl) rfl
theorem q1968 : (Jvm.Cond.privateMethod ({ cls := "SunkTowerModel", name := "laysDepths", desc := "()V" } : Jvm.MethodName)) ∈ lw_tbl := lw_at lw_m8 162 rfl
theorem q1969 : (Jvm.Cond.instanceMethod ({ cls := "SunkTowerModel", name := "laysDepths", desc := "()V" } : Jvm.MethodName)) ∈ lw_all := lw_g (lw_at lw_m8 163 rfl) rfl
theorem q1970 : (Jvm.Cond.code ({ cls := "SunkTowerModel", name := "laysDepths", desc := "()V" } : Jvm.MethodName) prog_11_method_110_code (6 : Nat) (Option.none : Option Jvm.ClassFile.FieldType)) ∈ lw_all := lw_g (lw_at lw_m8 164 rfl) rfl
theorem q1971 : (Jvm.Cond.methodLink "SunkTowerModel" (420 : Nat) ({ cls := "SunkTowerModel", name := "firstWeight", desc := "()I" } : Jvm.MethodName)) ∈ lw_all := lw_g (lw_at lw_m8 165 rfl) rfl
theorem q1972 : (Jvm.Cond.privateMethod ({ cls := "SunkTowerModel", name := "firstWeight", desc := "()I" } : Jvm.MethodName)) ∈ lw_tbl := lw_at lw_m8 166 rfl
theorem q1973 : (Jvm.Cond.instanceMethod ({ cls := "SunkTowerModel", name := "firstWeight", desc := "()I" } : Jvm.MethodName)) ∈ lw_all := lw_g (lw_at lw_m8 167 rfl) rfl
theorem q1974 : (Jvm.Cond.code ({ cls := "SunkTowerModel", name := "firstWeight", desc := "()I" } : Jvm.MethodName) prog_11_method_109_code (4 : Nat) (Option.some Jvm.ClassFile.FieldType.int)) ∈ lw_all := lw_g (lw_at lw_m8 168 rfl) rfl
theorem q1975 : (Jvm.Cond.methodLink "SunkTowerModel" (430 : Nat) ({ cls := "SunkTowerModel", name := "isMark", desc := "(III)Z" } : Jvm.MethodName)) ∈ lw_all := lw_g (lw_at lw_m8 169 rfl) rfl
theorem q1976 : (Jvm.Cond.privateMethod ({ cls := "SunkTowerModel", name := "isMark", desc := "(III)Z" } : Jvm.MethodName)) ∈ lw_tbl := lw_at lw_m8 170 rfl
theorem q1977 : (Jvm.Cond.instanceMethod ({ cls := "SunkTowerModel", name := "isMark", desc := "(III)Z" } : Jvm.MethodName)) ∈ lw_all := lw_g (lw_at lw_m8 171 rfl) rfl
theorem q1978 : (Jvm.Cond.code ({ cls := "SunkTowerModel", name := "isMark", desc := "(III)Z" } : Jvm.MethodName) prog_11_method_112_code (4 : Nat) (Option.some Jvm.ClassFile.FieldType.boolean)) ∈ lw_all := lw_g (lw_at lw_m8 172 rfl) rfl
theorem q1980 : (Jvm.Cond.instanceMethod ({ cls := "SunkTowerModel", name := "hidden", desc := "(II)I" } : Jvm.MethodName)) ∈ lw_all := lw_g (lw_at lw_m8 174 rfl) rfl
theorem q1981 : (Jvm.Cond.selects "SunkTowerModel" ({ cls := "SunkTowerModel", name := "hidden", desc := "(II)I" } : Jvm.MethodName) ({ cls := "SunkTowerModel", name := "hidden", desc := "(II)I" } : Jvm.MethodName)) ∈ lw_all := lw_g (lw_at lw_m8 175 rfl) rfl
theorem q1982 : (Jvm.Cond.code ({ cls := "SunkTowerModel", name := "hidden", desc := "(II)I" } : Jvm.MethodName) prog_11_method_115_code (6 : Nat) (Option.some Jvm.ClassFile.FieldType.int)) ∈ lw_all := lw_g (lw_at lw_m8 176 rfl) rfl
theorem q1984 : (Jvm.Cond.instanceMethod ({ cls := "SunkTowerModel", name := "look", desc := "(I)I" } : Jvm.MethodName)) ∈ lw_all := lw_g (lw_at lw_m8 178 rfl) rfl
theorem q1985 : (Jvm.Cond.selects "SunkTowerModel" ({ cls := "SunkTowerModel", name := "look", desc := "(I)I" } : Jvm.MethodName) ({ cls := "SunkTowerModel", name := "look", desc := "(I)I" } : Jvm.MethodName)) ∈ lw_all := lw_g (lw_at lw_m8 179 rfl) rfl
theorem q1986 : (Jvm.Cond.code ({ cls := "SunkTowerModel", name := "look", desc := "(I)I" } : Jvm.MethodName) prog_11_method_117_code (7 : Nat) (Option.some Jvm.ClassFile.FieldType.int)) ∈ lw_all := lw_g (lw_at lw_m8 180 rfl) rfl
theorem q1987 : (Jvm.Cond.methodLink "SunkTowerModel" (439 : Nat) ({ cls := "SunkTowerModel", name := "mostAlike", desc := "(I)I" } : Jvm.MethodName)) ∈ lw_all := lw_g (lw_at lw_m8 181 rfl) rfl
theorem q1988 : (Jvm.Cond.privateMethod ({ cls := "SunkTowerModel", name := "mostAlike", desc := "(I)I" } : Jvm.MethodName)) ∈ lw_tbl := lw_at lw_m8 182 rfl
theorem q1989 : (Jvm.Cond.instanceMethod ({ cls := "SunkTowerModel", name := "mostAlike", desc := "(I)I" } : Jvm.MethodName)) ∈ lw_all := lw_g (lw_at lw_m8 183 rfl) rfl
theorem q1990 : (Jvm.Cond.code ({ cls := "SunkTowerModel", name := "mostAlike", desc := "(I)I" } : Jvm.MethodName) prog_11_method_116_code (5 : Nat) (Option.some Jvm.ClassFile.FieldType.int)) ∈ lw_all := lw_g (lw_at lw_m8 184 rfl) rfl
theorem q1992 : (Jvm.Cond.instanceMethod ({ cls := "SunkTowerModel", name := "falseMark", desc := "(I)I" } : Jvm.MethodName)) ∈ lw_all := lw_g (lw_at lw_m8 186 rfl) rfl
theorem q1993 : (Jvm.Cond.selects "SunkTowerModel" ({ cls := "SunkTowerModel", name := "falseMark", desc := "(I)I" } : Jvm.MethodName) ({ cls := "SunkTowerModel", name := "falseMark", desc := "(I)I" } : Jvm.MethodName)) ∈ lw_all := lw_g (lw_at lw_m8 187 rfl) rfl
theorem q1994 : (Jvm.Cond.code ({ cls := "SunkTowerModel", name := "falseMark", desc := "(I)I" } : Jvm.MethodName) prog_11_method_118_code (6 : Nat) (Option.some Jvm.ClassFile.FieldType.int)) ∈ lw_all := lw_g (lw_at lw_m8 188 rfl) rfl
theorem q1996 : (Jvm.Cond.instanceMethod ({ cls := "SunkTowerModel", name := "numbers", desc := "(III)I" } : Jvm.MethodName)) ∈ lw_all := lw_g (lw_at lw_m8 190 rfl) rfl
theorem q1997 : (Jvm.Cond.selects "SunkTowerModel" ({ cls := "SunkTowerModel", name := "numbers", desc := "(III)I" } : Jvm.MethodName) ({ cls := "SunkTowerModel", name := "numbers", desc := "(III)I" } : Jvm.MethodName)) ∈ lw_all := lw_g (lw_at lw_m8 191 rfl) rfl
theorem q1998 : (Jvm.Cond.code ({ cls := "SunkTowerModel", name := "numbers", desc := "(III)I" } : Jvm.MethodName) prog_11_method_120_code (5 : Nat) (Option.some Jvm.ClassFile.FieldType.int)) ∈ lw_all := lw_g (lw_at lw_m8 192 rfl) rfl
theorem q1999 : (Jvm.Cond.constantLong "SunkTowerModel" (442 : Nat) (40 : Int64)) ∈ lw_all := lw_g (lw_at lw_m8 193 rfl) rfl
theorem q2001 : (Jvm.Cond.instanceMethod ({ cls := "SunkTowerModel", name := "write", desc := "(IIJ)J" } : Jvm.MethodName)) ∈ lw_all := lw_g (lw_at lw_m8 195 rfl) rfl
theorem q2002 : (Jvm.Cond.selects "SunkTowerModel" ({ cls := "SunkTowerModel", name := "write", desc := "(IIJ)J" } : Jvm.MethodName) ({ cls := "SunkTowerModel", name := "write", desc := "(IIJ)J" } : Jvm.MethodName)) ∈ lw_all := lw_g (lw_at lw_m8 196 rfl) rfl
theorem q2003 : (Jvm.Cond.code ({ cls := "SunkTowerModel", name := "write", desc := "(IIJ)J" } : Jvm.MethodName) prog_11_method_121_code (6 : Nat) (Option.some Jvm.ClassFile.FieldType.long)) ∈ lw_all := lw_g (lw_at lw_m8 197 rfl) rfl
theorem q2004 : (Jvm.Cond.constantLong "SunkTowerModel" (444 : Nat) (-7 : Int64)) ∈ lw_all := lw_g (lw_at lw_m8 198 rfl) rfl
theorem q2005 : (Jvm.Cond.methodLink "SunkTowerModel" (446 : Nat) ({ cls := "SunkTowerModel", name := "cut", desc := "(JI)J" } : Jvm.MethodName)) ∈ lw_all := lw_g (lw_at lw_m8 199 rfl) rfl
theorem q2006 : (Jvm.Cond.static ({ cls := "SunkTowerModel", name := "cut", desc := "(JI)J" } : Jvm.MethodName)) ∈ lw_all := lw_g (lw_at lw_m8 200 rfl) rfl
theorem q2007 : (Jvm.Cond.code ({ cls := "SunkTowerModel", name := "cut", desc := "(JI)J" } : Jvm.MethodName) prog_11_method_119_code (3 : Nat) (Option.some Jvm.ClassFile.FieldType.long)) ∈ lw_all := lw_g (lw_at lw_m8 201 rfl) rfl
theorem q2009 : (Jvm.Cond.instanceMethod ({ cls := "SunkTowerModel", name := "lists", desc := "(I)I" } : Jvm.MethodName)) ∈ lw_all := lw_g (lw_at lw_m8 203 rfl) rfl
theorem q2010 : (Jvm.Cond.selects "SunkTowerModel" ({ cls := "SunkTowerModel", name := "lists", desc := "(I)I" } : Jvm.MethodName) ({ cls := "SunkTowerModel", name := "lists", desc := "(I)I" } : Jvm.MethodName)) ∈ lw_all := lw_g (lw_at lw_m8 204 rfl) rfl
theorem q2011 : (Jvm.Cond.code ({ cls := "SunkTowerModel", name := "lists", desc := "(I)I" } : Jvm.MethodName) prog_11_method_122_code (4 : Nat) (Option.some Jvm.ClassFile.FieldType.int)) ∈ lw_all := lw_g (lw_at lw_m8 205 rfl) rfl
theorem q2013 : (Jvm.Cond.instanceMethod ({ cls := "SunkTowerModel", name := "image", desc := "(I)I" } : Jvm.MethodName)) ∈ lw_all := lw_g (lw_at lw_m8 207 rfl) rfl
theorem q2014 : (Jvm.Cond.selects "SunkTowerModel" ({ cls := "SunkTowerModel", name := "image", desc := "(I)I" } : Jvm.MethodName) ({ cls := "SunkTowerModel", name := "image", desc := "(I)I" } : Jvm.MethodName)) ∈ lw_all := lw_g (lw_at lw_m8 208 rfl) rfl
theorem q2015 : (Jvm.Cond.code ({ cls := "SunkTowerModel", name := "image", desc := "(I)I" } : Jvm.MethodName) prog_11_method_123_code (3 : Nat) (Option.some Jvm.ClassFile.FieldType.int)) ∈ lw_all := lw_g (lw_at lw_m8 209 rfl) rfl
theorem q2017 : (Jvm.Cond.instanceMethod ({ cls := "SunkTowerModel", name := "restore", desc := "(I)I" } : Jvm.MethodName)) ∈ lw_all := lw_g (lw_at lw_m8 211 rfl) rfl
theorem q2018 : (Jvm.Cond.selects "SunkTowerModel" ({ cls := "SunkTowerModel", name := "restore", desc := "(I)I" } : Jvm.MethodName) ({ cls := "SunkTowerModel", name := "restore", desc := "(I)I" } : Jvm.MethodName)) ∈ lw_all := lw_g (lw_at lw_m8 212 rfl) rfl
theorem q2019 : (Jvm.Cond.code ({ cls := "SunkTowerModel", name := "restore", desc := "(I)I" } : Jvm.MethodName) prog_11_method_124_code (3 : Nat) (Option.some Jvm.ClassFile.FieldType.int)) ∈ lw_all := lw_g (lw_at lw_m8 213 rfl) rfl
theorem q2021 : (Jvm.Cond.instanceMethod ({ cls := "SunkTowerModel", name := "count", desc := "(I)I" } : Jvm.MethodName)) ∈ lw_all := lw_g (lw_at lw_m8 215 rfl) rfl
theorem q2022 : (Jvm.Cond.selects "SunkTowerModel" ({ cls := "SunkTowerModel", name := "count", desc := "(I)I" } : Jvm.MethodName) ({ cls := "SunkTowerModel", name := "count", desc := "(I)I" } : Jvm.MethodName)) ∈ lw_all := lw_g (lw_at lw_m8 216 rfl) rfl
theorem q2023 : (Jvm.Cond.code ({ cls := "SunkTowerModel", name := "count", desc := "(I)I" } : Jvm.MethodName) prog_11_method_127_code (2 : Nat) (Option.some Jvm.ClassFile.FieldType.int)) ∈ lw_all := lw_g (lw_at lw_m8 217 rfl) rfl
theorem q2024 : (Jvm.Cond.methodLink "SunkTowerModel" (450 : Nat) ({ cls := "SunkTowerModel", name := "away", desc := "()I" } : Jvm.MethodName)) ∈ lw_all := lw_g (lw_at lw_m8 218 rfl) rfl
theorem q2025 : (Jvm.Cond.privateMethod ({ cls := "SunkTowerModel", name := "away", desc := "()I" } : Jvm.MethodName)) ∈ lw_tbl := lw_at lw_m8 219 rfl
theorem q2026 : (Jvm.Cond.instanceMethod ({ cls := "SunkTowerModel", name := "away", desc := "()I" } : Jvm.MethodName)) ∈ lw_all := lw_g (lw_at lw_m8 220 rfl) rfl
theorem q2027 : (Jvm.Cond.code ({ cls := "SunkTowerModel", name := "away", desc := "()I" } : Jvm.MethodName) prog_11_method_125_code (3 : Nat) (Option.some Jvm.ClassFile.FieldType.int)) ∈ lw_all := lw_g (lw_at lw_m8 221 rfl) rfl
theorem q2028 : (Jvm.Cond.methodLink "SunkTowerModel" (453 : Nat) ({ cls := "SunkTowerModel", name := "buriedMany", desc := "()I" } : Jvm.MethodName)) ∈ lw_all := lw_g (lw_at lw_m8 222 rfl) rfl
theorem q2029 : (Jvm.Cond.privateMethod ({ cls := "SunkTowerModel", name := "buriedMany", desc := "()I" } : Jvm.MethodName)) ∈ lw_tbl := lw_at lw_m8 223 rfl
theorem q2030 : (Jvm.Cond.instanceMethod ({ cls := "SunkTowerModel", name := "buriedMany", desc := "()I" } : Jvm.MethodName)) ∈ lw_all := lw_g (lw_at lw_m8 224 rfl) rfl
theorem q2031 : (Jvm.Cond.code ({ cls := "SunkTowerModel", name := "buriedMany", desc := "()I" } : Jvm.MethodName) prog_11_method_126_code (3 : Nat) (Option.some Jvm.ClassFile.FieldType.int)) ∈ lw_all := lw_g (lw_at lw_m8 225 rfl) rfl
theorem in_X4 : ∀ w ∈ wsX40, w ∈ lw_all := lw_in wsX40 [1430, 1432, 1434, 1436, 1438, 1440, 1442, 1444, 1446, 1448, 1450, 1452, 1454, 1456, 1458, 1460, 1462, 1464, 1466, 1468, 1470, 1472, 1474, 1476, 1478, 1480, 1482, 1484, 1486, 1488, 1490, 1492, 1494, 1496, 1498, 1500, 1502, 1504] (by decide +kernel) (by decide +kernel)
