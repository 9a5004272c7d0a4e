/-! SunkTower -/
set_option maxRecDepth 100000
def RX0 : String := "SunkTower"
def TX0 : u_T := fun k => match k with
  | 0 => ("SunkTower", "its", "LSunkTower$Tower;", false)
  | 1 => ("SunkTower", "now", "LSunkTower$State;", true)
  | 2 => ("SunkTower", "thought", "LSunkTower$State;", true)
  | 3 => ("SunkTower", "tape", "[B", true)
  | 4 => ("SunkTower", "taped", "I", false)
  | 5 => ("SunkTower", "faultKind", "I", false)
  | 6 => ("SunkTower", "faultPlace", "I", false)
  | 7 => ("SunkTower", "undos", "[LSunkTower$State;", true)
  | 8 => ("SunkTower", "undoMany", "I", false)
  | 9 => ("SunkTower", "undoAt", "I", false)
  | 10 => ("SunkTower", "x", "I", false)
  | 11 => ("SunkTower", "ringTo", "[I", true)
  | 12 => ("SunkTower", "points", "[I", true)
  | 13 => ("SunkTower", "ringMany", "I", false)
  | 14 => ("SunkTower", "stay", "[J", true)
  | 15 => ("SunkTower", "most", "[J", true)
  | 16 => ("SunkTower", "openIn", "[I", true)
  | 17 => ("SunkTower", "movesTo", "[I", true)
  | 18 => ("SunkTower", "placesOpen", "I", false)
  | 19 => ("SunkTower", "movesAll", "I", false)
  | 20 => ("SunkTower", "chosen", "[I", true)
  | 21 => ("SunkTower", "bestMonths", "[I", true)
  | 22 => ("SunkTower", "bestMany", "I", false)
  | 23 => ("SunkTower", "bestWays", "I", false)
  | 24 => ("SunkTower", "bestSum", "J", false)
  | 25 => ("SunkTower", "sunkAt", "[I", true)
  | 26 => ("SunkTower", "hiddens", "[I", true)
  | 27 => ("SunkTower", "alike", "[I", true)
  | 28 => ("SunkTower", "mostAlike", "[I", true)
  | 29 => ("SunkTower", "rows", "[I", true)
  | 30 => ("SunkTower", "trays", "[LSunkTower$Numbers;", true)
  | 31 => ("SunkTower", "towers", "[LSunkTower$Tower;", true)
  | _ => ("SunkTower", "states", "[LSunkTower$State;", true)
def tyX0 : Nat → FieldType := fun k => match k with
  | 0 => .object "SunkTower$Tower"
  | 1 => .object "SunkTower$State"
  | 2 => .object "SunkTower$State"
  | 3 => .array .byte
  | 4 => .int
  | 5 => .int
  | 6 => .int
  | 7 => .array (.object "SunkTower$State")
  | 8 => .int
  | 9 => .int
  | 10 => .int
  | 11 => .array .int
  | 12 => .array .int
  | 13 => .int
  | 14 => .array .long
  | 15 => .array .long
  | 16 => .array .int
  | 17 => .array .int
  | 18 => .int
  | 19 => .int
  | 20 => .array .int
  | 21 => .array .int
  | 22 => .int
  | 23 => .int
  | 24 => .long
  | 25 => .array .int
  | 26 => .array .int
  | 27 => .array .int
  | 28 => .array .int
  | 29 => .array .int
  | 30 => .array (.object "SunkTower$Numbers")
  | 31 => .array (.object "SunkTower$Tower")
  | _ => .array (.object "SunkTower$State")
abbrev wsX00 : List Cond := u_ws RX0 TX0 33
set_option maxRecDepth 100000 in
theorem nmX0 : ∀ a, a < 33 → ∀ b, b < 33 → a ≠ b → (TX0 a).2.1 ≠ (TX0 b).2.1 := by decide +kernel
set_option maxRecDepth 100000 in
theorem tyX0_ok : ∀ k, k < 33 → parseFieldDescriptor (TX0 k).2.2.1 = some (tyX0 k) := by decide +kernel
abbrev cX0_init : ByteArray := prog_1_method_3_code
def yX0_init : MethodName := ⟨RX0, "<init>", "()V"⟩
def dkwX0_init_15 : List UInt8 := [187, 0, 16, 89, 42, 183, 0, 18, 83, 181, 0, 94, 42, 180, 0, 21, 182, 0, 97, 87, 177]
abbrev dktX0_init_15 : List UInt8 := dkwX0_init_15 ++ []
def dkwX0_init_14 : List UInt8 := [189, 0, 9, 181, 0, 90, 42, 5, 189, 0, 16, 89, 3, 187, 0, 16, 89, 42, 183, 0, 18, 83, 89, 4]
abbrev dktX0_init_14 : List UInt8 := dkwX0_init_14 ++ dktX0_init_15
def dkwX0_init_13 : List UInt8 := [5, 187, 0, 83, 89, 183, 0, 85, 83, 89, 6, 187, 0, 83, 89, 183, 0, 85, 83, 181, 0, 86, 42, 5]
abbrev dktX0_init_13 : List UInt8 := dkwX0_init_13 ++ dktX0_init_14
def dkwX0_init_12 : List UInt8 := [189, 0, 83, 89, 3, 187, 0, 83, 89, 183, 0, 85, 83, 89, 4, 187, 0, 83, 89, 183, 0, 85, 83, 89]
abbrev dktX0_init_12 : List UInt8 := dkwX0_init_12 ++ dktX0_init_13
def dkwX0_init_11 : List UInt8 := [188, 10, 181, 0, 73, 42, 16, 61, 188, 10, 181, 0, 76, 42, 18, 79, 188, 10, 181, 0, 80, 42, 7]
abbrev dktX0_init_11 : List UInt8 := dkwX0_init_11 ++ dktX0_init_12
def dkwX0_init_10 : List UInt8 := [181, 0, 63, 42, 16, 61, 188, 10, 181, 0, 66, 42, 17, 3, 232, 188, 10, 181, 0, 69, 42, 18, 72]
abbrev dktX0_init_10 : List UInt8 := dkwX0_init_10 ++ dktX0_init_11
def dkwX0_init_9 : List UInt8 := [188, 10, 181, 0, 54, 42, 8, 188, 10, 181, 0, 57, 42, 6, 188, 10, 181, 0, 60, 42, 6, 188, 10]
abbrev dktX0_init_9 : List UInt8 := dkwX0_init_9 ++ dktX0_init_10
def dkwX0_init_8 : List UInt8 := [188, 10, 181, 0, 44, 42, 16, 54, 188, 11, 181, 0, 47, 42, 16, 54, 188, 11, 181, 0, 51, 42, 8]
abbrev dktX0_init_8 : List UInt8 := dkwX0_init_8 ++ dktX0_init_9
def dkwX0_init_7 : List UInt8 := [187, 0, 16, 89, 42, 183, 0, 18, 83, 181, 0, 36, 42, 16, 6, 188, 10, 181, 0, 40, 42, 16, 6]
abbrev dktX0_init_7 : List UInt8 := dkwX0_init_7 ++ dktX0_init_8
def dkwX0_init_6 : List UInt8 := [187, 0, 16, 89, 42, 183, 0, 18, 83, 89, 16, 8, 187, 0, 16, 89, 42, 183, 0, 18, 83, 89, 16, 9]
abbrev dktX0_init_6 : List UInt8 := dkwX0_init_6 ++ dktX0_init_7
def dkwX0_init_5 : List UInt8 := [187, 0, 16, 89, 42, 183, 0, 18, 83, 89, 16, 6, 187, 0, 16, 89, 42, 183, 0, 18, 83, 89, 16, 7]
abbrev dktX0_init_5 : List UInt8 := dkwX0_init_5 ++ dktX0_init_6
def dkwX0_init_4 : List UInt8 := [187, 0, 16, 89, 42, 183, 0, 18, 83, 89, 7, 187, 0, 16, 89, 42, 183, 0, 18, 83, 89, 8]
abbrev dktX0_init_4 : List UInt8 := dkwX0_init_4 ++ dktX0_init_5
def dkwX0_init_3 : List UInt8 := [187, 0, 16, 89, 42, 183, 0, 18, 83, 89, 5, 187, 0, 16, 89, 42, 183, 0, 18, 83, 89, 6]
abbrev dktX0_init_3 : List UInt8 := dkwX0_init_3 ++ dktX0_init_4
def dkwX0_init_2 : List UInt8 := [42, 2, 181, 0, 32, 42, 16, 10, 189, 0, 16, 89, 3, 187, 0, 16, 89, 42, 183, 0, 18, 83, 89, 4]
abbrev dktX0_init_2 : List UInt8 := dkwX0_init_2 ++ dktX0_init_3
def dkwX0_init_1 : List UInt8 := [181, 0, 21, 42, 187, 0, 16, 89, 42, 183, 0, 18, 181, 0, 25, 42, 17, 3, 132, 188, 8, 181, 0, 28]
abbrev dktX0_init_1 : List UInt8 := dkwX0_init_1 ++ dktX0_init_2
def dkwX0_init_0 : List UInt8 := [42, 183, 0, 3, 42, 187, 0, 9, 89, 183, 0, 11, 181, 0, 12, 42, 187, 0, 16, 89, 42, 183, 0, 18]
abbrev dktX0_init_0 : List UInt8 := dkwX0_init_0 ++ dktX0_init_1
theorem dksX0_init_0 : cX0_init.data.toList.drop 0 = dktX0_init_0 := by decide +kernel
theorem dksX0_init_1 : cX0_init.data.toList.drop 24 = dktX0_init_1 := dk_seg dksX0_init_0 24 rfl rfl
theorem dksX0_init_2 : cX0_init.data.toList.drop 48 = dktX0_init_2 := dk_seg dksX0_init_1 24 rfl rfl
theorem dksX0_init_3 : cX0_init.data.toList.drop 72 = dktX0_init_3 := dk_seg dksX0_init_2 24 rfl rfl
theorem dksX0_init_4 : cX0_init.data.toList.drop 94 = dktX0_init_4 := dk_seg dksX0_init_3 22 rfl rfl
theorem dksX0_init_5 : cX0_init.data.toList.drop 116 = dktX0_init_5 := dk_seg dksX0_init_4 22 rfl rfl
theorem dksX0_init_6 : cX0_init.data.toList.drop 140 = dktX0_init_6 := dk_seg dksX0_init_5 24 rfl rfl
theorem dksX0_init_7 : cX0_init.data.toList.drop 164 = dktX0_init_7 := dk_seg dksX0_init_6 24 rfl rfl
theorem dksX0_init_8 : cX0_init.data.toList.drop 187 = dktX0_init_8 := dk_seg dksX0_init_7 23 rfl rfl
theorem dksX0_init_9 : cX0_init.data.toList.drop 210 = dktX0_init_9 := dk_seg dksX0_init_8 23 rfl rfl
theorem dksX0_init_10 : cX0_init.data.toList.drop 233 = dktX0_init_10 := dk_seg dksX0_init_9 23 rfl rfl
theorem dksX0_init_11 : cX0_init.data.toList.drop 256 = dktX0_init_11 := dk_seg dksX0_init_10 23 rfl rfl
theorem dksX0_init_12 : cX0_init.data.toList.drop 279 = dktX0_init_12 := dk_seg dksX0_init_11 23 rfl rfl
theorem dksX0_init_13 : cX0_init.data.toList.drop 303 = dktX0_init_13 := dk_seg dksX0_init_12 24 rfl rfl
theorem dksX0_init_14 : cX0_init.data.toList.drop 327 = dktX0_init_14 := dk_seg dksX0_init_13 24 rfl rfl
theorem dksX0_init_15 : cX0_init.data.toList.drop 351 = dktX0_init_15 := dk_seg dksX0_init_14 24 rfl rfl
theorem dX0_init_0 : decode cX0_init 0 = .ok (.aload_n 0, 1) := dk_42 (dk_at dksX0_init_0 0 rfl rfl)
theorem dX0_init_1 : decode cX0_init 1 = .ok (.invokespecial 3, 3) := dk_183 0 3 (dk_at dksX0_init_0 1 rfl rfl)
theorem dX0_init_4 : decode cX0_init 4 = .ok (.aload_n 0, 1) := dk_42 (dk_at dksX0_init_0 4 rfl rfl)
theorem dX0_init_5 : decode cX0_init 5 = .ok (.new 9, 3) := dk_187 0 9 (dk_at dksX0_init_0 5 rfl rfl)
theorem dX0_init_8 : decode cX0_init 8 = .ok (.dup, 1) := dk_89 (dk_at dksX0_init_0 8 rfl rfl)
theorem dX0_init_9 : decode cX0_init 9 = .ok (.invokespecial 11, 3) := dk_183 0 11 (dk_at dksX0_init_0 9 rfl rfl)
theorem dX0_init_12 : decode cX0_init 12 = .ok (.putfield 12, 3) := dk_181 0 12 (dk_at dksX0_init_0 12 rfl rfl)
theorem dX0_init_15 : decode cX0_init 15 = .ok (.aload_n 0, 1) := dk_42 (dk_at dksX0_init_0 15 rfl rfl)
theorem dX0_init_16 : decode cX0_init 16 = .ok (.new 16, 3) := dk_187 0 16 (dk_at dksX0_init_0 16 rfl rfl)
theorem dX0_init_19 : decode cX0_init 19 = .ok (.dup, 1) := dk_89 (dk_at dksX0_init_0 19 rfl rfl)
theorem dX0_init_20 : decode cX0_init 20 = .ok (.aload_n 0, 1) := dk_42 (dk_at dksX0_init_0 20 rfl rfl)
theorem dX0_init_21 : decode cX0_init 21 = .ok (.invokespecial 18, 3) := dk_183 0 18 (dk_at dksX0_init_0 21 rfl rfl)
theorem dX0_init_24 : decode cX0_init 24 = .ok (.putfield 21, 3) := dk_181 0 21 (dk_at dksX0_init_1 0 rfl rfl)
theorem dX0_init_27 : decode cX0_init 27 = .ok (.aload_n 0, 1) := dk_42 (dk_at dksX0_init_1 3 rfl rfl)
theorem dX0_init_28 : decode cX0_init 28 = .ok (.new 16, 3) := dk_187 0 16 (dk_at dksX0_init_1 4 rfl rfl)
theorem dX0_init_31 : decode cX0_init 31 = .ok (.dup, 1) := dk_89 (dk_at dksX0_init_1 7 rfl rfl)
theorem dX0_init_32 : decode cX0_init 32 = .ok (.aload_n 0, 1) := dk_42 (dk_at dksX0_init_1 8 rfl rfl)
theorem dX0_init_33 : decode cX0_init 33 = .ok (.invokespecial 18, 3) := dk_183 0 18 (dk_at dksX0_init_1 9 rfl rfl)
theorem dX0_init_36 : decode cX0_init 36 = .ok (.putfield 25, 3) := dk_181 0 25 (dk_at dksX0_init_1 12 rfl rfl)
theorem dX0_init_39 : decode cX0_init 39 = .ok (.aload_n 0, 1) := dk_42 (dk_at dksX0_init_1 15 rfl rfl)
theorem dX0_init_40 : decode cX0_init 40 = .ok (.sipush 900, 3) := dk_17 3 132 (dk_at dksX0_init_1 16 rfl rfl)
theorem dX0_init_43 : decode cX0_init 43 = .ok (.newarray .byte, 2) := dk_188_8 (dk_at dksX0_init_1 19 rfl rfl)
theorem dX0_init_45 : decode cX0_init 45 = .ok (.putfield 28, 3) := dk_181 0 28 (dk_at dksX0_init_1 21 rfl rfl)
theorem dX0_init_48 : decode cX0_init 48 = .ok (.aload_n 0, 1) := dk_42 (dk_at dksX0_init_2 0 rfl rfl)
theorem dX0_init_49 : decode cX0_init 49 = .ok (.iconst (-1), 1) := dk_2 (dk_at dksX0_init_2 1 rfl rfl)
theorem dX0_init_50 : decode cX0_init 50 = .ok (.putfield 32, 3) := dk_181 0 32 (dk_at dksX0_init_2 2 rfl rfl)
theorem dX0_init_53 : decode cX0_init 53 = .ok (.aload_n 0, 1) := dk_42 (dk_at dksX0_init_2 5 rfl rfl)
theorem dX0_init_54 : decode cX0_init 54 = .ok (.bipush 10, 2) := dk_16 10 (dk_at dksX0_init_2 6 rfl rfl)
theorem dX0_init_56 : decode cX0_init 56 = .ok (.anewarray 16, 3) := dk_189 0 16 (dk_at dksX0_init_2 8 rfl rfl)
theorem dX0_init_59 : decode cX0_init 59 = .ok (.dup, 1) := dk_89 (dk_at dksX0_init_2 11 rfl rfl)
theorem dX0_init_60 : decode cX0_init 60 = .ok (.iconst 0, 1) := dk_3 (dk_at dksX0_init_2 12 rfl rfl)
theorem dX0_init_61 : decode cX0_init 61 = .ok (.new 16, 3) := dk_187 0 16 (dk_at dksX0_init_2 13 rfl rfl)
theorem dX0_init_64 : decode cX0_init 64 = .ok (.dup, 1) := dk_89 (dk_at dksX0_init_2 16 rfl rfl)
theorem dX0_init_65 : decode cX0_init 65 = .ok (.aload_n 0, 1) := dk_42 (dk_at dksX0_init_2 17 rfl rfl)
theorem dX0_init_66 : decode cX0_init 66 = .ok (.invokespecial 18, 3) := dk_183 0 18 (dk_at dksX0_init_2 18 rfl rfl)
theorem dX0_init_69 : decode cX0_init 69 = .ok (.aastore, 1) := dk_83 (dk_at dksX0_init_2 21 rfl rfl)
theorem dX0_init_70 : decode cX0_init 70 = .ok (.dup, 1) := dk_89 (dk_at dksX0_init_2 22 rfl rfl)
theorem dX0_init_71 : decode cX0_init 71 = .ok (.iconst 1, 1) := dk_4 (dk_at dksX0_init_2 23 rfl rfl)
theorem dX0_init_72 : decode cX0_init 72 = .ok (.new 16, 3) := dk_187 0 16 (dk_at dksX0_init_3 0 rfl rfl)
theorem dX0_init_75 : decode cX0_init 75 = .ok (.dup, 1) := dk_89 (dk_at dksX0_init_3 3 rfl rfl)
theorem dX0_init_76 : decode cX0_init 76 = .ok (.aload_n 0, 1) := dk_42 (dk_at dksX0_init_3 4 rfl rfl)
theorem dX0_init_77 : decode cX0_init 77 = .ok (.invokespecial 18, 3) := dk_183 0 18 (dk_at dksX0_init_3 5 rfl rfl)
theorem dX0_init_80 : decode cX0_init 80 = .ok (.aastore, 1) := dk_83 (dk_at dksX0_init_3 8 rfl rfl)
theorem dX0_init_81 : decode cX0_init 81 = .ok (.dup, 1) := dk_89 (dk_at dksX0_init_3 9 rfl rfl)
theorem dX0_init_82 : decode cX0_init 82 = .ok (.iconst 2, 1) := dk_5 (dk_at dksX0_init_3 10 rfl rfl)
theorem dX0_init_83 : decode cX0_init 83 = .ok (.new 16, 3) := dk_187 0 16 (dk_at dksX0_init_3 11 rfl rfl)
theorem dX0_init_86 : decode cX0_init 86 = .ok (.dup, 1) := dk_89 (dk_at dksX0_init_3 14 rfl rfl)
theorem dX0_init_87 : decode cX0_init 87 = .ok (.aload_n 0, 1) := dk_42 (dk_at dksX0_init_3 15 rfl rfl)
theorem dX0_init_88 : decode cX0_init 88 = .ok (.invokespecial 18, 3) := dk_183 0 18 (dk_at dksX0_init_3 16 rfl rfl)
theorem dX0_init_91 : decode cX0_init 91 = .ok (.aastore, 1) := dk_83 (dk_at dksX0_init_3 19 rfl rfl)
theorem dX0_init_92 : decode cX0_init 92 = .ok (.dup, 1) := dk_89 (dk_at dksX0_init_3 20 rfl rfl)
theorem dX0_init_93 : decode cX0_init 93 = .ok (.iconst 3, 1) := dk_6 (dk_at dksX0_init_3 21 rfl rfl)
theorem dX0_init_94 : decode cX0_init 94 = .ok (.new 16, 3) := dk_187 0 16 (dk_at dksX0_init_4 0 rfl rfl)
theorem dX0_init_97 : decode cX0_init 97 = .ok (.dup, 1) := dk_89 (dk_at dksX0_init_4 3 rfl rfl)
theorem dX0_init_98 : decode cX0_init 98 = .ok (.aload_n 0, 1) := dk_42 (dk_at dksX0_init_4 4 rfl rfl)
theorem dX0_init_99 : decode cX0_init 99 = .ok (.invokespecial 18, 3) := dk_183 0 18 (dk_at dksX0_init_4 5 rfl rfl)
theorem dX0_init_102 : decode cX0_init 102 = .ok (.aastore, 1) := dk_83 (dk_at dksX0_init_4 8 rfl rfl)
theorem dX0_init_103 : decode cX0_init 103 = .ok (.dup, 1) := dk_89 (dk_at dksX0_init_4 9 rfl rfl)
theorem dX0_init_104 : decode cX0_init 104 = .ok (.iconst 4, 1) := dk_7 (dk_at dksX0_init_4 10 rfl rfl)
theorem dX0_init_105 : decode cX0_init 105 = .ok (.new 16, 3) := dk_187 0 16 (dk_at dksX0_init_4 11 rfl rfl)
theorem dX0_init_108 : decode cX0_init 108 = .ok (.dup, 1) := dk_89 (dk_at dksX0_init_4 14 rfl rfl)
theorem dX0_init_109 : decode cX0_init 109 = .ok (.aload_n 0, 1) := dk_42 (dk_at dksX0_init_4 15 rfl rfl)
theorem dX0_init_110 : decode cX0_init 110 = .ok (.invokespecial 18, 3) := dk_183 0 18 (dk_at dksX0_init_4 16 rfl rfl)
theorem dX0_init_113 : decode cX0_init 113 = .ok (.aastore, 1) := dk_83 (dk_at dksX0_init_4 19 rfl rfl)
theorem dX0_init_114 : decode cX0_init 114 = .ok (.dup, 1) := dk_89 (dk_at dksX0_init_4 20 rfl rfl)
theorem dX0_init_115 : decode cX0_init 115 = .ok (.iconst 5, 1) := dk_8 (dk_at dksX0_init_4 21 rfl rfl)
theorem dX0_init_116 : decode cX0_init 116 = .ok (.new 16, 3) := dk_187 0 16 (dk_at dksX0_init_5 0 rfl rfl)
theorem dX0_init_119 : decode cX0_init 119 = .ok (.dup, 1) := dk_89 (dk_at dksX0_init_5 3 rfl rfl)
theorem dX0_init_120 : decode cX0_init 120 = .ok (.aload_n 0, 1) := dk_42 (dk_at dksX0_init_5 4 rfl rfl)
theorem dX0_init_121 : decode cX0_init 121 = .ok (.invokespecial 18, 3) := dk_183 0 18 (dk_at dksX0_init_5 5 rfl rfl)
theorem dX0_init_124 : decode cX0_init 124 = .ok (.aastore, 1) := dk_83 (dk_at dksX0_init_5 8 rfl rfl)
theorem dX0_init_125 : decode cX0_init 125 = .ok (.dup, 1) := dk_89 (dk_at dksX0_init_5 9 rfl rfl)
theorem dX0_init_126 : decode cX0_init 126 = .ok (.bipush 6, 2) := dk_16 6 (dk_at dksX0_init_5 10 rfl rfl)
theorem dX0_init_128 : decode cX0_init 128 = .ok (.new 16, 3) := dk_187 0 16 (dk_at dksX0_init_5 12 rfl rfl)
theorem dX0_init_131 : decode cX0_init 131 = .ok (.dup, 1) := dk_89 (dk_at dksX0_init_5 15 rfl rfl)
theorem dX0_init_132 : decode cX0_init 132 = .ok (.aload_n 0, 1) := dk_42 (dk_at dksX0_init_5 16 rfl rfl)
theorem dX0_init_133 : decode cX0_init 133 = .ok (.invokespecial 18, 3) := dk_183 0 18 (dk_at dksX0_init_5 17 rfl rfl)
theorem dX0_init_136 : decode cX0_init 136 = .ok (.aastore, 1) := dk_83 (dk_at dksX0_init_5 20 rfl rfl)
theorem dX0_init_137 : decode cX0_init 137 = .ok (.dup, 1) := dk_89 (dk_at dksX0_init_5 21 rfl rfl)
theorem dX0_init_138 : decode cX0_init 138 = .ok (.bipush 7, 2) := dk_16 7 (dk_at dksX0_init_5 22 rfl rfl)
theorem dX0_init_140 : decode cX0_init 140 = .ok (.new 16, 3) := dk_187 0 16 (dk_at dksX0_init_6 0 rfl rfl)
theorem dX0_init_143 : decode cX0_init 143 = .ok (.dup, 1) := dk_89 (dk_at dksX0_init_6 3 rfl rfl)
theorem dX0_init_144 : decode cX0_init 144 = .ok (.aload_n 0, 1) := dk_42 (dk_at dksX0_init_6 4 rfl rfl)
theorem dX0_init_145 : decode cX0_init 145 = .ok (.invokespecial 18, 3) := dk_183 0 18 (dk_at dksX0_init_6 5 rfl rfl)
theorem dX0_init_148 : decode cX0_init 148 = .ok (.aastore, 1) := dk_83 (dk_at dksX0_init_6 8 rfl rfl)
theorem dX0_init_149 : decode cX0_init 149 = .ok (.dup, 1) := dk_89 (dk_at dksX0_init_6 9 rfl rfl)
theorem dX0_init_150 : decode cX0_init 150 = .ok (.bipush 8, 2) := dk_16 8 (dk_at dksX0_init_6 10 rfl rfl)
theorem dX0_init_152 : decode cX0_init 152 = .ok (.new 16, 3) := dk_187 0 16 (dk_at dksX0_init_6 12 rfl rfl)
theorem dX0_init_155 : decode cX0_init 155 = .ok (.dup, 1) := dk_89 (dk_at dksX0_init_6 15 rfl rfl)
theorem dX0_init_156 : decode cX0_init 156 = .ok (.aload_n 0, 1) := dk_42 (dk_at dksX0_init_6 16 rfl rfl)
theorem dX0_init_157 : decode cX0_init 157 = .ok (.invokespecial 18, 3) := dk_183 0 18 (dk_at dksX0_init_6 17 rfl rfl)
theorem dX0_init_160 : decode cX0_init 160 = .ok (.aastore, 1) := dk_83 (dk_at dksX0_init_6 20 rfl rfl)
theorem dX0_init_161 : decode cX0_init 161 = .ok (.dup, 1) := dk_89 (dk_at dksX0_init_6 21 rfl rfl)
theorem dX0_init_162 : decode cX0_init 162 = .ok (.bipush 9, 2) := dk_16 9 (dk_at dksX0_init_6 22 rfl rfl)
theorem dX0_init_164 : decode cX0_init 164 = .ok (.new 16, 3) := dk_187 0 16 (dk_at dksX0_init_7 0 rfl rfl)
theorem dX0_init_167 : decode cX0_init 167 = .ok (.dup, 1) := dk_89 (dk_at dksX0_init_7 3 rfl rfl)
theorem dX0_init_168 : decode cX0_init 168 = .ok (.aload_n 0, 1) := dk_42 (dk_at dksX0_init_7 4 rfl rfl)
theorem dX0_init_169 : decode cX0_init 169 = .ok (.invokespecial 18, 3) := dk_183 0 18 (dk_at dksX0_init_7 5 rfl rfl)
theorem dX0_init_172 : decode cX0_init 172 = .ok (.aastore, 1) := dk_83 (dk_at dksX0_init_7 8 rfl rfl)
theorem dX0_init_173 : decode cX0_init 173 = .ok (.putfield 36, 3) := dk_181 0 36 (dk_at dksX0_init_7 9 rfl rfl)
theorem dX0_init_176 : decode cX0_init 176 = .ok (.aload_n 0, 1) := dk_42 (dk_at dksX0_init_7 12 rfl rfl)
theorem dX0_init_177 : decode cX0_init 177 = .ok (.bipush 6, 2) := dk_16 6 (dk_at dksX0_init_7 13 rfl rfl)
theorem dX0_init_179 : decode cX0_init 179 = .ok (.newarray .int, 2) := dk_188_10 (dk_at dksX0_init_7 15 rfl rfl)
theorem dX0_init_181 : decode cX0_init 181 = .ok (.putfield 40, 3) := dk_181 0 40 (dk_at dksX0_init_7 17 rfl rfl)
theorem dX0_init_184 : decode cX0_init 184 = .ok (.aload_n 0, 1) := dk_42 (dk_at dksX0_init_7 20 rfl rfl)
theorem dX0_init_185 : decode cX0_init 185 = .ok (.bipush 6, 2) := dk_16 6 (dk_at dksX0_init_7 21 rfl rfl)
theorem dX0_init_187 : decode cX0_init 187 = .ok (.newarray .int, 2) := dk_188_10 (dk_at dksX0_init_8 0 rfl rfl)
theorem dX0_init_189 : decode cX0_init 189 = .ok (.putfield 44, 3) := dk_181 0 44 (dk_at dksX0_init_8 2 rfl rfl)
theorem dX0_init_192 : decode cX0_init 192 = .ok (.aload_n 0, 1) := dk_42 (dk_at dksX0_init_8 5 rfl rfl)
theorem dX0_init_193 : decode cX0_init 193 = .ok (.bipush 54, 2) := dk_16 54 (dk_at dksX0_init_8 6 rfl rfl)
theorem dX0_init_195 : decode cX0_init 195 = .ok (.newarray .long, 2) := dk_188_11 (dk_at dksX0_init_8 8 rfl rfl)
theorem dX0_init_197 : decode cX0_init 197 = .ok (.putfield 47, 3) := dk_181 0 47 (dk_at dksX0_init_8 10 rfl rfl)
theorem dX0_init_200 : decode cX0_init 200 = .ok (.aload_n 0, 1) := dk_42 (dk_at dksX0_init_8 13 rfl rfl)
theorem dX0_init_201 : decode cX0_init 201 = .ok (.bipush 54, 2) := dk_16 54 (dk_at dksX0_init_8 14 rfl rfl)
theorem dX0_init_203 : decode cX0_init 203 = .ok (.newarray .long, 2) := dk_188_11 (dk_at dksX0_init_8 16 rfl rfl)
theorem dX0_init_205 : decode cX0_init 205 = .ok (.putfield 51, 3) := dk_181 0 51 (dk_at dksX0_init_8 18 rfl rfl)
theorem dX0_init_208 : decode cX0_init 208 = .ok (.aload_n 0, 1) := dk_42 (dk_at dksX0_init_8 21 rfl rfl)
theorem dX0_init_209 : decode cX0_init 209 = .ok (.iconst 5, 1) := dk_8 (dk_at dksX0_init_8 22 rfl rfl)
theorem dX0_init_210 : decode cX0_init 210 = .ok (.newarray .int, 2) := dk_188_10 (dk_at dksX0_init_9 0 rfl rfl)
theorem dX0_init_212 : decode cX0_init 212 = .ok (.putfield 54, 3) := dk_181 0 54 (dk_at dksX0_init_9 2 rfl rfl)
theorem dX0_init_215 : decode cX0_init 215 = .ok (.aload_n 0, 1) := dk_42 (dk_at dksX0_init_9 5 rfl rfl)
theorem dX0_init_216 : decode cX0_init 216 = .ok (.iconst 5, 1) := dk_8 (dk_at dksX0_init_9 6 rfl rfl)
theorem dX0_init_217 : decode cX0_init 217 = .ok (.newarray .int, 2) := dk_188_10 (dk_at dksX0_init_9 7 rfl rfl)
theorem dX0_init_219 : decode cX0_init 219 = .ok (.putfield 57, 3) := dk_181 0 57 (dk_at dksX0_init_9 9 rfl rfl)
theorem dX0_init_222 : decode cX0_init 222 = .ok (.aload_n 0, 1) := dk_42 (dk_at dksX0_init_9 12 rfl rfl)
theorem dX0_init_223 : decode cX0_init 223 = .ok (.iconst 3, 1) := dk_6 (dk_at dksX0_init_9 13 rfl rfl)
theorem dX0_init_224 : decode cX0_init 224 = .ok (.newarray .int, 2) := dk_188_10 (dk_at dksX0_init_9 14 rfl rfl)
theorem dX0_init_226 : decode cX0_init 226 = .ok (.putfield 60, 3) := dk_181 0 60 (dk_at dksX0_init_9 16 rfl rfl)
theorem dX0_init_229 : decode cX0_init 229 = .ok (.aload_n 0, 1) := dk_42 (dk_at dksX0_init_9 19 rfl rfl)
theorem dX0_init_230 : decode cX0_init 230 = .ok (.iconst 3, 1) := dk_6 (dk_at dksX0_init_9 20 rfl rfl)
theorem dX0_init_231 : decode cX0_init 231 = .ok (.newarray .int, 2) := dk_188_10 (dk_at dksX0_init_9 21 rfl rfl)
theorem dX0_init_233 : decode cX0_init 233 = .ok (.putfield 63, 3) := dk_181 0 63 (dk_at dksX0_init_10 0 rfl rfl)
theorem dX0_init_236 : decode cX0_init 236 = .ok (.aload_n 0, 1) := dk_42 (dk_at dksX0_init_10 3 rfl rfl)
theorem dX0_init_237 : decode cX0_init 237 = .ok (.bipush 61, 2) := dk_16 61 (dk_at dksX0_init_10 4 rfl rfl)
theorem dX0_init_239 : decode cX0_init 239 = .ok (.newarray .int, 2) := dk_188_10 (dk_at dksX0_init_10 6 rfl rfl)
theorem dX0_init_241 : decode cX0_init 241 = .ok (.putfield 66, 3) := dk_181 0 66 (dk_at dksX0_init_10 8 rfl rfl)
theorem dX0_init_244 : decode cX0_init 244 = .ok (.aload_n 0, 1) := dk_42 (dk_at dksX0_init_10 11 rfl rfl)
theorem dX0_init_245 : decode cX0_init 245 = .ok (.sipush 1000, 3) := dk_17 3 232 (dk_at dksX0_init_10 12 rfl rfl)
theorem dX0_init_248 : decode cX0_init 248 = .ok (.newarray .int, 2) := dk_188_10 (dk_at dksX0_init_10 15 rfl rfl)
theorem dX0_init_250 : decode cX0_init 250 = .ok (.putfield 69, 3) := dk_181 0 69 (dk_at dksX0_init_10 17 rfl rfl)
theorem dX0_init_253 : decode cX0_init 253 = .ok (.aload_n 0, 1) := dk_42 (dk_at dksX0_init_10 20 rfl rfl)
theorem dX0_init_254 : decode cX0_init 254 = .ok (.ldc 72, 2) := dk_18 72 (dk_at dksX0_init_10 21 rfl rfl)
theorem dX0_init_256 : decode cX0_init 256 = .ok (.newarray .int, 2) := dk_188_10 (dk_at dksX0_init_11 0 rfl rfl)
theorem dX0_init_258 : decode cX0_init 258 = .ok (.putfield 73, 3) := dk_181 0 73 (dk_at dksX0_init_11 2 rfl rfl)
theorem dX0_init_261 : decode cX0_init 261 = .ok (.aload_n 0, 1) := dk_42 (dk_at dksX0_init_11 5 rfl rfl)
theorem dX0_init_262 : decode cX0_init 262 = .ok (.bipush 61, 2) := dk_16 61 (dk_at dksX0_init_11 6 rfl rfl)
theorem dX0_init_264 : decode cX0_init 264 = .ok (.newarray .int, 2) := dk_188_10 (dk_at dksX0_init_11 8 rfl rfl)
theorem dX0_init_266 : decode cX0_init 266 = .ok (.putfield 76, 3) := dk_181 0 76 (dk_at dksX0_init_11 10 rfl rfl)
theorem dX0_init_269 : decode cX0_init 269 = .ok (.aload_n 0, 1) := dk_42 (dk_at dksX0_init_11 13 rfl rfl)
theorem dX0_init_270 : decode cX0_init 270 = .ok (.ldc 79, 2) := dk_18 79 (dk_at dksX0_init_11 14 rfl rfl)
theorem dX0_init_272 : decode cX0_init 272 = .ok (.newarray .int, 2) := dk_188_10 (dk_at dksX0_init_11 16 rfl rfl)
theorem dX0_init_274 : decode cX0_init 274 = .ok (.putfield 80, 3) := dk_181 0 80 (dk_at dksX0_init_11 18 rfl rfl)
theorem dX0_init_277 : decode cX0_init 277 = .ok (.aload_n 0, 1) := dk_42 (dk_at dksX0_init_11 21 rfl rfl)
theorem dX0_init_278 : decode cX0_init 278 = .ok (.iconst 4, 1) := dk_7 (dk_at dksX0_init_11 22 rfl rfl)
theorem dX0_init_279 : decode cX0_init 279 = .ok (.anewarray 83, 3) := dk_189 0 83 (dk_at dksX0_init_12 0 rfl rfl)
theorem dX0_init_282 : decode cX0_init 282 = .ok (.dup, 1) := dk_89 (dk_at dksX0_init_12 3 rfl rfl)
theorem dX0_init_283 : decode cX0_init 283 = .ok (.iconst 0, 1) := dk_3 (dk_at dksX0_init_12 4 rfl rfl)
theorem dX0_init_284 : decode cX0_init 284 = .ok (.new 83, 3) := dk_187 0 83 (dk_at dksX0_init_12 5 rfl rfl)
theorem dX0_init_287 : decode cX0_init 287 = .ok (.dup, 1) := dk_89 (dk_at dksX0_init_12 8 rfl rfl)
theorem dX0_init_288 : decode cX0_init 288 = .ok (.invokespecial 85, 3) := dk_183 0 85 (dk_at dksX0_init_12 9 rfl rfl)
theorem dX0_init_291 : decode cX0_init 291 = .ok (.aastore, 1) := dk_83 (dk_at dksX0_init_12 12 rfl rfl)
theorem dX0_init_292 : decode cX0_init 292 = .ok (.dup, 1) := dk_89 (dk_at dksX0_init_12 13 rfl rfl)
theorem dX0_init_293 : decode cX0_init 293 = .ok (.iconst 1, 1) := dk_4 (dk_at dksX0_init_12 14 rfl rfl)
theorem dX0_init_294 : decode cX0_init 294 = .ok (.new 83, 3) := dk_187 0 83 (dk_at dksX0_init_12 15 rfl rfl)
theorem dX0_init_297 : decode cX0_init 297 = .ok (.dup, 1) := dk_89 (dk_at dksX0_init_12 18 rfl rfl)
theorem dX0_init_298 : decode cX0_init 298 = .ok (.invokespecial 85, 3) := dk_183 0 85 (dk_at dksX0_init_12 19 rfl rfl)
theorem dX0_init_301 : decode cX0_init 301 = .ok (.aastore, 1) := dk_83 (dk_at dksX0_init_12 22 rfl rfl)
theorem dX0_init_302 : decode cX0_init 302 = .ok (.dup, 1) := dk_89 (dk_at dksX0_init_12 23 rfl rfl)
theorem dX0_init_303 : decode cX0_init 303 = .ok (.iconst 2, 1) := dk_5 (dk_at dksX0_init_13 0 rfl rfl)
theorem dX0_init_304 : decode cX0_init 304 = .ok (.new 83, 3) := dk_187 0 83 (dk_at dksX0_init_13 1 rfl rfl)
theorem dX0_init_307 : decode cX0_init 307 = .ok (.dup, 1) := dk_89 (dk_at dksX0_init_13 4 rfl rfl)
theorem dX0_init_308 : decode cX0_init 308 = .ok (.invokespecial 85, 3) := dk_183 0 85 (dk_at dksX0_init_13 5 rfl rfl)
theorem dX0_init_311 : decode cX0_init 311 = .ok (.aastore, 1) := dk_83 (dk_at dksX0_init_13 8 rfl rfl)
theorem dX0_init_312 : decode cX0_init 312 = .ok (.dup, 1) := dk_89 (dk_at dksX0_init_13 9 rfl rfl)
theorem dX0_init_313 : decode cX0_init 313 = .ok (.iconst 3, 1) := dk_6 (dk_at dksX0_init_13 10 rfl rfl)
theorem dX0_init_314 : decode cX0_init 314 = .ok (.new 83, 3) := dk_187 0 83 (dk_at dksX0_init_13 11 rfl rfl)
theorem dX0_init_317 : decode cX0_init 317 = .ok (.dup, 1) := dk_89 (dk_at dksX0_init_13 14 rfl rfl)
theorem dX0_init_318 : decode cX0_init 318 = .ok (.invokespecial 85, 3) := dk_183 0 85 (dk_at dksX0_init_13 15 rfl rfl)
theorem dX0_init_321 : decode cX0_init 321 = .ok (.aastore, 1) := dk_83 (dk_at dksX0_init_13 18 rfl rfl)
theorem dX0_init_322 : decode cX0_init 322 = .ok (.putfield 86, 3) := dk_181 0 86 (dk_at dksX0_init_13 19 rfl rfl)
theorem dX0_init_325 : decode cX0_init 325 = .ok (.aload_n 0, 1) := dk_42 (dk_at dksX0_init_13 22 rfl rfl)
theorem dX0_init_326 : decode cX0_init 326 = .ok (.iconst 2, 1) := dk_5 (dk_at dksX0_init_13 23 rfl rfl)
theorem dX0_init_327 : decode cX0_init 327 = .ok (.anewarray 9, 3) := dk_189 0 9 (dk_at dksX0_init_14 0 rfl rfl)
theorem dX0_init_330 : decode cX0_init 330 = .ok (.putfield 90, 3) := dk_181 0 90 (dk_at dksX0_init_14 3 rfl rfl)
theorem dX0_init_333 : decode cX0_init 333 = .ok (.aload_n 0, 1) := dk_42 (dk_at dksX0_init_14 6 rfl rfl)
theorem dX0_init_334 : decode cX0_init 334 = .ok (.iconst 2, 1) := dk_5 (dk_at dksX0_init_14 7 rfl rfl)
theorem dX0_init_335 : decode cX0_init 335 = .ok (.anewarray 16, 3) := dk_189 0 16 (dk_at dksX0_init_14 8 rfl rfl)
theorem dX0_init_338 : decode cX0_init 338 = .ok (.dup, 1) := dk_89 (dk_at dksX0_init_14 11 rfl rfl)
theorem dX0_init_339 : decode cX0_init 339 = .ok (.iconst 0, 1) := dk_3 (dk_at dksX0_init_14 12 rfl rfl)
theorem dX0_init_340 : decode cX0_init 340 = .ok (.new 16, 3) := dk_187 0 16 (dk_at dksX0_init_14 13 rfl rfl)
theorem dX0_init_343 : decode cX0_init 343 = .ok (.dup, 1) := dk_89 (dk_at dksX0_init_14 16 rfl rfl)
theorem dX0_init_344 : decode cX0_init 344 = .ok (.aload_n 0, 1) := dk_42 (dk_at dksX0_init_14 17 rfl rfl)
theorem dX0_init_345 : decode cX0_init 345 = .ok (.invokespecial 18, 3) := dk_183 0 18 (dk_at dksX0_init_14 18 rfl rfl)
theorem dX0_init_348 : decode cX0_init 348 = .ok (.aastore, 1) := dk_83 (dk_at dksX0_init_14 21 rfl rfl)
theorem dX0_init_349 : decode cX0_init 349 = .ok (.dup, 1) := dk_89 (dk_at dksX0_init_14 22 rfl rfl)
theorem dX0_init_350 : decode cX0_init 350 = .ok (.iconst 1, 1) := dk_4 (dk_at dksX0_init_14 23 rfl rfl)
theorem dX0_init_351 : decode cX0_init 351 = .ok (.new 16, 3) := dk_187 0 16 (dk_at dksX0_init_15 0 rfl rfl)
theorem dX0_init_354 : decode cX0_init 354 = .ok (.dup, 1) := dk_89 (dk_at dksX0_init_15 3 rfl rfl)
theorem dX0_init_355 : decode cX0_init 355 = .ok (.aload_n 0, 1) := dk_42 (dk_at dksX0_init_15 4 rfl rfl)
theorem dX0_init_356 : decode cX0_init 356 = .ok (.invokespecial 18, 3) := dk_183 0 18 (dk_at dksX0_init_15 5 rfl rfl)
theorem dX0_init_359 : decode cX0_init 359 = .ok (.aastore, 1) := dk_83 (dk_at dksX0_init_15 8 rfl rfl)
theorem dX0_init_360 : decode cX0_init 360 = .ok (.putfield 94, 3) := dk_181 0 94 (dk_at dksX0_init_15 9 rfl rfl)
theorem dX0_init_363 : decode cX0_init 363 = .ok (.aload_n 0, 1) := dk_42 (dk_at dksX0_init_15 12 rfl rfl)
theorem dX0_init_364 : decode cX0_init 364 = .ok (.getfield 21, 3) := dk_180 0 21 (dk_at dksX0_init_15 13 rfl rfl)
theorem dX0_init_367 : decode cX0_init 367 = .ok (.invokevirtual 97, 3) := dk_182 0 97 (dk_at dksX0_init_15 16 rfl rfl)
theorem dX0_init_370 : decode cX0_init 370 = .ok (.pop, 1) := dk_87 (dk_at dksX0_init_15 19 rfl rfl)
theorem dX0_init_371 : decode cX0_init 371 = .ok (.return_, 1) := dk_177 (dk_at dksX0_init_15 20 rfl rfl)
abbrev cX0_feed : ByteArray := prog_1_method_4_code
def yX0_feed : MethodName := ⟨RX0, "feed", "(IIIII)I"⟩
def dkwX0_feed_2 : List UInt8 := [172]
abbrev dktX0_feed_2 : List UInt8 := dkwX0_feed_2 ++ []
def dkwX0_feed_1 : List UInt8 := [182, 0, 104, 42, 29, 182, 0, 104, 42, 21, 4, 182, 0, 104, 42, 21, 5, 182, 0, 104, 42, 180, 0, 101]
abbrev dktX0_feed_1 : List UInt8 := dkwX0_feed_1 ++ dktX0_feed_2
def dkwX0_feed_0 : List UInt8 := [42, 180, 0, 101, 16, 20, 96, 17, 3, 132, 164, 0, 6, 16, 251, 172, 42, 27, 182, 0, 104, 42, 28]
abbrev dktX0_feed_0 : List UInt8 := dkwX0_feed_0 ++ dktX0_feed_1
theorem dksX0_feed_0 : cX0_feed.data.toList.drop 0 = dktX0_feed_0 := by decide +kernel
theorem dksX0_feed_1 : cX0_feed.data.toList.drop 23 = dktX0_feed_1 := dk_seg dksX0_feed_0 23 rfl rfl
theorem dksX0_feed_2 : cX0_feed.data.toList.drop 47 = dktX0_feed_2 := dk_seg dksX0_feed_1 24 rfl rfl
theorem dX0_feed_0 : decode cX0_feed 0 = .ok (.aload_n 0, 1) := dk_42 (dk_at dksX0_feed_0 0 rfl rfl)
theorem dX0_feed_1 : decode cX0_feed 1 = .ok (.getfield 101, 3) := dk_180 0 101 (dk_at dksX0_feed_0 1 rfl rfl)
theorem dX0_feed_4 : decode cX0_feed 4 = .ok (.bipush 20, 2) := dk_16 20 (dk_at dksX0_feed_0 4 rfl rfl)
theorem dX0_feed_6 : decode cX0_feed 6 = .ok (.iadd, 1) := dk_96 (dk_at dksX0_feed_0 6 rfl rfl)
theorem dX0_feed_7 : decode cX0_feed 7 = .ok (.sipush 900, 3) := dk_17 3 132 (dk_at dksX0_feed_0 7 rfl rfl)
theorem dX0_feed_10 : decode cX0_feed 10 = .ok (.if_icmp .le 6, 3) := dk_164 0 6 (dk_at dksX0_feed_0 10 rfl rfl)
theorem dX0_feed_13 : decode cX0_feed 13 = .ok (.bipush (-5), 2) := dk_16 251 (dk_at dksX0_feed_0 13 rfl rfl)
theorem dX0_feed_15 : decode cX0_feed 15 = .ok (.ireturn, 1) := dk_172 (dk_at dksX0_feed_0 15 rfl rfl)
theorem dX0_feed_16 : decode cX0_feed 16 = .ok (.aload_n 0, 1) := dk_42 (dk_at dksX0_feed_0 16 rfl rfl)
theorem dX0_feed_17 : decode cX0_feed 17 = .ok (.iload_n 1, 1) := dk_27 (dk_at dksX0_feed_0 17 rfl rfl)
theorem dX0_feed_18 : decode cX0_feed 18 = .ok (.invokevirtual 104, 3) := dk_182 0 104 (dk_at dksX0_feed_0 18 rfl rfl)
theorem dX0_feed_21 : decode cX0_feed 21 = .ok (.aload_n 0, 1) := dk_42 (dk_at dksX0_feed_0 21 rfl rfl)
theorem dX0_feed_22 : decode cX0_feed 22 = .ok (.iload_n 2, 1) := dk_28 (dk_at dksX0_feed_0 22 rfl rfl)
theorem dX0_feed_23 : decode cX0_feed 23 = .ok (.invokevirtual 104, 3) := dk_182 0 104 (dk_at dksX0_feed_1 0 rfl rfl)
theorem dX0_feed_26 : decode cX0_feed 26 = .ok (.aload_n 0, 1) := dk_42 (dk_at dksX0_feed_1 3 rfl rfl)
theorem dX0_feed_27 : decode cX0_feed 27 = .ok (.iload_n 3, 1) := dk_29 (dk_at dksX0_feed_1 4 rfl rfl)
theorem dX0_feed_28 : decode cX0_feed 28 = .ok (.invokevirtual 104, 3) := dk_182 0 104 (dk_at dksX0_feed_1 5 rfl rfl)
theorem dX0_feed_31 : decode cX0_feed 31 = .ok (.aload_n 0, 1) := dk_42 (dk_at dksX0_feed_1 8 rfl rfl)
theorem dX0_feed_32 : decode cX0_feed 32 = .ok (.iload 4, 2) := dk_21 4 (dk_at dksX0_feed_1 9 rfl rfl)
theorem dX0_feed_34 : decode cX0_feed 34 = .ok (.invokevirtual 104, 3) := dk_182 0 104 (dk_at dksX0_feed_1 11 rfl rfl)
theorem dX0_feed_37 : decode cX0_feed 37 = .ok (.aload_n 0, 1) := dk_42 (dk_at dksX0_feed_1 14 rfl rfl)
theorem dX0_feed_38 : decode cX0_feed 38 = .ok (.iload 5, 2) := dk_21 5 (dk_at dksX0_feed_1 15 rfl rfl)
theorem dX0_feed_40 : decode cX0_feed 40 = .ok (.invokevirtual 104, 3) := dk_182 0 104 (dk_at dksX0_feed_1 17 rfl rfl)
theorem dX0_feed_43 : decode cX0_feed 43 = .ok (.aload_n 0, 1) := dk_42 (dk_at dksX0_feed_1 20 rfl rfl)
theorem dX0_feed_44 : decode cX0_feed 44 = .ok (.getfield 101, 3) := dk_180 0 101 (dk_at dksX0_feed_1 21 rfl rfl)
theorem dX0_feed_47 : decode cX0_feed 47 = .ok (.ireturn, 1) := dk_172 (dk_at dksX0_feed_2 0 rfl rfl)
abbrev cX0_bytes : ByteArray := prog_1_method_5_code
def yX0_bytes : MethodName := ⟨RX0, "bytes", "(I)V"⟩
def dkwX0_bytes_1 : List UInt8 := [180, 0, 101, 4, 96, 181, 0, 101, 132, 2, 248, 167, 255, 226, 177]
abbrev dktX0_bytes_1 : List UInt8 := dkwX0_bytes_1 ++ []
def dkwX0_bytes_0 : List UInt8 := [16, 24, 61, 28, 155, 0, 32, 42, 180, 0, 28, 42, 180, 0, 101, 27, 28, 122, 145, 84, 42, 89]
abbrev dktX0_bytes_0 : List UInt8 := dkwX0_bytes_0 ++ dktX0_bytes_1
theorem dksX0_bytes_0 : cX0_bytes.data.toList.drop 0 = dktX0_bytes_0 := by decide +kernel
theorem dksX0_bytes_1 : cX0_bytes.data.toList.drop 22 = dktX0_bytes_1 := dk_seg dksX0_bytes_0 22 rfl rfl
theorem dX0_bytes_0 : decode cX0_bytes 0 = .ok (.bipush 24, 2) := dk_16 24 (dk_at dksX0_bytes_0 0 rfl rfl)
theorem dX0_bytes_2 : decode cX0_bytes 2 = .ok (.istore_n 2, 1) := dk_61 (dk_at dksX0_bytes_0 2 rfl rfl)
theorem dX0_bytes_3 : decode cX0_bytes 3 = .ok (.iload_n 2, 1) := dk_28 (dk_at dksX0_bytes_0 3 rfl rfl)
theorem dX0_bytes_4 : decode cX0_bytes 4 = .ok (.ifCond .lt 32, 3) := dk_155 0 32 (dk_at dksX0_bytes_0 4 rfl rfl)
theorem dX0_bytes_7 : decode cX0_bytes 7 = .ok (.aload_n 0, 1) := dk_42 (dk_at dksX0_bytes_0 7 rfl rfl)
theorem dX0_bytes_8 : decode cX0_bytes 8 = .ok (.getfield 28, 3) := dk_180 0 28 (dk_at dksX0_bytes_0 8 rfl rfl)
theorem dX0_bytes_11 : decode cX0_bytes 11 = .ok (.aload_n 0, 1) := dk_42 (dk_at dksX0_bytes_0 11 rfl rfl)
theorem dX0_bytes_12 : decode cX0_bytes 12 = .ok (.getfield 101, 3) := dk_180 0 101 (dk_at dksX0_bytes_0 12 rfl rfl)
theorem dX0_bytes_15 : decode cX0_bytes 15 = .ok (.iload_n 1, 1) := dk_27 (dk_at dksX0_bytes_0 15 rfl rfl)
theorem dX0_bytes_16 : decode cX0_bytes 16 = .ok (.iload_n 2, 1) := dk_28 (dk_at dksX0_bytes_0 16 rfl rfl)
theorem dX0_bytes_17 : decode cX0_bytes 17 = .ok (.ishr, 1) := dk_122 (dk_at dksX0_bytes_0 17 rfl rfl)
theorem dX0_bytes_18 : decode cX0_bytes 18 = .ok (.i2b, 1) := dk_145 (dk_at dksX0_bytes_0 18 rfl rfl)
theorem dX0_bytes_19 : decode cX0_bytes 19 = .ok (.bastore, 1) := dk_84 (dk_at dksX0_bytes_0 19 rfl rfl)
theorem dX0_bytes_20 : decode cX0_bytes 20 = .ok (.aload_n 0, 1) := dk_42 (dk_at dksX0_bytes_0 20 rfl rfl)
theorem dX0_bytes_21 : decode cX0_bytes 21 = .ok (.dup, 1) := dk_89 (dk_at dksX0_bytes_0 21 rfl rfl)
theorem dX0_bytes_22 : decode cX0_bytes 22 = .ok (.getfield 101, 3) := dk_180 0 101 (dk_at dksX0_bytes_1 0 rfl rfl)
theorem dX0_bytes_25 : decode cX0_bytes 25 = .ok (.iconst 1, 1) := dk_4 (dk_at dksX0_bytes_1 3 rfl rfl)
theorem dX0_bytes_26 : decode cX0_bytes 26 = .ok (.iadd, 1) := dk_96 (dk_at dksX0_bytes_1 4 rfl rfl)
theorem dX0_bytes_27 : decode cX0_bytes 27 = .ok (.putfield 101, 3) := dk_181 0 101 (dk_at dksX0_bytes_1 5 rfl rfl)
theorem dX0_bytes_30 : decode cX0_bytes 30 = .ok (.iinc 2 (-8), 3) := dk_132 2 248 (dk_at dksX0_bytes_1 8 rfl rfl)
theorem dX0_bytes_33 : decode cX0_bytes 33 = .ok (.goto (-30), 3) := dk_167 255 226 (dk_at dksX0_bytes_1 11 rfl rfl)
theorem dX0_bytes_36 : decode cX0_bytes 36 = .ok (.return_, 1) := dk_177 (dk_at dksX0_bytes_1 14 rfl rfl)
abbrev cX0_tower : ByteArray := prog_1_method_6_code
def yX0_tower : MethodName := ⟨RX0, "tower", "(I)I"⟩
def dkwX0_tower_4 : List UInt8 := [180, 0, 135, 172]
abbrev dktX0_tower_4 : List UInt8 := dkwX0_tower_4 ++ []
def dkwX0_tower_3 : List UInt8 := [180, 0, 129, 181, 0, 12, 42, 180, 0, 21, 182, 0, 97, 87, 42, 3, 181, 0, 132, 42, 180, 0, 12]
abbrev dktX0_tower_3 : List UInt8 := dkwX0_tower_3 ++ dktX0_tower_4
def dkwX0_tower_2 : List UInt8 := [180, 0, 126, 181, 0, 32, 42, 180, 0, 123, 153, 0, 11, 16, 226, 42, 180, 0, 123, 100, 172, 42, 44]
abbrev dktX0_tower_2 : List UInt8 := dkwX0_tower_2 ++ dktX0_tower_3
def dkwX0_tower_1 : List UInt8 := [183, 0, 114, 77, 44, 182, 0, 117, 42, 3, 181, 0, 101, 42, 44, 180, 0, 120, 181, 0, 123, 42, 44]
abbrev dktX0_tower_1 : List UInt8 := dkwX0_tower_1 ++ dktX0_tower_2
def dkwX0_tower_0 : List UInt8 := [27, 133, 9, 42, 180, 0, 101, 133, 184, 0, 108, 154, 0, 6, 16, 253, 172, 187, 0, 112, 89, 42, 27]
abbrev dktX0_tower_0 : List UInt8 := dkwX0_tower_0 ++ dktX0_tower_1
theorem dksX0_tower_0 : cX0_tower.data.toList.drop 0 = dktX0_tower_0 := by decide +kernel
theorem dksX0_tower_1 : cX0_tower.data.toList.drop 23 = dktX0_tower_1 := dk_seg dksX0_tower_0 23 rfl rfl
theorem dksX0_tower_2 : cX0_tower.data.toList.drop 46 = dktX0_tower_2 := dk_seg dksX0_tower_1 23 rfl rfl
theorem dksX0_tower_3 : cX0_tower.data.toList.drop 69 = dktX0_tower_3 := dk_seg dksX0_tower_2 23 rfl rfl
theorem dksX0_tower_4 : cX0_tower.data.toList.drop 92 = dktX0_tower_4 := dk_seg dksX0_tower_3 23 rfl rfl
theorem dX0_tower_0 : decode cX0_tower 0 = .ok (.iload_n 1, 1) := dk_27 (dk_at dksX0_tower_0 0 rfl rfl)
theorem dX0_tower_1 : decode cX0_tower 1 = .ok (.i2l, 1) := dk_133 (dk_at dksX0_tower_0 1 rfl rfl)
theorem dX0_tower_2 : decode cX0_tower 2 = .ok (.lconst 0, 1) := dk_9 (dk_at dksX0_tower_0 2 rfl rfl)
theorem dX0_tower_3 : decode cX0_tower 3 = .ok (.aload_n 0, 1) := dk_42 (dk_at dksX0_tower_0 3 rfl rfl)
theorem dX0_tower_4 : decode cX0_tower 4 = .ok (.getfield 101, 3) := dk_180 0 101 (dk_at dksX0_tower_0 4 rfl rfl)
theorem dX0_tower_7 : decode cX0_tower 7 = .ok (.i2l, 1) := dk_133 (dk_at dksX0_tower_0 7 rfl rfl)
theorem dX0_tower_8 : decode cX0_tower 8 = .ok (.invokestatic 108, 3) := dk_184 0 108 (dk_at dksX0_tower_0 8 rfl rfl)
theorem dX0_tower_11 : decode cX0_tower 11 = .ok (.ifCond .ne 6, 3) := dk_154 0 6 (dk_at dksX0_tower_0 11 rfl rfl)
theorem dX0_tower_14 : decode cX0_tower 14 = .ok (.bipush (-3), 2) := dk_16 253 (dk_at dksX0_tower_0 14 rfl rfl)
theorem dX0_tower_16 : decode cX0_tower 16 = .ok (.ireturn, 1) := dk_172 (dk_at dksX0_tower_0 16 rfl rfl)
theorem dX0_tower_17 : decode cX0_tower 17 = .ok (.new 112, 3) := dk_187 0 112 (dk_at dksX0_tower_0 17 rfl rfl)
theorem dX0_tower_20 : decode cX0_tower 20 = .ok (.dup, 1) := dk_89 (dk_at dksX0_tower_0 20 rfl rfl)
theorem dX0_tower_21 : decode cX0_tower 21 = .ok (.aload_n 0, 1) := dk_42 (dk_at dksX0_tower_0 21 rfl rfl)
theorem dX0_tower_22 : decode cX0_tower 22 = .ok (.iload_n 1, 1) := dk_27 (dk_at dksX0_tower_0 22 rfl rfl)
theorem dX0_tower_23 : decode cX0_tower 23 = .ok (.invokespecial 114, 3) := dk_183 0 114 (dk_at dksX0_tower_1 0 rfl rfl)
theorem dX0_tower_26 : decode cX0_tower 26 = .ok (.astore_n 2, 1) := dk_77 (dk_at dksX0_tower_1 3 rfl rfl)
theorem dX0_tower_27 : decode cX0_tower 27 = .ok (.aload_n 2, 1) := dk_44 (dk_at dksX0_tower_1 4 rfl rfl)
theorem dX0_tower_28 : decode cX0_tower 28 = .ok (.invokevirtual 117, 3) := dk_182 0 117 (dk_at dksX0_tower_1 5 rfl rfl)
theorem dX0_tower_31 : decode cX0_tower 31 = .ok (.aload_n 0, 1) := dk_42 (dk_at dksX0_tower_1 8 rfl rfl)
theorem dX0_tower_32 : decode cX0_tower 32 = .ok (.iconst 0, 1) := dk_3 (dk_at dksX0_tower_1 9 rfl rfl)
theorem dX0_tower_33 : decode cX0_tower 33 = .ok (.putfield 101, 3) := dk_181 0 101 (dk_at dksX0_tower_1 10 rfl rfl)
theorem dX0_tower_36 : decode cX0_tower 36 = .ok (.aload_n 0, 1) := dk_42 (dk_at dksX0_tower_1 13 rfl rfl)
theorem dX0_tower_37 : decode cX0_tower 37 = .ok (.aload_n 2, 1) := dk_44 (dk_at dksX0_tower_1 14 rfl rfl)
theorem dX0_tower_38 : decode cX0_tower 38 = .ok (.getfield 120, 3) := dk_180 0 120 (dk_at dksX0_tower_1 15 rfl rfl)
theorem dX0_tower_41 : decode cX0_tower 41 = .ok (.putfield 123, 3) := dk_181 0 123 (dk_at dksX0_tower_1 18 rfl rfl)
theorem dX0_tower_44 : decode cX0_tower 44 = .ok (.aload_n 0, 1) := dk_42 (dk_at dksX0_tower_1 21 rfl rfl)
theorem dX0_tower_45 : decode cX0_tower 45 = .ok (.aload_n 2, 1) := dk_44 (dk_at dksX0_tower_1 22 rfl rfl)
theorem dX0_tower_46 : decode cX0_tower 46 = .ok (.getfield 126, 3) := dk_180 0 126 (dk_at dksX0_tower_2 0 rfl rfl)
theorem dX0_tower_49 : decode cX0_tower 49 = .ok (.putfield 32, 3) := dk_181 0 32 (dk_at dksX0_tower_2 3 rfl rfl)
theorem dX0_tower_52 : decode cX0_tower 52 = .ok (.aload_n 0, 1) := dk_42 (dk_at dksX0_tower_2 6 rfl rfl)
theorem dX0_tower_53 : decode cX0_tower 53 = .ok (.getfield 123, 3) := dk_180 0 123 (dk_at dksX0_tower_2 7 rfl rfl)
theorem dX0_tower_56 : decode cX0_tower 56 = .ok (.ifCond .eq 11, 3) := dk_153 0 11 (dk_at dksX0_tower_2 10 rfl rfl)
theorem dX0_tower_59 : decode cX0_tower 59 = .ok (.bipush (-30), 2) := dk_16 226 (dk_at dksX0_tower_2 13 rfl rfl)
theorem dX0_tower_61 : decode cX0_tower 61 = .ok (.aload_n 0, 1) := dk_42 (dk_at dksX0_tower_2 15 rfl rfl)
theorem dX0_tower_62 : decode cX0_tower 62 = .ok (.getfield 123, 3) := dk_180 0 123 (dk_at dksX0_tower_2 16 rfl rfl)
theorem dX0_tower_65 : decode cX0_tower 65 = .ok (.isub, 1) := dk_100 (dk_at dksX0_tower_2 19 rfl rfl)
theorem dX0_tower_66 : decode cX0_tower 66 = .ok (.ireturn, 1) := dk_172 (dk_at dksX0_tower_2 20 rfl rfl)
theorem dX0_tower_67 : decode cX0_tower 67 = .ok (.aload_n 0, 1) := dk_42 (dk_at dksX0_tower_2 21 rfl rfl)
theorem dX0_tower_68 : decode cX0_tower 68 = .ok (.aload_n 2, 1) := dk_44 (dk_at dksX0_tower_2 22 rfl rfl)
theorem dX0_tower_69 : decode cX0_tower 69 = .ok (.getfield 129, 3) := dk_180 0 129 (dk_at dksX0_tower_3 0 rfl rfl)
theorem dX0_tower_72 : decode cX0_tower 72 = .ok (.putfield 12, 3) := dk_181 0 12 (dk_at dksX0_tower_3 3 rfl rfl)
theorem dX0_tower_75 : decode cX0_tower 75 = .ok (.aload_n 0, 1) := dk_42 (dk_at dksX0_tower_3 6 rfl rfl)
theorem dX0_tower_76 : decode cX0_tower 76 = .ok (.getfield 21, 3) := dk_180 0 21 (dk_at dksX0_tower_3 7 rfl rfl)
theorem dX0_tower_79 : decode cX0_tower 79 = .ok (.invokevirtual 97, 3) := dk_182 0 97 (dk_at dksX0_tower_3 10 rfl rfl)
theorem dX0_tower_82 : decode cX0_tower 82 = .ok (.pop, 1) := dk_87 (dk_at dksX0_tower_3 13 rfl rfl)
theorem dX0_tower_83 : decode cX0_tower 83 = .ok (.aload_n 0, 1) := dk_42 (dk_at dksX0_tower_3 14 rfl rfl)
theorem dX0_tower_84 : decode cX0_tower 84 = .ok (.iconst 0, 1) := dk_3 (dk_at dksX0_tower_3 15 rfl rfl)
theorem dX0_tower_85 : decode cX0_tower 85 = .ok (.putfield 132, 3) := dk_181 0 132 (dk_at dksX0_tower_3 16 rfl rfl)
theorem dX0_tower_88 : decode cX0_tower 88 = .ok (.aload_n 0, 1) := dk_42 (dk_at dksX0_tower_3 19 rfl rfl)
theorem dX0_tower_89 : decode cX0_tower 89 = .ok (.getfield 12, 3) := dk_180 0 12 (dk_at dksX0_tower_3 20 rfl rfl)
theorem dX0_tower_92 : decode cX0_tower 92 = .ok (.getfield 135, 3) := dk_180 0 135 (dk_at dksX0_tower_4 0 rfl rfl)
theorem dX0_tower_95 : decode cX0_tower 95 = .ok (.ireturn, 1) := dk_172 (dk_at dksX0_tower_4 3 rfl rfl)
abbrev cX0_in : ByteArray := prog_1_method_1_code
def yX0_in : MethodName := ⟨RX0, "in", "(JJJ)Z"⟩
def dkwX0_in_0 : List UInt8 := [30, 32, 148, 155, 0, 14, 30, 22, 4, 148, 157, 0, 7, 4, 167, 0, 4, 3, 172]
abbrev dktX0_in_0 : List UInt8 := dkwX0_in_0 ++ []
theorem dksX0_in_0 : cX0_in.data.toList.drop 0 = dktX0_in_0 := by decide +kernel
theorem dX0_in_0 : decode cX0_in 0 = .ok (.lload_n 0, 1) := dk_30 (dk_at dksX0_in_0 0 rfl rfl)
theorem dX0_in_1 : decode cX0_in 1 = .ok (.lload_n 2, 1) := dk_32 (dk_at dksX0_in_0 1 rfl rfl)
theorem dX0_in_2 : decode cX0_in 2 = .ok (.lcmp, 1) := dk_148 (dk_at dksX0_in_0 2 rfl rfl)
theorem dX0_in_3 : decode cX0_in 3 = .ok (.ifCond .lt 14, 3) := dk_155 0 14 (dk_at dksX0_in_0 3 rfl rfl)
theorem dX0_in_6 : decode cX0_in 6 = .ok (.lload_n 0, 1) := dk_30 (dk_at dksX0_in_0 6 rfl rfl)
theorem dX0_in_7 : decode cX0_in 7 = .ok (.lload 4, 2) := dk_22 4 (dk_at dksX0_in_0 7 rfl rfl)
theorem dX0_in_9 : decode cX0_in 9 = .ok (.lcmp, 1) := dk_148 (dk_at dksX0_in_0 9 rfl rfl)
theorem dX0_in_10 : decode cX0_in 10 = .ok (.ifCond .gt 7, 3) := dk_157 0 7 (dk_at dksX0_in_0 10 rfl rfl)
theorem dX0_in_13 : decode cX0_in 13 = .ok (.iconst 1, 1) := dk_4 (dk_at dksX0_in_0 13 rfl rfl)
theorem dX0_in_14 : decode cX0_in 14 = .ok (.goto 4, 3) := dk_167 0 4 (dk_at dksX0_in_0 14 rfl rfl)
theorem dX0_in_17 : decode cX0_in 17 = .ok (.iconst 0, 1) := dk_3 (dk_at dksX0_in_0 17 rfl rfl)
theorem dX0_in_18 : decode cX0_in 18 = .ok (.ireturn, 1) := dk_172 (dk_at dksX0_in_0 18 rfl rfl)
abbrev cX0_fault : ByteArray := prog_1_method_7_code
def yX0_fault : MethodName := ⟨RX0, "fault", "(I)I"⟩
def dkwX0_fault_1 : List UInt8 := [172]
abbrev dktX0_fault_1 : List UInt8 := dkwX0_fault_1 ++ []
def dkwX0_fault_0 : List UInt8 := [27, 154, 0, 10, 42, 180, 0, 123, 167, 0, 16, 27, 4, 160, 0, 10, 42, 180, 0, 32, 167, 0, 4, 2]
abbrev dktX0_fault_0 : List UInt8 := dkwX0_fault_0 ++ dktX0_fault_1
theorem dksX0_fault_0 : cX0_fault.data.toList.drop 0 = dktX0_fault_0 := by decide +kernel
theorem dksX0_fault_1 : cX0_fault.data.toList.drop 24 = dktX0_fault_1 := dk_seg dksX0_fault_0 24 rfl rfl
theorem dX0_fault_0 : decode cX0_fault 0 = .ok (.iload_n 1, 1) := dk_27 (dk_at dksX0_fault_0 0 rfl rfl)
theorem dX0_fault_1 : decode cX0_fault 1 = .ok (.ifCond .ne 10, 3) := dk_154 0 10 (dk_at dksX0_fault_0 1 rfl rfl)
theorem dX0_fault_4 : decode cX0_fault 4 = .ok (.aload_n 0, 1) := dk_42 (dk_at dksX0_fault_0 4 rfl rfl)
theorem dX0_fault_5 : decode cX0_fault 5 = .ok (.getfield 123, 3) := dk_180 0 123 (dk_at dksX0_fault_0 5 rfl rfl)
theorem dX0_fault_8 : decode cX0_fault 8 = .ok (.goto 16, 3) := dk_167 0 16 (dk_at dksX0_fault_0 8 rfl rfl)
theorem dX0_fault_11 : decode cX0_fault 11 = .ok (.iload_n 1, 1) := dk_27 (dk_at dksX0_fault_0 11 rfl rfl)
theorem dX0_fault_12 : decode cX0_fault 12 = .ok (.iconst 1, 1) := dk_4 (dk_at dksX0_fault_0 12 rfl rfl)
theorem dX0_fault_13 : decode cX0_fault 13 = .ok (.if_icmp .ne 10, 3) := dk_160 0 10 (dk_at dksX0_fault_0 13 rfl rfl)
theorem dX0_fault_16 : decode cX0_fault 16 = .ok (.aload_n 0, 1) := dk_42 (dk_at dksX0_fault_0 16 rfl rfl)
theorem dX0_fault_17 : decode cX0_fault 17 = .ok (.getfield 32, 3) := dk_180 0 32 (dk_at dksX0_fault_0 17 rfl rfl)
theorem dX0_fault_20 : decode cX0_fault 20 = .ok (.goto 4, 3) := dk_167 0 4 (dk_at dksX0_fault_0 20 rfl rfl)
theorem dX0_fault_23 : decode cX0_fault 23 = .ok (.iconst (-1), 1) := dk_2 (dk_at dksX0_fault_0 23 rfl rfl)
theorem dX0_fault_24 : decode cX0_fault 24 = .ok (.ireturn, 1) := dk_172 (dk_at dksX0_fault_1 0 rfl rfl)
abbrev cX0_storey : ByteArray := prog_1_method_11_code
def yX0_storey : MethodName := ⟨RX0, "storey", "(II)I"⟩
def dkwX0_storey_2 : List UInt8 := [27, 182, 0, 153, 167, 0, 14, 42, 180, 0, 21, 27, 182, 0, 157, 184, 0, 160, 172]
abbrev dktX0_storey_2 : List UInt8 := dkwX0_storey_2 ++ []
def dkwX0_storey_1 : List UInt8 := [154, 0, 15, 42, 180, 0, 21, 180, 0, 150, 27, 46, 167, 0, 30, 28, 4, 160, 0, 14, 42, 180, 0, 21]
abbrev dktX0_storey_1 : List UInt8 := dkwX0_storey_1 ++ dktX0_storey_2
def dkwX0_storey_0 : List UInt8 := [42, 27, 182, 0, 144, 153, 0, 15, 28, 133, 9, 20, 0, 148, 184, 0, 108, 154, 0, 6, 16, 254, 172, 28]
abbrev dktX0_storey_0 : List UInt8 := dkwX0_storey_0 ++ dktX0_storey_1
theorem dksX0_storey_0 : cX0_storey.data.toList.drop 0 = dktX0_storey_0 := by decide +kernel
theorem dksX0_storey_1 : cX0_storey.data.toList.drop 24 = dktX0_storey_1 := dk_seg dksX0_storey_0 24 rfl rfl
theorem dksX0_storey_2 : cX0_storey.data.toList.drop 48 = dktX0_storey_2 := dk_seg dksX0_storey_1 24 rfl rfl
theorem dX0_storey_0 : decode cX0_storey 0 = .ok (.aload_n 0, 1) := dk_42 (dk_at dksX0_storey_0 0 rfl rfl)
theorem dX0_storey_1 : decode cX0_storey 1 = .ok (.iload_n 1, 1) := dk_27 (dk_at dksX0_storey_0 1 rfl rfl)
theorem dX0_storey_2 : decode cX0_storey 2 = .ok (.invokevirtual 144, 3) := dk_182 0 144 (dk_at dksX0_storey_0 2 rfl rfl)
theorem dX0_storey_5 : decode cX0_storey 5 = .ok (.ifCond .eq 15, 3) := dk_153 0 15 (dk_at dksX0_storey_0 5 rfl rfl)
theorem dX0_storey_8 : decode cX0_storey 8 = .ok (.iload_n 2, 1) := dk_28 (dk_at dksX0_storey_0 8 rfl rfl)
theorem dX0_storey_9 : decode cX0_storey 9 = .ok (.i2l, 1) := dk_133 (dk_at dksX0_storey_0 9 rfl rfl)
theorem dX0_storey_10 : decode cX0_storey 10 = .ok (.lconst 0, 1) := dk_9 (dk_at dksX0_storey_0 10 rfl rfl)
theorem dX0_storey_11 : decode cX0_storey 11 = .ok (.ldc2_w 148, 3) := dk_20 0 148 (dk_at dksX0_storey_0 11 rfl rfl)
theorem dX0_storey_14 : decode cX0_storey 14 = .ok (.invokestatic 108, 3) := dk_184 0 108 (dk_at dksX0_storey_0 14 rfl rfl)
theorem dX0_storey_17 : decode cX0_storey 17 = .ok (.ifCond .ne 6, 3) := dk_154 0 6 (dk_at dksX0_storey_0 17 rfl rfl)
theorem dX0_storey_20 : decode cX0_storey 20 = .ok (.bipush (-2), 2) := dk_16 254 (dk_at dksX0_storey_0 20 rfl rfl)
theorem dX0_storey_22 : decode cX0_storey 22 = .ok (.ireturn, 1) := dk_172 (dk_at dksX0_storey_0 22 rfl rfl)
theorem dX0_storey_23 : decode cX0_storey 23 = .ok (.iload_n 2, 1) := dk_28 (dk_at dksX0_storey_0 23 rfl rfl)
theorem dX0_storey_24 : decode cX0_storey 24 = .ok (.ifCond .ne 15, 3) := dk_154 0 15 (dk_at dksX0_storey_1 0 rfl rfl)
theorem dX0_storey_27 : decode cX0_storey 27 = .ok (.aload_n 0, 1) := dk_42 (dk_at dksX0_storey_1 3 rfl rfl)
theorem dX0_storey_28 : decode cX0_storey 28 = .ok (.getfield 21, 3) := dk_180 0 21 (dk_at dksX0_storey_1 4 rfl rfl)
theorem dX0_storey_31 : decode cX0_storey 31 = .ok (.getfield 150, 3) := dk_180 0 150 (dk_at dksX0_storey_1 7 rfl rfl)
theorem dX0_storey_34 : decode cX0_storey 34 = .ok (.iload_n 1, 1) := dk_27 (dk_at dksX0_storey_1 10 rfl rfl)
theorem dX0_storey_35 : decode cX0_storey 35 = .ok (.iaload, 1) := dk_46 (dk_at dksX0_storey_1 11 rfl rfl)
theorem dX0_storey_36 : decode cX0_storey 36 = .ok (.goto 30, 3) := dk_167 0 30 (dk_at dksX0_storey_1 12 rfl rfl)
theorem dX0_storey_39 : decode cX0_storey 39 = .ok (.iload_n 2, 1) := dk_28 (dk_at dksX0_storey_1 15 rfl rfl)
theorem dX0_storey_40 : decode cX0_storey 40 = .ok (.iconst 1, 1) := dk_4 (dk_at dksX0_storey_1 16 rfl rfl)
theorem dX0_storey_41 : decode cX0_storey 41 = .ok (.if_icmp .ne 14, 3) := dk_160 0 14 (dk_at dksX0_storey_1 17 rfl rfl)
theorem dX0_storey_44 : decode cX0_storey 44 = .ok (.aload_n 0, 1) := dk_42 (dk_at dksX0_storey_1 20 rfl rfl)
theorem dX0_storey_45 : decode cX0_storey 45 = .ok (.getfield 21, 3) := dk_180 0 21 (dk_at dksX0_storey_1 21 rfl rfl)
theorem dX0_storey_48 : decode cX0_storey 48 = .ok (.iload_n 1, 1) := dk_27 (dk_at dksX0_storey_2 0 rfl rfl)
theorem dX0_storey_49 : decode cX0_storey 49 = .ok (.invokevirtual 153, 3) := dk_182 0 153 (dk_at dksX0_storey_2 1 rfl rfl)
theorem dX0_storey_52 : decode cX0_storey 52 = .ok (.goto 14, 3) := dk_167 0 14 (dk_at dksX0_storey_2 4 rfl rfl)
theorem dX0_storey_55 : decode cX0_storey 55 = .ok (.aload_n 0, 1) := dk_42 (dk_at dksX0_storey_2 7 rfl rfl)
theorem dX0_storey_56 : decode cX0_storey 56 = .ok (.getfield 21, 3) := dk_180 0 21 (dk_at dksX0_storey_2 8 rfl rfl)
theorem dX0_storey_59 : decode cX0_storey 59 = .ok (.iload_n 1, 1) := dk_27 (dk_at dksX0_storey_2 11 rfl rfl)
theorem dX0_storey_60 : decode cX0_storey 60 = .ok (.invokevirtual 157, 3) := dk_182 0 157 (dk_at dksX0_storey_2 12 rfl rfl)
theorem dX0_storey_63 : decode cX0_storey 63 = .ok (.invokestatic 160, 3) := dk_184 0 160 (dk_at dksX0_storey_2 15 rfl rfl)
theorem dX0_storey_66 : decode cX0_storey 66 = .ok (.ireturn, 1) := dk_172 (dk_at dksX0_storey_2 18 rfl rfl)
abbrev cX0_isStorey : ByteArray := prog_1_method_8_code
def yX0_isStorey : MethodName := ⟨RX0, "isStorey", "(I)Z"⟩
def dkwX0_isStorey_0 : List UInt8 := [27, 133, 9, 42, 180, 0, 21, 180, 0, 138, 4, 100, 133, 184, 0, 108, 172]
abbrev dktX0_isStorey_0 : List UInt8 := dkwX0_isStorey_0 ++ []
theorem dksX0_isStorey_0 : cX0_isStorey.data.toList.drop 0 = dktX0_isStorey_0 := by decide +kernel
theorem dX0_isStorey_0 : decode cX0_isStorey 0 = .ok (.iload_n 1, 1) := dk_27 (dk_at dksX0_isStorey_0 0 rfl rfl)
theorem dX0_isStorey_1 : decode cX0_isStorey 1 = .ok (.i2l, 1) := dk_133 (dk_at dksX0_isStorey_0 1 rfl rfl)
theorem dX0_isStorey_2 : decode cX0_isStorey 2 = .ok (.lconst 0, 1) := dk_9 (dk_at dksX0_isStorey_0 2 rfl rfl)
theorem dX0_isStorey_3 : decode cX0_isStorey 3 = .ok (.aload_n 0, 1) := dk_42 (dk_at dksX0_isStorey_0 3 rfl rfl)
theorem dX0_isStorey_4 : decode cX0_isStorey 4 = .ok (.getfield 21, 3) := dk_180 0 21 (dk_at dksX0_isStorey_0 4 rfl rfl)
theorem dX0_isStorey_7 : decode cX0_isStorey 7 = .ok (.getfield 138, 3) := dk_180 0 138 (dk_at dksX0_isStorey_0 7 rfl rfl)
theorem dX0_isStorey_10 : decode cX0_isStorey 10 = .ok (.iconst 1, 1) := dk_4 (dk_at dksX0_isStorey_0 10 rfl rfl)
theorem dX0_isStorey_11 : decode cX0_isStorey 11 = .ok (.isub, 1) := dk_100 (dk_at dksX0_isStorey_0 11 rfl rfl)
theorem dX0_isStorey_12 : decode cX0_isStorey 12 = .ok (.i2l, 1) := dk_133 (dk_at dksX0_isStorey_0 12 rfl rfl)
theorem dX0_isStorey_13 : decode cX0_isStorey 13 = .ok (.invokestatic 108, 3) := dk_184 0 108 (dk_at dksX0_isStorey_0 13 rfl rfl)
theorem dX0_isStorey_16 : decode cX0_isStorey 16 = .ok (.ireturn, 1) := dk_172 (dk_at dksX0_isStorey_0 16 rfl rfl)
abbrev cX0_one : ByteArray := prog_1_method_10_code
def yX0_one : MethodName := ⟨RX0, "one", "(Z)I"⟩
def dkwX0_one_0 : List UInt8 := [26, 153, 0, 7, 4, 167, 0, 4, 3, 172]
abbrev dktX0_one_0 : List UInt8 := dkwX0_one_0 ++ []
theorem dksX0_one_0 : cX0_one.data.toList.drop 0 = dktX0_one_0 := by decide +kernel
theorem dX0_one_0 : decode cX0_one 0 = .ok (.iload_n 0, 1) := dk_26 (dk_at dksX0_one_0 0 rfl rfl)
theorem dX0_one_1 : decode cX0_one 1 = .ok (.ifCond .eq 7, 3) := dk_153 0 7 (dk_at dksX0_one_0 1 rfl rfl)
theorem dX0_one_4 : decode cX0_one 4 = .ok (.iconst 1, 1) := dk_4 (dk_at dksX0_one_0 4 rfl rfl)
theorem dX0_one_5 : decode cX0_one 5 = .ok (.goto 4, 3) := dk_167 0 4 (dk_at dksX0_one_0 5 rfl rfl)
theorem dX0_one_8 : decode cX0_one 8 = .ok (.iconst 0, 1) := dk_3 (dk_at dksX0_one_0 8 rfl rfl)
theorem dX0_one_9 : decode cX0_one 9 = .ok (.ireturn, 1) := dk_172 (dk_at dksX0_one_0 9 rfl rfl)
abbrev cX0_tenant : ByteArray := prog_1_method_12_code
def yX0_tenant : MethodName := ⟨RX0, "tenant", "(II)I"⟩
def dkwX0_tenant_2 : List UInt8 := [180, 0, 170, 27, 46, 167, 0, 12, 42, 180, 0, 21, 180, 0, 173, 27, 46, 172]
abbrev dktX0_tenant_2 : List UInt8 := dkwX0_tenant_2 ++ []
def dkwX0_tenant_1 : List UInt8 := [154, 0, 15, 42, 180, 0, 21, 180, 0, 167, 27, 46, 167, 0, 29, 28, 4, 160, 0, 15, 42, 180, 0, 12]
abbrev dktX0_tenant_1 : List UInt8 := dkwX0_tenant_1 ++ dktX0_tenant_2
def dkwX0_tenant_0 : List UInt8 := [42, 27, 182, 0, 164, 153, 0, 15, 28, 133, 9, 20, 0, 148, 184, 0, 108, 154, 0, 6, 16, 248, 172, 28]
abbrev dktX0_tenant_0 : List UInt8 := dkwX0_tenant_0 ++ dktX0_tenant_1
theorem dksX0_tenant_0 : cX0_tenant.data.toList.drop 0 = dktX0_tenant_0 := by decide +kernel
theorem dksX0_tenant_1 : cX0_tenant.data.toList.drop 24 = dktX0_tenant_1 := dk_seg dksX0_tenant_0 24 rfl rfl
theorem dksX0_tenant_2 : cX0_tenant.data.toList.drop 48 = dktX0_tenant_2 := dk_seg dksX0_tenant_1 24 rfl rfl
theorem dX0_tenant_0 : decode cX0_tenant 0 = .ok (.aload_n 0, 1) := dk_42 (dk_at dksX0_tenant_0 0 rfl rfl)
theorem dX0_tenant_1 : decode cX0_tenant 1 = .ok (.iload_n 1, 1) := dk_27 (dk_at dksX0_tenant_0 1 rfl rfl)
theorem dX0_tenant_2 : decode cX0_tenant 2 = .ok (.invokevirtual 164, 3) := dk_182 0 164 (dk_at dksX0_tenant_0 2 rfl rfl)
theorem dX0_tenant_5 : decode cX0_tenant 5 = .ok (.ifCond .eq 15, 3) := dk_153 0 15 (dk_at dksX0_tenant_0 5 rfl rfl)
theorem dX0_tenant_8 : decode cX0_tenant 8 = .ok (.iload_n 2, 1) := dk_28 (dk_at dksX0_tenant_0 8 rfl rfl)
theorem dX0_tenant_9 : decode cX0_tenant 9 = .ok (.i2l, 1) := dk_133 (dk_at dksX0_tenant_0 9 rfl rfl)
theorem dX0_tenant_10 : decode cX0_tenant 10 = .ok (.lconst 0, 1) := dk_9 (dk_at dksX0_tenant_0 10 rfl rfl)
theorem dX0_tenant_11 : decode cX0_tenant 11 = .ok (.ldc2_w 148, 3) := dk_20 0 148 (dk_at dksX0_tenant_0 11 rfl rfl)
theorem dX0_tenant_14 : decode cX0_tenant 14 = .ok (.invokestatic 108, 3) := dk_184 0 108 (dk_at dksX0_tenant_0 14 rfl rfl)
theorem dX0_tenant_17 : decode cX0_tenant 17 = .ok (.ifCond .ne 6, 3) := dk_154 0 6 (dk_at dksX0_tenant_0 17 rfl rfl)
theorem dX0_tenant_20 : decode cX0_tenant 20 = .ok (.bipush (-8), 2) := dk_16 248 (dk_at dksX0_tenant_0 20 rfl rfl)
theorem dX0_tenant_22 : decode cX0_tenant 22 = .ok (.ireturn, 1) := dk_172 (dk_at dksX0_tenant_0 22 rfl rfl)
theorem dX0_tenant_23 : decode cX0_tenant 23 = .ok (.iload_n 2, 1) := dk_28 (dk_at dksX0_tenant_0 23 rfl rfl)
theorem dX0_tenant_24 : decode cX0_tenant 24 = .ok (.ifCond .ne 15, 3) := dk_154 0 15 (dk_at dksX0_tenant_1 0 rfl rfl)
theorem dX0_tenant_27 : decode cX0_tenant 27 = .ok (.aload_n 0, 1) := dk_42 (dk_at dksX0_tenant_1 3 rfl rfl)
theorem dX0_tenant_28 : decode cX0_tenant 28 = .ok (.getfield 21, 3) := dk_180 0 21 (dk_at dksX0_tenant_1 4 rfl rfl)
theorem dX0_tenant_31 : decode cX0_tenant 31 = .ok (.getfield 167, 3) := dk_180 0 167 (dk_at dksX0_tenant_1 7 rfl rfl)
theorem dX0_tenant_34 : decode cX0_tenant 34 = .ok (.iload_n 1, 1) := dk_27 (dk_at dksX0_tenant_1 10 rfl rfl)
theorem dX0_tenant_35 : decode cX0_tenant 35 = .ok (.iaload, 1) := dk_46 (dk_at dksX0_tenant_1 11 rfl rfl)
theorem dX0_tenant_36 : decode cX0_tenant 36 = .ok (.goto 29, 3) := dk_167 0 29 (dk_at dksX0_tenant_1 12 rfl rfl)
theorem dX0_tenant_39 : decode cX0_tenant 39 = .ok (.iload_n 2, 1) := dk_28 (dk_at dksX0_tenant_1 15 rfl rfl)
theorem dX0_tenant_40 : decode cX0_tenant 40 = .ok (.iconst 1, 1) := dk_4 (dk_at dksX0_tenant_1 16 rfl rfl)
theorem dX0_tenant_41 : decode cX0_tenant 41 = .ok (.if_icmp .ne 15, 3) := dk_160 0 15 (dk_at dksX0_tenant_1 17 rfl rfl)
theorem dX0_tenant_44 : decode cX0_tenant 44 = .ok (.aload_n 0, 1) := dk_42 (dk_at dksX0_tenant_1 20 rfl rfl)
theorem dX0_tenant_45 : decode cX0_tenant 45 = .ok (.getfield 12, 3) := dk_180 0 12 (dk_at dksX0_tenant_1 21 rfl rfl)
theorem dX0_tenant_48 : decode cX0_tenant 48 = .ok (.getfield 170, 3) := dk_180 0 170 (dk_at dksX0_tenant_2 0 rfl rfl)
theorem dX0_tenant_51 : decode cX0_tenant 51 = .ok (.iload_n 1, 1) := dk_27 (dk_at dksX0_tenant_2 3 rfl rfl)
theorem dX0_tenant_52 : decode cX0_tenant 52 = .ok (.iaload, 1) := dk_46 (dk_at dksX0_tenant_2 4 rfl rfl)
theorem dX0_tenant_53 : decode cX0_tenant 53 = .ok (.goto 12, 3) := dk_167 0 12 (dk_at dksX0_tenant_2 5 rfl rfl)
theorem dX0_tenant_56 : decode cX0_tenant 56 = .ok (.aload_n 0, 1) := dk_42 (dk_at dksX0_tenant_2 8 rfl rfl)
theorem dX0_tenant_57 : decode cX0_tenant 57 = .ok (.getfield 21, 3) := dk_180 0 21 (dk_at dksX0_tenant_2 9 rfl rfl)
theorem dX0_tenant_60 : decode cX0_tenant 60 = .ok (.getfield 173, 3) := dk_180 0 173 (dk_at dksX0_tenant_2 12 rfl rfl)
theorem dX0_tenant_63 : decode cX0_tenant 63 = .ok (.iload_n 1, 1) := dk_27 (dk_at dksX0_tenant_2 15 rfl rfl)
theorem dX0_tenant_64 : decode cX0_tenant 64 = .ok (.iaload, 1) := dk_46 (dk_at dksX0_tenant_2 16 rfl rfl)
theorem dX0_tenant_65 : decode cX0_tenant 65 = .ok (.ireturn, 1) := dk_172 (dk_at dksX0_tenant_2 17 rfl rfl)
abbrev cX0_isTenant : ByteArray := prog_1_method_9_code
def yX0_isTenant : MethodName := ⟨RX0, "isTenant", "(I)Z"⟩
def dkwX0_isTenant_0 : List UInt8 := [27, 133, 9, 42, 180, 0, 12, 180, 0, 141, 4, 100, 133, 184, 0, 108, 172]
abbrev dktX0_isTenant_0 : List UInt8 := dkwX0_isTenant_0 ++ []
theorem dksX0_isTenant_0 : cX0_isTenant.data.toList.drop 0 = dktX0_isTenant_0 := by decide +kernel
theorem dX0_isTenant_0 : decode cX0_isTenant 0 = .ok (.iload_n 1, 1) := dk_27 (dk_at dksX0_isTenant_0 0 rfl rfl)
theorem dX0_isTenant_1 : decode cX0_isTenant 1 = .ok (.i2l, 1) := dk_133 (dk_at dksX0_isTenant_0 1 rfl rfl)
theorem dX0_isTenant_2 : decode cX0_isTenant 2 = .ok (.lconst 0, 1) := dk_9 (dk_at dksX0_isTenant_0 2 rfl rfl)
theorem dX0_isTenant_3 : decode cX0_isTenant 3 = .ok (.aload_n 0, 1) := dk_42 (dk_at dksX0_isTenant_0 3 rfl rfl)
theorem dX0_isTenant_4 : decode cX0_isTenant 4 = .ok (.getfield 12, 3) := dk_180 0 12 (dk_at dksX0_isTenant_0 4 rfl rfl)
theorem dX0_isTenant_7 : decode cX0_isTenant 7 = .ok (.getfield 141, 3) := dk_180 0 141 (dk_at dksX0_isTenant_0 7 rfl rfl)
theorem dX0_isTenant_10 : decode cX0_isTenant 10 = .ok (.iconst 1, 1) := dk_4 (dk_at dksX0_isTenant_0 10 rfl rfl)
theorem dX0_isTenant_11 : decode cX0_isTenant 11 = .ok (.isub, 1) := dk_100 (dk_at dksX0_isTenant_0 11 rfl rfl)
theorem dX0_isTenant_12 : decode cX0_isTenant 12 = .ok (.i2l, 1) := dk_133 (dk_at dksX0_isTenant_0 12 rfl rfl)
theorem dX0_isTenant_13 : decode cX0_isTenant 13 = .ok (.invokestatic 108, 3) := dk_184 0 108 (dk_at dksX0_isTenant_0 13 rfl rfl)
theorem dX0_isTenant_16 : decode cX0_isTenant 16 = .ok (.ireturn, 1) := dk_172 (dk_at dksX0_isTenant_0 16 rfl rfl)
abbrev cX0_weight : ByteArray := prog_1_method_13_code
def yX0_weight : MethodName := ⟨RX0, "weight", "()I"⟩
def dkwX0_weight_0 : List UInt8 := [42, 180, 0, 21, 182, 0, 176, 172]
abbrev dktX0_weight_0 : List UInt8 := dkwX0_weight_0 ++ []
theorem dksX0_weight_0 : cX0_weight.data.toList.drop 0 = dktX0_weight_0 := by decide +kernel
theorem dX0_weight_0 : decode cX0_weight 0 = .ok (.aload_n 0, 1) := dk_42 (dk_at dksX0_weight_0 0 rfl rfl)
theorem dX0_weight_1 : decode cX0_weight 1 = .ok (.getfield 21, 3) := dk_180 0 21 (dk_at dksX0_weight_0 1 rfl rfl)
theorem dX0_weight_4 : decode cX0_weight 4 = .ok (.invokevirtual 176, 3) := dk_182 0 176 (dk_at dksX0_weight_0 4 rfl rfl)
theorem dX0_weight_7 : decode cX0_weight 7 = .ok (.ireturn, 1) := dk_172 (dk_at dksX0_weight_0 7 rfl rfl)
abbrev cX0_sinks : ByteArray := prog_1_method_14_code
def yX0_sinks : MethodName := ⟨RX0, "sinks", "()I"⟩
def dkwX0_sinks_0 : List UInt8 := [42, 180, 0, 21, 182, 0, 180, 172]
abbrev dktX0_sinks_0 : List UInt8 := dkwX0_sinks_0 ++ []
theorem dksX0_sinks_0 : cX0_sinks.data.toList.drop 0 = dktX0_sinks_0 := by decide +kernel
theorem dX0_sinks_0 : decode cX0_sinks 0 = .ok (.aload_n 0, 1) := dk_42 (dk_at dksX0_sinks_0 0 rfl rfl)
theorem dX0_sinks_1 : decode cX0_sinks 1 = .ok (.getfield 21, 3) := dk_180 0 21 (dk_at dksX0_sinks_0 1 rfl rfl)
theorem dX0_sinks_4 : decode cX0_sinks 4 = .ok (.invokevirtual 180, 3) := dk_182 0 180 (dk_at dksX0_sinks_0 4 rfl rfl)
theorem dX0_sinks_7 : decode cX0_sinks 7 = .ok (.ireturn, 1) := dk_172 (dk_at dksX0_sinks_0 7 rfl rfl)
abbrev cX0_pays : ByteArray := prog_1_method_15_code
def yX0_pays : MethodName := ⟨RX0, "pays", "(I)I"⟩
def dkwX0_pays_0 : List UInt8 := [42, 27, 182, 0, 144, 153, 0, 14, 42, 180, 0, 21, 27, 182, 0, 183, 167, 0, 5, 18, 186, 172]
abbrev dktX0_pays_0 : List UInt8 := dkwX0_pays_0 ++ []
theorem dksX0_pays_0 : cX0_pays.data.toList.drop 0 = dktX0_pays_0 := by decide +kernel
theorem dX0_pays_0 : decode cX0_pays 0 = .ok (.aload_n 0, 1) := dk_42 (dk_at dksX0_pays_0 0 rfl rfl)
theorem dX0_pays_1 : decode cX0_pays 1 = .ok (.iload_n 1, 1) := dk_27 (dk_at dksX0_pays_0 1 rfl rfl)
theorem dX0_pays_2 : decode cX0_pays 2 = .ok (.invokevirtual 144, 3) := dk_182 0 144 (dk_at dksX0_pays_0 2 rfl rfl)
theorem dX0_pays_5 : decode cX0_pays 5 = .ok (.ifCond .eq 14, 3) := dk_153 0 14 (dk_at dksX0_pays_0 5 rfl rfl)
theorem dX0_pays_8 : decode cX0_pays 8 = .ok (.aload_n 0, 1) := dk_42 (dk_at dksX0_pays_0 8 rfl rfl)
theorem dX0_pays_9 : decode cX0_pays 9 = .ok (.getfield 21, 3) := dk_180 0 21 (dk_at dksX0_pays_0 9 rfl rfl)
theorem dX0_pays_12 : decode cX0_pays 12 = .ok (.iload_n 1, 1) := dk_27 (dk_at dksX0_pays_0 12 rfl rfl)
theorem dX0_pays_13 : decode cX0_pays 13 = .ok (.invokevirtual 183, 3) := dk_182 0 183 (dk_at dksX0_pays_0 13 rfl rfl)
theorem dX0_pays_16 : decode cX0_pays 16 = .ok (.goto 5, 3) := dk_167 0 5 (dk_at dksX0_pays_0 16 rfl rfl)
theorem dX0_pays_19 : decode cX0_pays 19 = .ok (.ldc 186, 2) := dk_18 186 (dk_at dksX0_pays_0 19 rfl rfl)
theorem dX0_pays_21 : decode cX0_pays 21 = .ok (.ireturn, 1) := dk_172 (dk_at dksX0_pays_0 21 rfl rfl)
abbrev cX0_worth : ByteArray := prog_1_method_16_code
def yX0_worth : MethodName := ⟨RX0, "worth", "(II)I"⟩
def dkwX0_worth_1 : List UInt8 := [182, 0, 187, 167, 0, 5, 18, 186, 172]
abbrev dktX0_worth_1 : List UInt8 := dkwX0_worth_1 ++ []
def dkwX0_worth_0 : List UInt8 := [42, 27, 182, 0, 164, 153, 0, 23, 42, 28, 182, 0, 144, 153, 0, 15, 42, 180, 0, 21, 27, 28]
abbrev dktX0_worth_0 : List UInt8 := dkwX0_worth_0 ++ dktX0_worth_1
theorem dksX0_worth_0 : cX0_worth.data.toList.drop 0 = dktX0_worth_0 := by decide +kernel
theorem dksX0_worth_1 : cX0_worth.data.toList.drop 22 = dktX0_worth_1 := dk_seg dksX0_worth_0 22 rfl rfl
theorem dX0_worth_0 : decode cX0_worth 0 = .ok (.aload_n 0, 1) := dk_42 (dk_at dksX0_worth_0 0 rfl rfl)
theorem dX0_worth_1 : decode cX0_worth 1 = .ok (.iload_n 1, 1) := dk_27 (dk_at dksX0_worth_0 1 rfl rfl)
theorem dX0_worth_2 : decode cX0_worth 2 = .ok (.invokevirtual 164, 3) := dk_182 0 164 (dk_at dksX0_worth_0 2 rfl rfl)
theorem dX0_worth_5 : decode cX0_worth 5 = .ok (.ifCond .eq 23, 3) := dk_153 0 23 (dk_at dksX0_worth_0 5 rfl rfl)
theorem dX0_worth_8 : decode cX0_worth 8 = .ok (.aload_n 0, 1) := dk_42 (dk_at dksX0_worth_0 8 rfl rfl)
theorem dX0_worth_9 : decode cX0_worth 9 = .ok (.iload_n 2, 1) := dk_28 (dk_at dksX0_worth_0 9 rfl rfl)
theorem dX0_worth_10 : decode cX0_worth 10 = .ok (.invokevirtual 144, 3) := dk_182 0 144 (dk_at dksX0_worth_0 10 rfl rfl)
theorem dX0_worth_13 : decode cX0_worth 13 = .ok (.ifCond .eq 15, 3) := dk_153 0 15 (dk_at dksX0_worth_0 13 rfl rfl)
theorem dX0_worth_16 : decode cX0_worth 16 = .ok (.aload_n 0, 1) := dk_42 (dk_at dksX0_worth_0 16 rfl rfl)
theorem dX0_worth_17 : decode cX0_worth 17 = .ok (.getfield 21, 3) := dk_180 0 21 (dk_at dksX0_worth_0 17 rfl rfl)
theorem dX0_worth_20 : decode cX0_worth 20 = .ok (.iload_n 1, 1) := dk_27 (dk_at dksX0_worth_0 20 rfl rfl)
theorem dX0_worth_21 : decode cX0_worth 21 = .ok (.iload_n 2, 1) := dk_28 (dk_at dksX0_worth_0 21 rfl rfl)
theorem dX0_worth_22 : decode cX0_worth 22 = .ok (.invokevirtual 187, 3) := dk_182 0 187 (dk_at dksX0_worth_1 0 rfl rfl)
theorem dX0_worth_25 : decode cX0_worth 25 = .ok (.goto 5, 3) := dk_167 0 5 (dk_at dksX0_worth_1 3 rfl rfl)
theorem dX0_worth_28 : decode cX0_worth 28 = .ok (.ldc 186, 2) := dk_18 186 (dk_at dksX0_worth_1 6 rfl rfl)
theorem dX0_worth_30 : decode cX0_worth 30 = .ok (.ireturn, 1) := dk_172 (dk_at dksX0_worth_1 8 rfl rfl)
abbrev cX0_months : ByteArray := prog_1_method_18_code
def yX0_months : MethodName := ⟨RX0, "months", "(I)I"⟩
def dkwX0_months_1 : List UInt8 := [182, 0, 208, 172]
abbrev dktX0_months_1 : List UInt8 := dkwX0_months_1 ++ []
def dkwX0_months_0 : List UInt8 := [27, 133, 10, 20, 0, 203, 184, 0, 108, 154, 0, 6, 16, 253, 172, 42, 182, 0, 205, 42, 180, 0, 21, 27]
abbrev dktX0_months_0 : List UInt8 := dkwX0_months_0 ++ dktX0_months_1
theorem dksX0_months_0 : cX0_months.data.toList.drop 0 = dktX0_months_0 := by decide +kernel
theorem dksX0_months_1 : cX0_months.data.toList.drop 24 = dktX0_months_1 := dk_seg dksX0_months_0 24 rfl rfl
theorem dX0_months_0 : decode cX0_months 0 = .ok (.iload_n 1, 1) := dk_27 (dk_at dksX0_months_0 0 rfl rfl)
theorem dX0_months_1 : decode cX0_months 1 = .ok (.i2l, 1) := dk_133 (dk_at dksX0_months_0 1 rfl rfl)
theorem dX0_months_2 : decode cX0_months 2 = .ok (.lconst 1, 1) := dk_10 (dk_at dksX0_months_0 2 rfl rfl)
theorem dX0_months_3 : decode cX0_months 3 = .ok (.ldc2_w 203, 3) := dk_20 0 203 (dk_at dksX0_months_0 3 rfl rfl)
theorem dX0_months_6 : decode cX0_months 6 = .ok (.invokestatic 108, 3) := dk_184 0 108 (dk_at dksX0_months_0 6 rfl rfl)
theorem dX0_months_9 : decode cX0_months 9 = .ok (.ifCond .ne 6, 3) := dk_154 0 6 (dk_at dksX0_months_0 9 rfl rfl)
theorem dX0_months_12 : decode cX0_months 12 = .ok (.bipush (-3), 2) := dk_16 253 (dk_at dksX0_months_0 12 rfl rfl)
theorem dX0_months_14 : decode cX0_months 14 = .ok (.ireturn, 1) := dk_172 (dk_at dksX0_months_0 14 rfl rfl)
theorem dX0_months_15 : decode cX0_months 15 = .ok (.aload_n 0, 1) := dk_42 (dk_at dksX0_months_0 15 rfl rfl)
theorem dX0_months_16 : decode cX0_months 16 = .ok (.invokevirtual 205, 3) := dk_182 0 205 (dk_at dksX0_months_0 16 rfl rfl)
theorem dX0_months_19 : decode cX0_months 19 = .ok (.aload_n 0, 1) := dk_42 (dk_at dksX0_months_0 19 rfl rfl)
theorem dX0_months_20 : decode cX0_months 20 = .ok (.getfield 21, 3) := dk_180 0 21 (dk_at dksX0_months_0 20 rfl rfl)
theorem dX0_months_23 : decode cX0_months 23 = .ok (.iload_n 1, 1) := dk_27 (dk_at dksX0_months_0 23 rfl rfl)
theorem dX0_months_24 : decode cX0_months 24 = .ok (.invokevirtual 208, 3) := dk_182 0 208 (dk_at dksX0_months_1 0 rfl rfl)
theorem dX0_months_27 : decode cX0_months 27 = .ok (.ireturn, 1) := dk_172 (dk_at dksX0_months_1 3 rfl rfl)
abbrev cX0_keeps : ByteArray := prog_1_method_17_code
def yX0_keeps : MethodName := ⟨RX0, "keeps", "()V"⟩
def dkwX0_keeps_1 : List UInt8 := [16, 10, 112, 181, 0, 191, 42, 16, 10, 42, 180, 0, 132, 4, 96, 184, 0, 198, 181, 0, 132, 177]
abbrev dktX0_keeps_1 : List UInt8 := dkwX0_keeps_1 ++ []
def dkwX0_keeps_0 : List UInt8 := [42, 180, 0, 36, 42, 180, 0, 191, 50, 42, 180, 0, 21, 182, 0, 194, 87, 42, 42, 180, 0, 191, 4, 96]
abbrev dktX0_keeps_0 : List UInt8 := dkwX0_keeps_0 ++ dktX0_keeps_1
theorem dksX0_keeps_0 : cX0_keeps.data.toList.drop 0 = dktX0_keeps_0 := by decide +kernel
theorem dksX0_keeps_1 : cX0_keeps.data.toList.drop 24 = dktX0_keeps_1 := dk_seg dksX0_keeps_0 24 rfl rfl
theorem dX0_keeps_0 : decode cX0_keeps 0 = .ok (.aload_n 0, 1) := dk_42 (dk_at dksX0_keeps_0 0 rfl rfl)
theorem dX0_keeps_1 : decode cX0_keeps 1 = .ok (.getfield 36, 3) := dk_180 0 36 (dk_at dksX0_keeps_0 1 rfl rfl)
theorem dX0_keeps_4 : decode cX0_keeps 4 = .ok (.aload_n 0, 1) := dk_42 (dk_at dksX0_keeps_0 4 rfl rfl)
theorem dX0_keeps_5 : decode cX0_keeps 5 = .ok (.getfield 191, 3) := dk_180 0 191 (dk_at dksX0_keeps_0 5 rfl rfl)
theorem dX0_keeps_8 : decode cX0_keeps 8 = .ok (.aaload, 1) := dk_50 (dk_at dksX0_keeps_0 8 rfl rfl)
theorem dX0_keeps_9 : decode cX0_keeps 9 = .ok (.aload_n 0, 1) := dk_42 (dk_at dksX0_keeps_0 9 rfl rfl)
theorem dX0_keeps_10 : decode cX0_keeps 10 = .ok (.getfield 21, 3) := dk_180 0 21 (dk_at dksX0_keeps_0 10 rfl rfl)
theorem dX0_keeps_13 : decode cX0_keeps 13 = .ok (.invokevirtual 194, 3) := dk_182 0 194 (dk_at dksX0_keeps_0 13 rfl rfl)
theorem dX0_keeps_16 : decode cX0_keeps 16 = .ok (.pop, 1) := dk_87 (dk_at dksX0_keeps_0 16 rfl rfl)
theorem dX0_keeps_17 : decode cX0_keeps 17 = .ok (.aload_n 0, 1) := dk_42 (dk_at dksX0_keeps_0 17 rfl rfl)
theorem dX0_keeps_18 : decode cX0_keeps 18 = .ok (.aload_n 0, 1) := dk_42 (dk_at dksX0_keeps_0 18 rfl rfl)
theorem dX0_keeps_19 : decode cX0_keeps 19 = .ok (.getfield 191, 3) := dk_180 0 191 (dk_at dksX0_keeps_0 19 rfl rfl)
theorem dX0_keeps_22 : decode cX0_keeps 22 = .ok (.iconst 1, 1) := dk_4 (dk_at dksX0_keeps_0 22 rfl rfl)
theorem dX0_keeps_23 : decode cX0_keeps 23 = .ok (.iadd, 1) := dk_96 (dk_at dksX0_keeps_0 23 rfl rfl)
theorem dX0_keeps_24 : decode cX0_keeps 24 = .ok (.bipush 10, 2) := dk_16 10 (dk_at dksX0_keeps_1 0 rfl rfl)
theorem dX0_keeps_26 : decode cX0_keeps 26 = .ok (.irem, 1) := dk_112 (dk_at dksX0_keeps_1 2 rfl rfl)
theorem dX0_keeps_27 : decode cX0_keeps 27 = .ok (.putfield 191, 3) := dk_181 0 191 (dk_at dksX0_keeps_1 3 rfl rfl)
theorem dX0_keeps_30 : decode cX0_keeps 30 = .ok (.aload_n 0, 1) := dk_42 (dk_at dksX0_keeps_1 6 rfl rfl)
theorem dX0_keeps_31 : decode cX0_keeps 31 = .ok (.bipush 10, 2) := dk_16 10 (dk_at dksX0_keeps_1 7 rfl rfl)
theorem dX0_keeps_33 : decode cX0_keeps 33 = .ok (.aload_n 0, 1) := dk_42 (dk_at dksX0_keeps_1 9 rfl rfl)
theorem dX0_keeps_34 : decode cX0_keeps 34 = .ok (.getfield 132, 3) := dk_180 0 132 (dk_at dksX0_keeps_1 10 rfl rfl)
theorem dX0_keeps_37 : decode cX0_keeps 37 = .ok (.iconst 1, 1) := dk_4 (dk_at dksX0_keeps_1 13 rfl rfl)
theorem dX0_keeps_38 : decode cX0_keeps 38 = .ok (.iadd, 1) := dk_96 (dk_at dksX0_keeps_1 14 rfl rfl)
theorem dX0_keeps_39 : decode cX0_keeps 39 = .ok (.invokestatic 198, 3) := dk_184 0 198 (dk_at dksX0_keeps_1 15 rfl rfl)
theorem dX0_keeps_42 : decode cX0_keeps 42 = .ok (.putfield 132, 3) := dk_181 0 132 (dk_at dksX0_keeps_1 18 rfl rfl)
theorem dX0_keeps_45 : decode cX0_keeps 45 = .ok (.return_, 1) := dk_177 (dk_at dksX0_keeps_1 21 rfl rfl)
abbrev cX0_builds : ByteArray := prog_1_method_19_code
def yX0_builds : MethodName := ⟨RX0, "builds", "()I"⟩
def dkwX0_builds_1 : List UInt8 := [182, 0, 211, 42, 180, 0, 21, 180, 0, 138, 4, 100, 172]
abbrev dktX0_builds_1 : List UInt8 := dkwX0_builds_1 ++ []
def dkwX0_builds_0 : List UInt8 := [42, 180, 0, 21, 180, 0, 138, 16, 8, 160, 0, 6, 16, 244, 172, 42, 182, 0, 205, 42, 180, 0, 21]
abbrev dktX0_builds_0 : List UInt8 := dkwX0_builds_0 ++ dktX0_builds_1
theorem dksX0_builds_0 : cX0_builds.data.toList.drop 0 = dktX0_builds_0 := by decide +kernel
theorem dksX0_builds_1 : cX0_builds.data.toList.drop 23 = dktX0_builds_1 := dk_seg dksX0_builds_0 23 rfl rfl
theorem dX0_builds_0 : decode cX0_builds 0 = .ok (.aload_n 0, 1) := dk_42 (dk_at dksX0_builds_0 0 rfl rfl)
theorem dX0_builds_1 : decode cX0_builds 1 = .ok (.getfield 21, 3) := dk_180 0 21 (dk_at dksX0_builds_0 1 rfl rfl)
theorem dX0_builds_4 : decode cX0_builds 4 = .ok (.getfield 138, 3) := dk_180 0 138 (dk_at dksX0_builds_0 4 rfl rfl)
theorem dX0_builds_7 : decode cX0_builds 7 = .ok (.bipush 8, 2) := dk_16 8 (dk_at dksX0_builds_0 7 rfl rfl)
theorem dX0_builds_9 : decode cX0_builds 9 = .ok (.if_icmp .ne 6, 3) := dk_160 0 6 (dk_at dksX0_builds_0 9 rfl rfl)
theorem dX0_builds_12 : decode cX0_builds 12 = .ok (.bipush (-12), 2) := dk_16 244 (dk_at dksX0_builds_0 12 rfl rfl)
theorem dX0_builds_14 : decode cX0_builds 14 = .ok (.ireturn, 1) := dk_172 (dk_at dksX0_builds_0 14 rfl rfl)
theorem dX0_builds_15 : decode cX0_builds 15 = .ok (.aload_n 0, 1) := dk_42 (dk_at dksX0_builds_0 15 rfl rfl)
theorem dX0_builds_16 : decode cX0_builds 16 = .ok (.invokevirtual 205, 3) := dk_182 0 205 (dk_at dksX0_builds_0 16 rfl rfl)
theorem dX0_builds_19 : decode cX0_builds 19 = .ok (.aload_n 0, 1) := dk_42 (dk_at dksX0_builds_0 19 rfl rfl)
theorem dX0_builds_20 : decode cX0_builds 20 = .ok (.getfield 21, 3) := dk_180 0 21 (dk_at dksX0_builds_0 20 rfl rfl)
theorem dX0_builds_23 : decode cX0_builds 23 = .ok (.invokevirtual 211, 3) := dk_182 0 211 (dk_at dksX0_builds_1 0 rfl rfl)
theorem dX0_builds_26 : decode cX0_builds 26 = .ok (.aload_n 0, 1) := dk_42 (dk_at dksX0_builds_1 3 rfl rfl)
theorem dX0_builds_27 : decode cX0_builds 27 = .ok (.getfield 21, 3) := dk_180 0 21 (dk_at dksX0_builds_1 4 rfl rfl)
theorem dX0_builds_30 : decode cX0_builds 30 = .ok (.getfield 138, 3) := dk_180 0 138 (dk_at dksX0_builds_1 7 rfl rfl)
theorem dX0_builds_33 : decode cX0_builds 33 = .ok (.iconst 1, 1) := dk_4 (dk_at dksX0_builds_1 10 rfl rfl)
theorem dX0_builds_34 : decode cX0_builds 34 = .ok (.isub, 1) := dk_100 (dk_at dksX0_builds_1 11 rfl rfl)
theorem dX0_builds_35 : decode cX0_builds 35 = .ok (.ireturn, 1) := dk_172 (dk_at dksX0_builds_1 12 rfl rfl)
abbrev cX0_moves : ByteArray := prog_1_method_20_code
def yX0_moves : MethodName := ⟨RX0, "moves", "(II)I"⟩
def dkwX0_moves_2 : List UInt8 := [21, 4, 172]
abbrev dktX0_moves_2 : List UInt8 := dkwX0_moves_2 ++ []
def dkwX0_moves_1 : List UInt8 := [182, 0, 205, 42, 180, 0, 21, 180, 0, 173, 27, 46, 54, 4, 42, 180, 0, 21, 180, 0, 173, 27, 28, 79]
abbrev dktX0_moves_1 : List UInt8 := dkwX0_moves_1 ++ dktX0_moves_2
def dkwX0_moves_0 : List UInt8 := [42, 180, 0, 21, 27, 133, 28, 133, 182, 0, 214, 62, 29, 153, 0, 8, 16, 246, 29, 100, 172, 42]
abbrev dktX0_moves_0 : List UInt8 := dkwX0_moves_0 ++ dktX0_moves_1
theorem dksX0_moves_0 : cX0_moves.data.toList.drop 0 = dktX0_moves_0 := by decide +kernel
theorem dksX0_moves_1 : cX0_moves.data.toList.drop 22 = dktX0_moves_1 := dk_seg dksX0_moves_0 22 rfl rfl
theorem dksX0_moves_2 : cX0_moves.data.toList.drop 46 = dktX0_moves_2 := dk_seg dksX0_moves_1 24 rfl rfl
theorem dX0_moves_0 : decode cX0_moves 0 = .ok (.aload_n 0, 1) := dk_42 (dk_at dksX0_moves_0 0 rfl rfl)
theorem dX0_moves_1 : decode cX0_moves 1 = .ok (.getfield 21, 3) := dk_180 0 21 (dk_at dksX0_moves_0 1 rfl rfl)
theorem dX0_moves_4 : decode cX0_moves 4 = .ok (.iload_n 1, 1) := dk_27 (dk_at dksX0_moves_0 4 rfl rfl)
theorem dX0_moves_5 : decode cX0_moves 5 = .ok (.i2l, 1) := dk_133 (dk_at dksX0_moves_0 5 rfl rfl)
theorem dX0_moves_6 : decode cX0_moves 6 = .ok (.iload_n 2, 1) := dk_28 (dk_at dksX0_moves_0 6 rfl rfl)
theorem dX0_moves_7 : decode cX0_moves 7 = .ok (.i2l, 1) := dk_133 (dk_at dksX0_moves_0 7 rfl rfl)
theorem dX0_moves_8 : decode cX0_moves 8 = .ok (.invokevirtual 214, 3) := dk_182 0 214 (dk_at dksX0_moves_0 8 rfl rfl)
theorem dX0_moves_11 : decode cX0_moves 11 = .ok (.istore_n 3, 1) := dk_62 (dk_at dksX0_moves_0 11 rfl rfl)
theorem dX0_moves_12 : decode cX0_moves 12 = .ok (.iload_n 3, 1) := dk_29 (dk_at dksX0_moves_0 12 rfl rfl)
theorem dX0_moves_13 : decode cX0_moves 13 = .ok (.ifCond .eq 8, 3) := dk_153 0 8 (dk_at dksX0_moves_0 13 rfl rfl)
theorem dX0_moves_16 : decode cX0_moves 16 = .ok (.bipush (-10), 2) := dk_16 246 (dk_at dksX0_moves_0 16 rfl rfl)
theorem dX0_moves_18 : decode cX0_moves 18 = .ok (.iload_n 3, 1) := dk_29 (dk_at dksX0_moves_0 18 rfl rfl)
theorem dX0_moves_19 : decode cX0_moves 19 = .ok (.isub, 1) := dk_100 (dk_at dksX0_moves_0 19 rfl rfl)
theorem dX0_moves_20 : decode cX0_moves 20 = .ok (.ireturn, 1) := dk_172 (dk_at dksX0_moves_0 20 rfl rfl)
theorem dX0_moves_21 : decode cX0_moves 21 = .ok (.aload_n 0, 1) := dk_42 (dk_at dksX0_moves_0 21 rfl rfl)
theorem dX0_moves_22 : decode cX0_moves 22 = .ok (.invokevirtual 205, 3) := dk_182 0 205 (dk_at dksX0_moves_1 0 rfl rfl)
theorem dX0_moves_25 : decode cX0_moves 25 = .ok (.aload_n 0, 1) := dk_42 (dk_at dksX0_moves_1 3 rfl rfl)
theorem dX0_moves_26 : decode cX0_moves 26 = .ok (.getfield 21, 3) := dk_180 0 21 (dk_at dksX0_moves_1 4 rfl rfl)
theorem dX0_moves_29 : decode cX0_moves 29 = .ok (.getfield 173, 3) := dk_180 0 173 (dk_at dksX0_moves_1 7 rfl rfl)
theorem dX0_moves_32 : decode cX0_moves 32 = .ok (.iload_n 1, 1) := dk_27 (dk_at dksX0_moves_1 10 rfl rfl)
theorem dX0_moves_33 : decode cX0_moves 33 = .ok (.iaload, 1) := dk_46 (dk_at dksX0_moves_1 11 rfl rfl)
theorem dX0_moves_34 : decode cX0_moves 34 = .ok (.istore 4, 2) := dk_54 4 (dk_at dksX0_moves_1 12 rfl rfl)
theorem dX0_moves_36 : decode cX0_moves 36 = .ok (.aload_n 0, 1) := dk_42 (dk_at dksX0_moves_1 14 rfl rfl)
theorem dX0_moves_37 : decode cX0_moves 37 = .ok (.getfield 21, 3) := dk_180 0 21 (dk_at dksX0_moves_1 15 rfl rfl)
theorem dX0_moves_40 : decode cX0_moves 40 = .ok (.getfield 173, 3) := dk_180 0 173 (dk_at dksX0_moves_1 18 rfl rfl)
theorem dX0_moves_43 : decode cX0_moves 43 = .ok (.iload_n 1, 1) := dk_27 (dk_at dksX0_moves_1 21 rfl rfl)
theorem dX0_moves_44 : decode cX0_moves 44 = .ok (.iload_n 2, 1) := dk_28 (dk_at dksX0_moves_1 22 rfl rfl)
theorem dX0_moves_45 : decode cX0_moves 45 = .ok (.iastore, 1) := dk_79 (dk_at dksX0_moves_1 23 rfl rfl)
theorem dX0_moves_46 : decode cX0_moves 46 = .ok (.iload 4, 2) := dk_21 4 (dk_at dksX0_moves_2 0 rfl rfl)
theorem dX0_moves_48 : decode cX0_moves 48 = .ok (.ireturn, 1) := dk_172 (dk_at dksX0_moves_2 2 rfl rfl)
abbrev cX0_leaves : ByteArray := prog_1_method_21_code
def yX0_leaves : MethodName := ⟨RX0, "leaves", "(I)I"⟩
def dkwX0_leaves_1 : List UInt8 := [180, 0, 21, 180, 0, 173, 27, 46, 62, 42, 180, 0, 21, 180, 0, 173, 27, 2, 79, 29, 172]
abbrev dktX0_leaves_1 : List UInt8 := dkwX0_leaves_1 ++ []
def dkwX0_leaves_0 : List UInt8 := [42, 180, 0, 21, 27, 133, 182, 0, 218, 61, 28, 153, 0, 8, 16, 246, 28, 100, 172, 42, 182, 0, 205, 42]
abbrev dktX0_leaves_0 : List UInt8 := dkwX0_leaves_0 ++ dktX0_leaves_1
theorem dksX0_leaves_0 : cX0_leaves.data.toList.drop 0 = dktX0_leaves_0 := by decide +kernel
theorem dksX0_leaves_1 : cX0_leaves.data.toList.drop 24 = dktX0_leaves_1 := dk_seg dksX0_leaves_0 24 rfl rfl
theorem dX0_leaves_0 : decode cX0_leaves 0 = .ok (.aload_n 0, 1) := dk_42 (dk_at dksX0_leaves_0 0 rfl rfl)
theorem dX0_leaves_1 : decode cX0_leaves 1 = .ok (.getfield 21, 3) := dk_180 0 21 (dk_at dksX0_leaves_0 1 rfl rfl)
theorem dX0_leaves_4 : decode cX0_leaves 4 = .ok (.iload_n 1, 1) := dk_27 (dk_at dksX0_leaves_0 4 rfl rfl)
theorem dX0_leaves_5 : decode cX0_leaves 5 = .ok (.i2l, 1) := dk_133 (dk_at dksX0_leaves_0 5 rfl rfl)
theorem dX0_leaves_6 : decode cX0_leaves 6 = .ok (.invokevirtual 218, 3) := dk_182 0 218 (dk_at dksX0_leaves_0 6 rfl rfl)
theorem dX0_leaves_9 : decode cX0_leaves 9 = .ok (.istore_n 2, 1) := dk_61 (dk_at dksX0_leaves_0 9 rfl rfl)
theorem dX0_leaves_10 : decode cX0_leaves 10 = .ok (.iload_n 2, 1) := dk_28 (dk_at dksX0_leaves_0 10 rfl rfl)
theorem dX0_leaves_11 : decode cX0_leaves 11 = .ok (.ifCond .eq 8, 3) := dk_153 0 8 (dk_at dksX0_leaves_0 11 rfl rfl)
theorem dX0_leaves_14 : decode cX0_leaves 14 = .ok (.bipush (-10), 2) := dk_16 246 (dk_at dksX0_leaves_0 14 rfl rfl)
theorem dX0_leaves_16 : decode cX0_leaves 16 = .ok (.iload_n 2, 1) := dk_28 (dk_at dksX0_leaves_0 16 rfl rfl)
theorem dX0_leaves_17 : decode cX0_leaves 17 = .ok (.isub, 1) := dk_100 (dk_at dksX0_leaves_0 17 rfl rfl)
theorem dX0_leaves_18 : decode cX0_leaves 18 = .ok (.ireturn, 1) := dk_172 (dk_at dksX0_leaves_0 18 rfl rfl)
theorem dX0_leaves_19 : decode cX0_leaves 19 = .ok (.aload_n 0, 1) := dk_42 (dk_at dksX0_leaves_0 19 rfl rfl)
theorem dX0_leaves_20 : decode cX0_leaves 20 = .ok (.invokevirtual 205, 3) := dk_182 0 205 (dk_at dksX0_leaves_0 20 rfl rfl)
theorem dX0_leaves_23 : decode cX0_leaves 23 = .ok (.aload_n 0, 1) := dk_42 (dk_at dksX0_leaves_0 23 rfl rfl)
theorem dX0_leaves_24 : decode cX0_leaves 24 = .ok (.getfield 21, 3) := dk_180 0 21 (dk_at dksX0_leaves_1 0 rfl rfl)
theorem dX0_leaves_27 : decode cX0_leaves 27 = .ok (.getfield 173, 3) := dk_180 0 173 (dk_at dksX0_leaves_1 3 rfl rfl)
theorem dX0_leaves_30 : decode cX0_leaves 30 = .ok (.iload_n 1, 1) := dk_27 (dk_at dksX0_leaves_1 6 rfl rfl)
theorem dX0_leaves_31 : decode cX0_leaves 31 = .ok (.iaload, 1) := dk_46 (dk_at dksX0_leaves_1 7 rfl rfl)
theorem dX0_leaves_32 : decode cX0_leaves 32 = .ok (.istore_n 3, 1) := dk_62 (dk_at dksX0_leaves_1 8 rfl rfl)
theorem dX0_leaves_33 : decode cX0_leaves 33 = .ok (.aload_n 0, 1) := dk_42 (dk_at dksX0_leaves_1 9 rfl rfl)
theorem dX0_leaves_34 : decode cX0_leaves 34 = .ok (.getfield 21, 3) := dk_180 0 21 (dk_at dksX0_leaves_1 10 rfl rfl)
theorem dX0_leaves_37 : decode cX0_leaves 37 = .ok (.getfield 173, 3) := dk_180 0 173 (dk_at dksX0_leaves_1 13 rfl rfl)
theorem dX0_leaves_40 : decode cX0_leaves 40 = .ok (.iload_n 1, 1) := dk_27 (dk_at dksX0_leaves_1 16 rfl rfl)
theorem dX0_leaves_41 : decode cX0_leaves 41 = .ok (.iconst (-1), 1) := dk_2 (dk_at dksX0_leaves_1 17 rfl rfl)
theorem dX0_leaves_42 : decode cX0_leaves 42 = .ok (.iastore, 1) := dk_79 (dk_at dksX0_leaves_1 18 rfl rfl)
theorem dX0_leaves_43 : decode cX0_leaves 43 = .ok (.iload_n 3, 1) := dk_29 (dk_at dksX0_leaves_1 19 rfl rfl)
theorem dX0_leaves_44 : decode cX0_leaves 44 = .ok (.ireturn, 1) := dk_172 (dk_at dksX0_leaves_1 20 rfl rfl)
abbrev cX0_carries : ByteArray := prog_1_method_22_code
def yX0_carries : MethodName := ⟨RX0, "carries", "(II)I"⟩
def dkwX0_carries_2 : List UInt8 := [172]
abbrev dktX0_carries_2 : List UInt8 := dkwX0_carries_2 ++ []
def dkwX0_carries_1 : List UInt8 := [182, 0, 205, 42, 180, 0, 21, 180, 0, 167, 27, 46, 62, 42, 180, 0, 21, 180, 0, 167, 27, 28, 79, 29]
abbrev dktX0_carries_1 : List UInt8 := dkwX0_carries_1 ++ dktX0_carries_2
def dkwX0_carries_0 : List UInt8 := [42, 27, 182, 0, 164, 153, 0, 15, 28, 133, 9, 20, 0, 222, 184, 0, 108, 154, 0, 6, 16, 245, 172, 42]
abbrev dktX0_carries_0 : List UInt8 := dkwX0_carries_0 ++ dktX0_carries_1
theorem dksX0_carries_0 : cX0_carries.data.toList.drop 0 = dktX0_carries_0 := by decide +kernel
theorem dksX0_carries_1 : cX0_carries.data.toList.drop 24 = dktX0_carries_1 := dk_seg dksX0_carries_0 24 rfl rfl
theorem dksX0_carries_2 : cX0_carries.data.toList.drop 48 = dktX0_carries_2 := dk_seg dksX0_carries_1 24 rfl rfl
theorem dX0_carries_0 : decode cX0_carries 0 = .ok (.aload_n 0, 1) := dk_42 (dk_at dksX0_carries_0 0 rfl rfl)
theorem dX0_carries_1 : decode cX0_carries 1 = .ok (.iload_n 1, 1) := dk_27 (dk_at dksX0_carries_0 1 rfl rfl)
theorem dX0_carries_2 : decode cX0_carries 2 = .ok (.invokevirtual 164, 3) := dk_182 0 164 (dk_at dksX0_carries_0 2 rfl rfl)
theorem dX0_carries_5 : decode cX0_carries 5 = .ok (.ifCond .eq 15, 3) := dk_153 0 15 (dk_at dksX0_carries_0 5 rfl rfl)
theorem dX0_carries_8 : decode cX0_carries 8 = .ok (.iload_n 2, 1) := dk_28 (dk_at dksX0_carries_0 8 rfl rfl)
theorem dX0_carries_9 : decode cX0_carries 9 = .ok (.i2l, 1) := dk_133 (dk_at dksX0_carries_0 9 rfl rfl)
theorem dX0_carries_10 : decode cX0_carries 10 = .ok (.lconst 0, 1) := dk_9 (dk_at dksX0_carries_0 10 rfl rfl)
theorem dX0_carries_11 : decode cX0_carries 11 = .ok (.ldc2_w 222, 3) := dk_20 0 222 (dk_at dksX0_carries_0 11 rfl rfl)
theorem dX0_carries_14 : decode cX0_carries 14 = .ok (.invokestatic 108, 3) := dk_184 0 108 (dk_at dksX0_carries_0 14 rfl rfl)
theorem dX0_carries_17 : decode cX0_carries 17 = .ok (.ifCond .ne 6, 3) := dk_154 0 6 (dk_at dksX0_carries_0 17 rfl rfl)
theorem dX0_carries_20 : decode cX0_carries 20 = .ok (.bipush (-11), 2) := dk_16 245 (dk_at dksX0_carries_0 20 rfl rfl)
theorem dX0_carries_22 : decode cX0_carries 22 = .ok (.ireturn, 1) := dk_172 (dk_at dksX0_carries_0 22 rfl rfl)
theorem dX0_carries_23 : decode cX0_carries 23 = .ok (.aload_n 0, 1) := dk_42 (dk_at dksX0_carries_0 23 rfl rfl)
theorem dX0_carries_24 : decode cX0_carries 24 = .ok (.invokevirtual 205, 3) := dk_182 0 205 (dk_at dksX0_carries_1 0 rfl rfl)
theorem dX0_carries_27 : decode cX0_carries 27 = .ok (.aload_n 0, 1) := dk_42 (dk_at dksX0_carries_1 3 rfl rfl)
theorem dX0_carries_28 : decode cX0_carries 28 = .ok (.getfield 21, 3) := dk_180 0 21 (dk_at dksX0_carries_1 4 rfl rfl)
theorem dX0_carries_31 : decode cX0_carries 31 = .ok (.getfield 167, 3) := dk_180 0 167 (dk_at dksX0_carries_1 7 rfl rfl)
theorem dX0_carries_34 : decode cX0_carries 34 = .ok (.iload_n 1, 1) := dk_27 (dk_at dksX0_carries_1 10 rfl rfl)
theorem dX0_carries_35 : decode cX0_carries 35 = .ok (.iaload, 1) := dk_46 (dk_at dksX0_carries_1 11 rfl rfl)
theorem dX0_carries_36 : decode cX0_carries 36 = .ok (.istore_n 3, 1) := dk_62 (dk_at dksX0_carries_1 12 rfl rfl)
theorem dX0_carries_37 : decode cX0_carries 37 = .ok (.aload_n 0, 1) := dk_42 (dk_at dksX0_carries_1 13 rfl rfl)
theorem dX0_carries_38 : decode cX0_carries 38 = .ok (.getfield 21, 3) := dk_180 0 21 (dk_at dksX0_carries_1 14 rfl rfl)
theorem dX0_carries_41 : decode cX0_carries 41 = .ok (.getfield 167, 3) := dk_180 0 167 (dk_at dksX0_carries_1 17 rfl rfl)
theorem dX0_carries_44 : decode cX0_carries 44 = .ok (.iload_n 1, 1) := dk_27 (dk_at dksX0_carries_1 20 rfl rfl)
theorem dX0_carries_45 : decode cX0_carries 45 = .ok (.iload_n 2, 1) := dk_28 (dk_at dksX0_carries_1 21 rfl rfl)
theorem dX0_carries_46 : decode cX0_carries 46 = .ok (.iastore, 1) := dk_79 (dk_at dksX0_carries_1 22 rfl rfl)
theorem dX0_carries_47 : decode cX0_carries 47 = .ok (.iload_n 3, 1) := dk_29 (dk_at dksX0_carries_1 23 rfl rfl)
theorem dX0_carries_48 : decode cX0_carries 48 = .ok (.ireturn, 1) := dk_172 (dk_at dksX0_carries_2 0 rfl rfl)
abbrev cX0_rings : ByteArray := prog_1_method_23_code
def yX0_rings : MethodName := ⟨RX0, "rings", "()I"⟩
def dkwX0_rings_1 : List UInt8 := [3, 172, 42, 182, 0, 205, 42, 180, 0, 21, 42, 180, 0, 25, 182, 0, 194, 87, 27, 172]
abbrev dktX0_rings_1 : List UInt8 := dkwX0_rings_1 ++ []
def dkwX0_rings_0 : List UInt8 := [42, 180, 0, 25, 42, 180, 0, 21, 182, 0, 194, 87, 42, 180, 0, 25, 182, 0, 224, 60, 27, 154, 0, 5]
abbrev dktX0_rings_0 : List UInt8 := dkwX0_rings_0 ++ dktX0_rings_1
theorem dksX0_rings_0 : cX0_rings.data.toList.drop 0 = dktX0_rings_0 := by decide +kernel
theorem dksX0_rings_1 : cX0_rings.data.toList.drop 24 = dktX0_rings_1 := dk_seg dksX0_rings_0 24 rfl rfl
theorem dX0_rings_0 : decode cX0_rings 0 = .ok (.aload_n 0, 1) := dk_42 (dk_at dksX0_rings_0 0 rfl rfl)
theorem dX0_rings_1 : decode cX0_rings 1 = .ok (.getfield 25, 3) := dk_180 0 25 (dk_at dksX0_rings_0 1 rfl rfl)
theorem dX0_rings_4 : decode cX0_rings 4 = .ok (.aload_n 0, 1) := dk_42 (dk_at dksX0_rings_0 4 rfl rfl)
theorem dX0_rings_5 : decode cX0_rings 5 = .ok (.getfield 21, 3) := dk_180 0 21 (dk_at dksX0_rings_0 5 rfl rfl)
theorem dX0_rings_8 : decode cX0_rings 8 = .ok (.invokevirtual 194, 3) := dk_182 0 194 (dk_at dksX0_rings_0 8 rfl rfl)
theorem dX0_rings_11 : decode cX0_rings 11 = .ok (.pop, 1) := dk_87 (dk_at dksX0_rings_0 11 rfl rfl)
theorem dX0_rings_12 : decode cX0_rings 12 = .ok (.aload_n 0, 1) := dk_42 (dk_at dksX0_rings_0 12 rfl rfl)
theorem dX0_rings_13 : decode cX0_rings 13 = .ok (.getfield 25, 3) := dk_180 0 25 (dk_at dksX0_rings_0 13 rfl rfl)
theorem dX0_rings_16 : decode cX0_rings 16 = .ok (.invokevirtual 224, 3) := dk_182 0 224 (dk_at dksX0_rings_0 16 rfl rfl)
theorem dX0_rings_19 : decode cX0_rings 19 = .ok (.istore_n 1, 1) := dk_60 (dk_at dksX0_rings_0 19 rfl rfl)
theorem dX0_rings_20 : decode cX0_rings 20 = .ok (.iload_n 1, 1) := dk_27 (dk_at dksX0_rings_0 20 rfl rfl)
theorem dX0_rings_21 : decode cX0_rings 21 = .ok (.ifCond .ne 5, 3) := dk_154 0 5 (dk_at dksX0_rings_0 21 rfl rfl)
theorem dX0_rings_24 : decode cX0_rings 24 = .ok (.iconst 0, 1) := dk_3 (dk_at dksX0_rings_1 0 rfl rfl)
theorem dX0_rings_25 : decode cX0_rings 25 = .ok (.ireturn, 1) := dk_172 (dk_at dksX0_rings_1 1 rfl rfl)
theorem dX0_rings_26 : decode cX0_rings 26 = .ok (.aload_n 0, 1) := dk_42 (dk_at dksX0_rings_1 2 rfl rfl)
theorem dX0_rings_27 : decode cX0_rings 27 = .ok (.invokevirtual 205, 3) := dk_182 0 205 (dk_at dksX0_rings_1 3 rfl rfl)
theorem dX0_rings_30 : decode cX0_rings 30 = .ok (.aload_n 0, 1) := dk_42 (dk_at dksX0_rings_1 6 rfl rfl)
theorem dX0_rings_31 : decode cX0_rings 31 = .ok (.getfield 21, 3) := dk_180 0 21 (dk_at dksX0_rings_1 7 rfl rfl)
theorem dX0_rings_34 : decode cX0_rings 34 = .ok (.aload_n 0, 1) := dk_42 (dk_at dksX0_rings_1 10 rfl rfl)
theorem dX0_rings_35 : decode cX0_rings 35 = .ok (.getfield 25, 3) := dk_180 0 25 (dk_at dksX0_rings_1 11 rfl rfl)
theorem dX0_rings_38 : decode cX0_rings 38 = .ok (.invokevirtual 194, 3) := dk_182 0 194 (dk_at dksX0_rings_1 14 rfl rfl)
theorem dX0_rings_41 : decode cX0_rings 41 = .ok (.pop, 1) := dk_87 (dk_at dksX0_rings_1 17 rfl rfl)
theorem dX0_rings_42 : decode cX0_rings 42 = .ok (.iload_n 1, 1) := dk_27 (dk_at dksX0_rings_1 18 rfl rfl)
theorem dX0_rings_43 : decode cX0_rings 43 = .ok (.ireturn, 1) := dk_172 (dk_at dksX0_rings_1 19 rfl rfl)
abbrev cX0_laysRings : ByteArray := prog_1_method_32_code
def yX0_laysRings : MethodName := ⟨RX0, "laysRings", "(LSunkTower$State;)V"⟩
def dkwX0_laysRings_5 : List UInt8 := [167, 255, 197, 177]
abbrev dktX0_laysRings_5 : List UInt8 := dkwX0_laysRings_5 ++ []
def dkwX0_laysRings_4 : List UInt8 := [167, 0, 4, 2, 79, 132, 3, 1, 167, 255, 217, 28, 42, 43, 28, 182, 1, 26, 2, 130, 126, 61]
abbrev dktX0_laysRings_4 : List UInt8 := dkwX0_laysRings_4 ++ dktX0_laysRings_5
def dkwX0_laysRings_3 : List UInt8 := [162, 0, 34, 42, 180, 0, 44, 29, 28, 29, 184, 1, 15, 153, 0, 13, 42, 43, 29, 28, 182, 1, 22]
abbrev dktX0_laysRings_3 : List UInt8 := dkwX0_laysRings_3 ++ dktX0_laysRings_4
def dkwX0_laysRings_2 : List UInt8 := [29, 120, 128, 61, 132, 3, 1, 167, 255, 210, 28, 153, 0, 61, 3, 62, 29, 42, 180, 0, 12, 180, 0, 141]
abbrev dktX0_laysRings_2 : List UInt8 := dkwX0_laysRings_2 ++ dktX0_laysRings_3
def dkwX0_laysRings_1 : List UInt8 := [29, 43, 180, 0, 173, 29, 46, 79, 28, 43, 180, 0, 173, 29, 46, 2, 160, 0, 7, 3, 167, 0, 6, 4]
abbrev dktX0_laysRings_1 : List UInt8 := dkwX0_laysRings_1 ++ dktX0_laysRings_2
def dkwX0_laysRings_0 : List UInt8 := [3, 61, 42, 3, 181, 1, 19, 3, 62, 29, 42, 180, 0, 12, 180, 0, 141, 162, 0, 41, 42, 180, 0, 40]
abbrev dktX0_laysRings_0 : List UInt8 := dkwX0_laysRings_0 ++ dktX0_laysRings_1
theorem dksX0_laysRings_0 : cX0_laysRings.data.toList.drop 0 = dktX0_laysRings_0 := by decide +kernel
theorem dksX0_laysRings_1 : cX0_laysRings.data.toList.drop 24 = dktX0_laysRings_1 := dk_seg dksX0_laysRings_0 24 rfl rfl
theorem dksX0_laysRings_2 : cX0_laysRings.data.toList.drop 48 = dktX0_laysRings_2 := dk_seg dksX0_laysRings_1 24 rfl rfl
theorem dksX0_laysRings_3 : cX0_laysRings.data.toList.drop 72 = dktX0_laysRings_3 := dk_seg dksX0_laysRings_2 24 rfl rfl
theorem dksX0_laysRings_4 : cX0_laysRings.data.toList.drop 95 = dktX0_laysRings_4 := dk_seg dksX0_laysRings_3 23 rfl rfl
theorem dksX0_laysRings_5 : cX0_laysRings.data.toList.drop 117 = dktX0_laysRings_5 := dk_seg dksX0_laysRings_4 22 rfl rfl
theorem dX0_laysRings_0 : decode cX0_laysRings 0 = .ok (.iconst 0, 1) := dk_3 (dk_at dksX0_laysRings_0 0 rfl rfl)
theorem dX0_laysRings_1 : decode cX0_laysRings 1 = .ok (.istore_n 2, 1) := dk_61 (dk_at dksX0_laysRings_0 1 rfl rfl)
theorem dX0_laysRings_2 : decode cX0_laysRings 2 = .ok (.aload_n 0, 1) := dk_42 (dk_at dksX0_laysRings_0 2 rfl rfl)
theorem dX0_laysRings_3 : decode cX0_laysRings 3 = .ok (.iconst 0, 1) := dk_3 (dk_at dksX0_laysRings_0 3 rfl rfl)
theorem dX0_laysRings_4 : decode cX0_laysRings 4 = .ok (.putfield 275, 3) := dk_181 1 19 (dk_at dksX0_laysRings_0 4 rfl rfl)
theorem dX0_laysRings_7 : decode cX0_laysRings 7 = .ok (.iconst 0, 1) := dk_3 (dk_at dksX0_laysRings_0 7 rfl rfl)
theorem dX0_laysRings_8 : decode cX0_laysRings 8 = .ok (.istore_n 3, 1) := dk_62 (dk_at dksX0_laysRings_0 8 rfl rfl)
theorem dX0_laysRings_9 : decode cX0_laysRings 9 = .ok (.iload_n 3, 1) := dk_29 (dk_at dksX0_laysRings_0 9 rfl rfl)
theorem dX0_laysRings_10 : decode cX0_laysRings 10 = .ok (.aload_n 0, 1) := dk_42 (dk_at dksX0_laysRings_0 10 rfl rfl)
theorem dX0_laysRings_11 : decode cX0_laysRings 11 = .ok (.getfield 12, 3) := dk_180 0 12 (dk_at dksX0_laysRings_0 11 rfl rfl)
theorem dX0_laysRings_14 : decode cX0_laysRings 14 = .ok (.getfield 141, 3) := dk_180 0 141 (dk_at dksX0_laysRings_0 14 rfl rfl)
theorem dX0_laysRings_17 : decode cX0_laysRings 17 = .ok (.if_icmp .ge 41, 3) := dk_162 0 41 (dk_at dksX0_laysRings_0 17 rfl rfl)
theorem dX0_laysRings_20 : decode cX0_laysRings 20 = .ok (.aload_n 0, 1) := dk_42 (dk_at dksX0_laysRings_0 20 rfl rfl)
theorem dX0_laysRings_21 : decode cX0_laysRings 21 = .ok (.getfield 40, 3) := dk_180 0 40 (dk_at dksX0_laysRings_0 21 rfl rfl)
theorem dX0_laysRings_24 : decode cX0_laysRings 24 = .ok (.iload_n 3, 1) := dk_29 (dk_at dksX0_laysRings_1 0 rfl rfl)
theorem dX0_laysRings_25 : decode cX0_laysRings 25 = .ok (.aload_n 1, 1) := dk_43 (dk_at dksX0_laysRings_1 1 rfl rfl)
theorem dX0_laysRings_26 : decode cX0_laysRings 26 = .ok (.getfield 173, 3) := dk_180 0 173 (dk_at dksX0_laysRings_1 2 rfl rfl)
theorem dX0_laysRings_29 : decode cX0_laysRings 29 = .ok (.iload_n 3, 1) := dk_29 (dk_at dksX0_laysRings_1 5 rfl rfl)
theorem dX0_laysRings_30 : decode cX0_laysRings 30 = .ok (.iaload, 1) := dk_46 (dk_at dksX0_laysRings_1 6 rfl rfl)
theorem dX0_laysRings_31 : decode cX0_laysRings 31 = .ok (.iastore, 1) := dk_79 (dk_at dksX0_laysRings_1 7 rfl rfl)
theorem dX0_laysRings_32 : decode cX0_laysRings 32 = .ok (.iload_n 2, 1) := dk_28 (dk_at dksX0_laysRings_1 8 rfl rfl)
theorem dX0_laysRings_33 : decode cX0_laysRings 33 = .ok (.aload_n 1, 1) := dk_43 (dk_at dksX0_laysRings_1 9 rfl rfl)
theorem dX0_laysRings_34 : decode cX0_laysRings 34 = .ok (.getfield 173, 3) := dk_180 0 173 (dk_at dksX0_laysRings_1 10 rfl rfl)
theorem dX0_laysRings_37 : decode cX0_laysRings 37 = .ok (.iload_n 3, 1) := dk_29 (dk_at dksX0_laysRings_1 13 rfl rfl)
theorem dX0_laysRings_38 : decode cX0_laysRings 38 = .ok (.iaload, 1) := dk_46 (dk_at dksX0_laysRings_1 14 rfl rfl)
theorem dX0_laysRings_39 : decode cX0_laysRings 39 = .ok (.iconst (-1), 1) := dk_2 (dk_at dksX0_laysRings_1 15 rfl rfl)
theorem dX0_laysRings_40 : decode cX0_laysRings 40 = .ok (.if_icmp .ne 7, 3) := dk_160 0 7 (dk_at dksX0_laysRings_1 16 rfl rfl)
theorem dX0_laysRings_43 : decode cX0_laysRings 43 = .ok (.iconst 0, 1) := dk_3 (dk_at dksX0_laysRings_1 19 rfl rfl)
theorem dX0_laysRings_44 : decode cX0_laysRings 44 = .ok (.goto 6, 3) := dk_167 0 6 (dk_at dksX0_laysRings_1 20 rfl rfl)
theorem dX0_laysRings_47 : decode cX0_laysRings 47 = .ok (.iconst 1, 1) := dk_4 (dk_at dksX0_laysRings_1 23 rfl rfl)
theorem dX0_laysRings_48 : decode cX0_laysRings 48 = .ok (.iload_n 3, 1) := dk_29 (dk_at dksX0_laysRings_2 0 rfl rfl)
theorem dX0_laysRings_49 : decode cX0_laysRings 49 = .ok (.ishl, 1) := dk_120 (dk_at dksX0_laysRings_2 1 rfl rfl)
theorem dX0_laysRings_50 : decode cX0_laysRings 50 = .ok (.ior, 1) := dk_128 (dk_at dksX0_laysRings_2 2 rfl rfl)
theorem dX0_laysRings_51 : decode cX0_laysRings 51 = .ok (.istore_n 2, 1) := dk_61 (dk_at dksX0_laysRings_2 3 rfl rfl)
theorem dX0_laysRings_52 : decode cX0_laysRings 52 = .ok (.iinc 3 1, 3) := dk_132 3 1 (dk_at dksX0_laysRings_2 4 rfl rfl)
theorem dX0_laysRings_55 : decode cX0_laysRings 55 = .ok (.goto (-46), 3) := dk_167 255 210 (dk_at dksX0_laysRings_2 7 rfl rfl)
theorem dX0_laysRings_58 : decode cX0_laysRings 58 = .ok (.iload_n 2, 1) := dk_28 (dk_at dksX0_laysRings_2 10 rfl rfl)
theorem dX0_laysRings_59 : decode cX0_laysRings 59 = .ok (.ifCond .eq 61, 3) := dk_153 0 61 (dk_at dksX0_laysRings_2 11 rfl rfl)
theorem dX0_laysRings_62 : decode cX0_laysRings 62 = .ok (.iconst 0, 1) := dk_3 (dk_at dksX0_laysRings_2 14 rfl rfl)
theorem dX0_laysRings_63 : decode cX0_laysRings 63 = .ok (.istore_n 3, 1) := dk_62 (dk_at dksX0_laysRings_2 15 rfl rfl)
theorem dX0_laysRings_64 : decode cX0_laysRings 64 = .ok (.iload_n 3, 1) := dk_29 (dk_at dksX0_laysRings_2 16 rfl rfl)
theorem dX0_laysRings_65 : decode cX0_laysRings 65 = .ok (.aload_n 0, 1) := dk_42 (dk_at dksX0_laysRings_2 17 rfl rfl)
theorem dX0_laysRings_66 : decode cX0_laysRings 66 = .ok (.getfield 12, 3) := dk_180 0 12 (dk_at dksX0_laysRings_2 18 rfl rfl)
theorem dX0_laysRings_69 : decode cX0_laysRings 69 = .ok (.getfield 141, 3) := dk_180 0 141 (dk_at dksX0_laysRings_2 21 rfl rfl)
theorem dX0_laysRings_72 : decode cX0_laysRings 72 = .ok (.if_icmp .ge 34, 3) := dk_162 0 34 (dk_at dksX0_laysRings_3 0 rfl rfl)
theorem dX0_laysRings_75 : decode cX0_laysRings 75 = .ok (.aload_n 0, 1) := dk_42 (dk_at dksX0_laysRings_3 3 rfl rfl)
theorem dX0_laysRings_76 : decode cX0_laysRings 76 = .ok (.getfield 44, 3) := dk_180 0 44 (dk_at dksX0_laysRings_3 4 rfl rfl)
theorem dX0_laysRings_79 : decode cX0_laysRings 79 = .ok (.iload_n 3, 1) := dk_29 (dk_at dksX0_laysRings_3 7 rfl rfl)
theorem dX0_laysRings_80 : decode cX0_laysRings 80 = .ok (.iload_n 2, 1) := dk_28 (dk_at dksX0_laysRings_3 8 rfl rfl)
theorem dX0_laysRings_81 : decode cX0_laysRings 81 = .ok (.iload_n 3, 1) := dk_29 (dk_at dksX0_laysRings_3 9 rfl rfl)
theorem dX0_laysRings_82 : decode cX0_laysRings 82 = .ok (.invokestatic 271, 3) := dk_184 1 15 (dk_at dksX0_laysRings_3 10 rfl rfl)
theorem dX0_laysRings_85 : decode cX0_laysRings 85 = .ok (.ifCond .eq 13, 3) := dk_153 0 13 (dk_at dksX0_laysRings_3 13 rfl rfl)
theorem dX0_laysRings_88 : decode cX0_laysRings 88 = .ok (.aload_n 0, 1) := dk_42 (dk_at dksX0_laysRings_3 16 rfl rfl)
theorem dX0_laysRings_89 : decode cX0_laysRings 89 = .ok (.aload_n 1, 1) := dk_43 (dk_at dksX0_laysRings_3 17 rfl rfl)
theorem dX0_laysRings_90 : decode cX0_laysRings 90 = .ok (.iload_n 3, 1) := dk_29 (dk_at dksX0_laysRings_3 18 rfl rfl)
theorem dX0_laysRings_91 : decode cX0_laysRings 91 = .ok (.iload_n 2, 1) := dk_28 (dk_at dksX0_laysRings_3 19 rfl rfl)
theorem dX0_laysRings_92 : decode cX0_laysRings 92 = .ok (.invokevirtual 278, 3) := dk_182 1 22 (dk_at dksX0_laysRings_3 20 rfl rfl)
theorem dX0_laysRings_95 : decode cX0_laysRings 95 = .ok (.goto 4, 3) := dk_167 0 4 (dk_at dksX0_laysRings_4 0 rfl rfl)
theorem dX0_laysRings_98 : decode cX0_laysRings 98 = .ok (.iconst (-1), 1) := dk_2 (dk_at dksX0_laysRings_4 3 rfl rfl)
theorem dX0_laysRings_99 : decode cX0_laysRings 99 = .ok (.iastore, 1) := dk_79 (dk_at dksX0_laysRings_4 4 rfl rfl)
theorem dX0_laysRings_100 : decode cX0_laysRings 100 = .ok (.iinc 3 1, 3) := dk_132 3 1 (dk_at dksX0_laysRings_4 5 rfl rfl)
theorem dX0_laysRings_103 : decode cX0_laysRings 103 = .ok (.goto (-39), 3) := dk_167 255 217 (dk_at dksX0_laysRings_4 8 rfl rfl)
theorem dX0_laysRings_106 : decode cX0_laysRings 106 = .ok (.iload_n 2, 1) := dk_28 (dk_at dksX0_laysRings_4 11 rfl rfl)
theorem dX0_laysRings_107 : decode cX0_laysRings 107 = .ok (.aload_n 0, 1) := dk_42 (dk_at dksX0_laysRings_4 12 rfl rfl)
theorem dX0_laysRings_108 : decode cX0_laysRings 108 = .ok (.aload_n 1, 1) := dk_43 (dk_at dksX0_laysRings_4 13 rfl rfl)
theorem dX0_laysRings_109 : decode cX0_laysRings 109 = .ok (.iload_n 2, 1) := dk_28 (dk_at dksX0_laysRings_4 14 rfl rfl)
theorem dX0_laysRings_110 : decode cX0_laysRings 110 = .ok (.invokevirtual 282, 3) := dk_182 1 26 (dk_at dksX0_laysRings_4 15 rfl rfl)
theorem dX0_laysRings_113 : decode cX0_laysRings 113 = .ok (.iconst (-1), 1) := dk_2 (dk_at dksX0_laysRings_4 18 rfl rfl)
theorem dX0_laysRings_114 : decode cX0_laysRings 114 = .ok (.ixor, 1) := dk_130 (dk_at dksX0_laysRings_4 19 rfl rfl)
theorem dX0_laysRings_115 : decode cX0_laysRings 115 = .ok (.iand, 1) := dk_126 (dk_at dksX0_laysRings_4 20 rfl rfl)
theorem dX0_laysRings_116 : decode cX0_laysRings 116 = .ok (.istore_n 2, 1) := dk_61 (dk_at dksX0_laysRings_4 21 rfl rfl)
theorem dX0_laysRings_117 : decode cX0_laysRings 117 = .ok (.goto (-59), 3) := dk_167 255 197 (dk_at dksX0_laysRings_5 0 rfl rfl)
theorem dX0_laysRings_120 : decode cX0_laysRings 120 = .ok (.return_, 1) := dk_177 (dk_at dksX0_laysRings_5 3 rfl rfl)
abbrev cX0_has : ByteArray := prog_1_method_2_code
def yX0_has : MethodName := ⟨RX0, "has", "(II)Z"⟩
def dkwX0_has_0 : List UInt8 := [26, 27, 122, 4, 126, 4, 160, 0, 7, 4, 167, 0, 4, 3, 172]
abbrev dktX0_has_0 : List UInt8 := dkwX0_has_0 ++ []
theorem dksX0_has_0 : cX0_has.data.toList.drop 0 = dktX0_has_0 := by decide +kernel
theorem dX0_has_0 : decode cX0_has 0 = .ok (.iload_n 0, 1) := dk_26 (dk_at dksX0_has_0 0 rfl rfl)
theorem dX0_has_1 : decode cX0_has 1 = .ok (.iload_n 1, 1) := dk_27 (dk_at dksX0_has_0 1 rfl rfl)
theorem dX0_has_2 : decode cX0_has 2 = .ok (.ishr, 1) := dk_122 (dk_at dksX0_has_0 2 rfl rfl)
theorem dX0_has_3 : decode cX0_has 3 = .ok (.iconst 1, 1) := dk_4 (dk_at dksX0_has_0 3 rfl rfl)
theorem dX0_has_4 : decode cX0_has 4 = .ok (.iand, 1) := dk_126 (dk_at dksX0_has_0 4 rfl rfl)
theorem dX0_has_5 : decode cX0_has 5 = .ok (.iconst 1, 1) := dk_4 (dk_at dksX0_has_0 5 rfl rfl)
theorem dX0_has_6 : decode cX0_has 6 = .ok (.if_icmp .ne 7, 3) := dk_160 0 7 (dk_at dksX0_has_0 6 rfl rfl)
theorem dX0_has_9 : decode cX0_has 9 = .ok (.iconst 1, 1) := dk_4 (dk_at dksX0_has_0 9 rfl rfl)
theorem dX0_has_10 : decode cX0_has 10 = .ok (.goto 4, 3) := dk_167 0 4 (dk_at dksX0_has_0 10 rfl rfl)
theorem dX0_has_13 : decode cX0_has 13 = .ok (.iconst 0, 1) := dk_3 (dk_at dksX0_has_0 13 rfl rfl)
theorem dX0_has_14 : decode cX0_has 14 = .ok (.ireturn, 1) := dk_172 (dk_at dksX0_has_0 14 rfl rfl)
abbrev cX0_pointsAt : ByteArray := prog_1_method_31_code
def yX0_pointsAt : MethodName := ⟨RX0, "pointsAt", "(LSunkTower$State;II)I"⟩
def dkwX0_pointsAt_4 : List UInt8 := [21, 4, 172]
abbrev dktX0_pointsAt_4 : List UInt8 := dkwX0_pointsAt_4 ++ []
def dkwX0_pointsAt_3 : List UInt8 := [21, 5, 46, 43, 180, 0, 173, 21, 4, 46, 164, 0, 7, 21, 5, 54, 4, 132, 5, 1, 167, 255, 171]
abbrev dktX0_pointsAt_3 : List UInt8 := dkwX0_pointsAt_3 ++ dktX0_pointsAt_4
def dkwX0_pointsAt_2 : List UInt8 := [21, 4, 46, 182, 0, 187, 100, 54, 6, 21, 6, 157, 0, 25, 21, 6, 154, 0, 24, 43, 180, 0, 173]
abbrev dktX0_pointsAt_2 : List UInt8 := dkwX0_pointsAt_2 ++ dktX0_pointsAt_3
def dkwX0_pointsAt_1 : List UInt8 := [154, 0, 6, 167, 0, 61, 43, 28, 43, 180, 0, 173, 21, 5, 46, 182, 0, 187, 43, 28, 43, 180, 0, 173]
abbrev dktX0_pointsAt_1 : List UInt8 := dkwX0_pointsAt_1 ++ dktX0_pointsAt_2
def dkwX0_pointsAt_0 : List UInt8 := [28, 54, 4, 3, 54, 5, 21, 5, 42, 180, 0, 12, 180, 0, 141, 162, 0, 79, 29, 21, 5, 184, 1, 15]
abbrev dktX0_pointsAt_0 : List UInt8 := dkwX0_pointsAt_0 ++ dktX0_pointsAt_1
theorem dksX0_pointsAt_0 : cX0_pointsAt.data.toList.drop 0 = dktX0_pointsAt_0 := by decide +kernel
theorem dksX0_pointsAt_1 : cX0_pointsAt.data.toList.drop 24 = dktX0_pointsAt_1 := dk_seg dksX0_pointsAt_0 24 rfl rfl
theorem dksX0_pointsAt_2 : cX0_pointsAt.data.toList.drop 48 = dktX0_pointsAt_2 := dk_seg dksX0_pointsAt_1 24 rfl rfl
theorem dksX0_pointsAt_3 : cX0_pointsAt.data.toList.drop 71 = dktX0_pointsAt_3 := dk_seg dksX0_pointsAt_2 23 rfl rfl
theorem dksX0_pointsAt_4 : cX0_pointsAt.data.toList.drop 94 = dktX0_pointsAt_4 := dk_seg dksX0_pointsAt_3 23 rfl rfl
theorem dX0_pointsAt_0 : decode cX0_pointsAt 0 = .ok (.iload_n 2, 1) := dk_28 (dk_at dksX0_pointsAt_0 0 rfl rfl)
theorem dX0_pointsAt_1 : decode cX0_pointsAt 1 = .ok (.istore 4, 2) := dk_54 4 (dk_at dksX0_pointsAt_0 1 rfl rfl)
theorem dX0_pointsAt_3 : decode cX0_pointsAt 3 = .ok (.iconst 0, 1) := dk_3 (dk_at dksX0_pointsAt_0 3 rfl rfl)
theorem dX0_pointsAt_4 : decode cX0_pointsAt 4 = .ok (.istore 5, 2) := dk_54 5 (dk_at dksX0_pointsAt_0 4 rfl rfl)
theorem dX0_pointsAt_6 : decode cX0_pointsAt 6 = .ok (.iload 5, 2) := dk_21 5 (dk_at dksX0_pointsAt_0 6 rfl rfl)
theorem dX0_pointsAt_8 : decode cX0_pointsAt 8 = .ok (.aload_n 0, 1) := dk_42 (dk_at dksX0_pointsAt_0 8 rfl rfl)
theorem dX0_pointsAt_9 : decode cX0_pointsAt 9 = .ok (.getfield 12, 3) := dk_180 0 12 (dk_at dksX0_pointsAt_0 9 rfl rfl)
theorem dX0_pointsAt_12 : decode cX0_pointsAt 12 = .ok (.getfield 141, 3) := dk_180 0 141 (dk_at dksX0_pointsAt_0 12 rfl rfl)
theorem dX0_pointsAt_15 : decode cX0_pointsAt 15 = .ok (.if_icmp .ge 79, 3) := dk_162 0 79 (dk_at dksX0_pointsAt_0 15 rfl rfl)
theorem dX0_pointsAt_18 : decode cX0_pointsAt 18 = .ok (.iload_n 3, 1) := dk_29 (dk_at dksX0_pointsAt_0 18 rfl rfl)
theorem dX0_pointsAt_19 : decode cX0_pointsAt 19 = .ok (.iload 5, 2) := dk_21 5 (dk_at dksX0_pointsAt_0 19 rfl rfl)
theorem dX0_pointsAt_21 : decode cX0_pointsAt 21 = .ok (.invokestatic 271, 3) := dk_184 1 15 (dk_at dksX0_pointsAt_0 21 rfl rfl)
theorem dX0_pointsAt_24 : decode cX0_pointsAt 24 = .ok (.ifCond .ne 6, 3) := dk_154 0 6 (dk_at dksX0_pointsAt_1 0 rfl rfl)
theorem dX0_pointsAt_27 : decode cX0_pointsAt 27 = .ok (.goto 61, 3) := dk_167 0 61 (dk_at dksX0_pointsAt_1 3 rfl rfl)
theorem dX0_pointsAt_30 : decode cX0_pointsAt 30 = .ok (.aload_n 1, 1) := dk_43 (dk_at dksX0_pointsAt_1 6 rfl rfl)
theorem dX0_pointsAt_31 : decode cX0_pointsAt 31 = .ok (.iload_n 2, 1) := dk_28 (dk_at dksX0_pointsAt_1 7 rfl rfl)
theorem dX0_pointsAt_32 : decode cX0_pointsAt 32 = .ok (.aload_n 1, 1) := dk_43 (dk_at dksX0_pointsAt_1 8 rfl rfl)
theorem dX0_pointsAt_33 : decode cX0_pointsAt 33 = .ok (.getfield 173, 3) := dk_180 0 173 (dk_at dksX0_pointsAt_1 9 rfl rfl)
theorem dX0_pointsAt_36 : decode cX0_pointsAt 36 = .ok (.iload 5, 2) := dk_21 5 (dk_at dksX0_pointsAt_1 12 rfl rfl)
theorem dX0_pointsAt_38 : decode cX0_pointsAt 38 = .ok (.iaload, 1) := dk_46 (dk_at dksX0_pointsAt_1 14 rfl rfl)
theorem dX0_pointsAt_39 : decode cX0_pointsAt 39 = .ok (.invokevirtual 187, 3) := dk_182 0 187 (dk_at dksX0_pointsAt_1 15 rfl rfl)
theorem dX0_pointsAt_42 : decode cX0_pointsAt 42 = .ok (.aload_n 1, 1) := dk_43 (dk_at dksX0_pointsAt_1 18 rfl rfl)
theorem dX0_pointsAt_43 : decode cX0_pointsAt 43 = .ok (.iload_n 2, 1) := dk_28 (dk_at dksX0_pointsAt_1 19 rfl rfl)
theorem dX0_pointsAt_44 : decode cX0_pointsAt 44 = .ok (.aload_n 1, 1) := dk_43 (dk_at dksX0_pointsAt_1 20 rfl rfl)
theorem dX0_pointsAt_45 : decode cX0_pointsAt 45 = .ok (.getfield 173, 3) := dk_180 0 173 (dk_at dksX0_pointsAt_1 21 rfl rfl)
theorem dX0_pointsAt_48 : decode cX0_pointsAt 48 = .ok (.iload 4, 2) := dk_21 4 (dk_at dksX0_pointsAt_2 0 rfl rfl)
theorem dX0_pointsAt_50 : decode cX0_pointsAt 50 = .ok (.iaload, 1) := dk_46 (dk_at dksX0_pointsAt_2 2 rfl rfl)
theorem dX0_pointsAt_51 : decode cX0_pointsAt 51 = .ok (.invokevirtual 187, 3) := dk_182 0 187 (dk_at dksX0_pointsAt_2 3 rfl rfl)
theorem dX0_pointsAt_54 : decode cX0_pointsAt 54 = .ok (.isub, 1) := dk_100 (dk_at dksX0_pointsAt_2 6 rfl rfl)
theorem dX0_pointsAt_55 : decode cX0_pointsAt 55 = .ok (.istore 6, 2) := dk_54 6 (dk_at dksX0_pointsAt_2 7 rfl rfl)
theorem dX0_pointsAt_57 : decode cX0_pointsAt 57 = .ok (.iload 6, 2) := dk_21 6 (dk_at dksX0_pointsAt_2 9 rfl rfl)
theorem dX0_pointsAt_59 : decode cX0_pointsAt 59 = .ok (.ifCond .gt 25, 3) := dk_157 0 25 (dk_at dksX0_pointsAt_2 11 rfl rfl)
theorem dX0_pointsAt_62 : decode cX0_pointsAt 62 = .ok (.iload 6, 2) := dk_21 6 (dk_at dksX0_pointsAt_2 14 rfl rfl)
theorem dX0_pointsAt_64 : decode cX0_pointsAt 64 = .ok (.ifCond .ne 24, 3) := dk_154 0 24 (dk_at dksX0_pointsAt_2 16 rfl rfl)
theorem dX0_pointsAt_67 : decode cX0_pointsAt 67 = .ok (.aload_n 1, 1) := dk_43 (dk_at dksX0_pointsAt_2 19 rfl rfl)
theorem dX0_pointsAt_68 : decode cX0_pointsAt 68 = .ok (.getfield 173, 3) := dk_180 0 173 (dk_at dksX0_pointsAt_2 20 rfl rfl)
theorem dX0_pointsAt_71 : decode cX0_pointsAt 71 = .ok (.iload 5, 2) := dk_21 5 (dk_at dksX0_pointsAt_3 0 rfl rfl)
theorem dX0_pointsAt_73 : decode cX0_pointsAt 73 = .ok (.iaload, 1) := dk_46 (dk_at dksX0_pointsAt_3 2 rfl rfl)
theorem dX0_pointsAt_74 : decode cX0_pointsAt 74 = .ok (.aload_n 1, 1) := dk_43 (dk_at dksX0_pointsAt_3 3 rfl rfl)
theorem dX0_pointsAt_75 : decode cX0_pointsAt 75 = .ok (.getfield 173, 3) := dk_180 0 173 (dk_at dksX0_pointsAt_3 4 rfl rfl)
theorem dX0_pointsAt_78 : decode cX0_pointsAt 78 = .ok (.iload 4, 2) := dk_21 4 (dk_at dksX0_pointsAt_3 7 rfl rfl)
theorem dX0_pointsAt_80 : decode cX0_pointsAt 80 = .ok (.iaload, 1) := dk_46 (dk_at dksX0_pointsAt_3 9 rfl rfl)
theorem dX0_pointsAt_81 : decode cX0_pointsAt 81 = .ok (.if_icmp .le 7, 3) := dk_164 0 7 (dk_at dksX0_pointsAt_3 10 rfl rfl)
theorem dX0_pointsAt_84 : decode cX0_pointsAt 84 = .ok (.iload 5, 2) := dk_21 5 (dk_at dksX0_pointsAt_3 13 rfl rfl)
theorem dX0_pointsAt_86 : decode cX0_pointsAt 86 = .ok (.istore 4, 2) := dk_54 4 (dk_at dksX0_pointsAt_3 15 rfl rfl)
theorem dX0_pointsAt_88 : decode cX0_pointsAt 88 = .ok (.iinc 5 1, 3) := dk_132 5 1 (dk_at dksX0_pointsAt_3 17 rfl rfl)
theorem dX0_pointsAt_91 : decode cX0_pointsAt 91 = .ok (.goto (-85), 3) := dk_167 255 171 (dk_at dksX0_pointsAt_3 20 rfl rfl)
theorem dX0_pointsAt_94 : decode cX0_pointsAt 94 = .ok (.iload 4, 2) := dk_21 4 (dk_at dksX0_pointsAt_4 0 rfl rfl)
theorem dX0_pointsAt_96 : decode cX0_pointsAt 96 = .ok (.ireturn, 1) := dk_172 (dk_at dksX0_pointsAt_4 2 rfl rfl)
abbrev cX0_comeRound : ByteArray := prog_1_method_33_code
def yX0_comeRound : MethodName := ⟨RX0, "comeRound", "(LSunkTower$State;I)I"⟩
def dkwX0_comeRound_7 : List UInt8 := [167, 255, 97, 29, 172]
abbrev dktX0_comeRound_7 : List UInt8 := dkwX0_comeRound_7 ++ []
def dkwX0_comeRound_6 : List UInt8 := [21, 7, 43, 180, 0, 173, 42, 180, 0, 44, 21, 7, 46, 46, 79, 132, 7, 1, 167, 255, 212, 132, 4, 1]
abbrev dktX0_comeRound_6 : List UInt8 := dkwX0_comeRound_6 ++ dktX0_comeRound_7
def dkwX0_comeRound_5 : List UInt8 := [180, 0, 12, 180, 0, 141, 162, 0, 38, 21, 5, 21, 7, 184, 1, 15, 153, 0, 22, 42, 180, 0, 40]
abbrev dktX0_comeRound_5 : List UInt8 := dkwX0_comeRound_5 ++ dktX0_comeRound_6
def dkwX0_comeRound_4 : List UInt8 := [21, 5, 184, 1, 30, 4, 164, 0, 7, 4, 167, 0, 4, 3, 96, 181, 1, 19, 3, 54, 7, 21, 7, 42]
abbrev dktX0_comeRound_4 : List UInt8 := dkwX0_comeRound_4 ++ dktX0_comeRound_5
def dkwX0_comeRound_3 : List UInt8 := [167, 255, 226, 21, 6, 21, 4, 159, 0, 6, 167, 0, 81, 29, 21, 5, 128, 62, 42, 89, 180, 1, 19]
abbrev dktX0_comeRound_3 : List UInt8 := dkwX0_comeRound_3 ++ dktX0_comeRound_4
def dkwX0_comeRound_2 : List UInt8 := [184, 1, 15, 154, 0, 24, 21, 5, 4, 21, 6, 120, 128, 54, 5, 42, 180, 0, 44, 21, 6, 46, 54, 6]
abbrev dktX0_comeRound_2 : List UInt8 := dkwX0_comeRound_2 ++ dktX0_comeRound_3
def dkwX0_comeRound_1 : List UInt8 := [184, 1, 15, 154, 0, 6, 167, 0, 131, 3, 54, 5, 21, 4, 54, 6, 21, 5, 29, 128, 21, 6]
abbrev dktX0_comeRound_1 : List UInt8 := dkwX0_comeRound_1 ++ dktX0_comeRound_2
def dkwX0_comeRound_0 : List UInt8 := [3, 62, 3, 54, 4, 21, 4, 42, 180, 0, 12, 180, 0, 141, 162, 0, 153, 28, 29, 2, 130, 126, 21, 4]
abbrev dktX0_comeRound_0 : List UInt8 := dkwX0_comeRound_0 ++ dktX0_comeRound_1
theorem dksX0_comeRound_0 : cX0_comeRound.data.toList.drop 0 = dktX0_comeRound_0 := by decide +kernel
theorem dksX0_comeRound_1 : cX0_comeRound.data.toList.drop 24 = dktX0_comeRound_1 := dk_seg dksX0_comeRound_0 24 rfl rfl
theorem dksX0_comeRound_2 : cX0_comeRound.data.toList.drop 46 = dktX0_comeRound_2 := dk_seg dksX0_comeRound_1 22 rfl rfl
theorem dksX0_comeRound_3 : cX0_comeRound.data.toList.drop 70 = dktX0_comeRound_3 := dk_seg dksX0_comeRound_2 24 rfl rfl
theorem dksX0_comeRound_4 : cX0_comeRound.data.toList.drop 93 = dktX0_comeRound_4 := dk_seg dksX0_comeRound_3 23 rfl rfl
theorem dksX0_comeRound_5 : cX0_comeRound.data.toList.drop 117 = dktX0_comeRound_5 := dk_seg dksX0_comeRound_4 24 rfl rfl
theorem dksX0_comeRound_6 : cX0_comeRound.data.toList.drop 140 = dktX0_comeRound_6 := dk_seg dksX0_comeRound_5 23 rfl rfl
theorem dksX0_comeRound_7 : cX0_comeRound.data.toList.drop 164 = dktX0_comeRound_7 := dk_seg dksX0_comeRound_6 24 rfl rfl
theorem dX0_comeRound_0 : decode cX0_comeRound 0 = .ok (.iconst 0, 1) := dk_3 (dk_at dksX0_comeRound_0 0 rfl rfl)
theorem dX0_comeRound_1 : decode cX0_comeRound 1 = .ok (.istore_n 3, 1) := dk_62 (dk_at dksX0_comeRound_0 1 rfl rfl)
theorem dX0_comeRound_2 : decode cX0_comeRound 2 = .ok (.iconst 0, 1) := dk_3 (dk_at dksX0_comeRound_0 2 rfl rfl)
theorem dX0_comeRound_3 : decode cX0_comeRound 3 = .ok (.istore 4, 2) := dk_54 4 (dk_at dksX0_comeRound_0 3 rfl rfl)
theorem dX0_comeRound_5 : decode cX0_comeRound 5 = .ok (.iload 4, 2) := dk_21 4 (dk_at dksX0_comeRound_0 5 rfl rfl)
theorem dX0_comeRound_7 : decode cX0_comeRound 7 = .ok (.aload_n 0, 1) := dk_42 (dk_at dksX0_comeRound_0 7 rfl rfl)
theorem dX0_comeRound_8 : decode cX0_comeRound 8 = .ok (.getfield 12, 3) := dk_180 0 12 (dk_at dksX0_comeRound_0 8 rfl rfl)
theorem dX0_comeRound_11 : decode cX0_comeRound 11 = .ok (.getfield 141, 3) := dk_180 0 141 (dk_at dksX0_comeRound_0 11 rfl rfl)
theorem dX0_comeRound_14 : decode cX0_comeRound 14 = .ok (.if_icmp .ge 153, 3) := dk_162 0 153 (dk_at dksX0_comeRound_0 14 rfl rfl)
theorem dX0_comeRound_17 : decode cX0_comeRound 17 = .ok (.iload_n 2, 1) := dk_28 (dk_at dksX0_comeRound_0 17 rfl rfl)
theorem dX0_comeRound_18 : decode cX0_comeRound 18 = .ok (.iload_n 3, 1) := dk_29 (dk_at dksX0_comeRound_0 18 rfl rfl)
theorem dX0_comeRound_19 : decode cX0_comeRound 19 = .ok (.iconst (-1), 1) := dk_2 (dk_at dksX0_comeRound_0 19 rfl rfl)
theorem dX0_comeRound_20 : decode cX0_comeRound 20 = .ok (.ixor, 1) := dk_130 (dk_at dksX0_comeRound_0 20 rfl rfl)
theorem dX0_comeRound_21 : decode cX0_comeRound 21 = .ok (.iand, 1) := dk_126 (dk_at dksX0_comeRound_0 21 rfl rfl)
theorem dX0_comeRound_22 : decode cX0_comeRound 22 = .ok (.iload 4, 2) := dk_21 4 (dk_at dksX0_comeRound_0 22 rfl rfl)
theorem dX0_comeRound_24 : decode cX0_comeRound 24 = .ok (.invokestatic 271, 3) := dk_184 1 15 (dk_at dksX0_comeRound_1 0 rfl rfl)
theorem dX0_comeRound_27 : decode cX0_comeRound 27 = .ok (.ifCond .ne 6, 3) := dk_154 0 6 (dk_at dksX0_comeRound_1 3 rfl rfl)
theorem dX0_comeRound_30 : decode cX0_comeRound 30 = .ok (.goto 131, 3) := dk_167 0 131 (dk_at dksX0_comeRound_1 6 rfl rfl)
theorem dX0_comeRound_33 : decode cX0_comeRound 33 = .ok (.iconst 0, 1) := dk_3 (dk_at dksX0_comeRound_1 9 rfl rfl)
theorem dX0_comeRound_34 : decode cX0_comeRound 34 = .ok (.istore 5, 2) := dk_54 5 (dk_at dksX0_comeRound_1 10 rfl rfl)
theorem dX0_comeRound_36 : decode cX0_comeRound 36 = .ok (.iload 4, 2) := dk_21 4 (dk_at dksX0_comeRound_1 12 rfl rfl)
theorem dX0_comeRound_38 : decode cX0_comeRound 38 = .ok (.istore 6, 2) := dk_54 6 (dk_at dksX0_comeRound_1 14 rfl rfl)
theorem dX0_comeRound_40 : decode cX0_comeRound 40 = .ok (.iload 5, 2) := dk_21 5 (dk_at dksX0_comeRound_1 16 rfl rfl)
theorem dX0_comeRound_42 : decode cX0_comeRound 42 = .ok (.iload_n 3, 1) := dk_29 (dk_at dksX0_comeRound_1 18 rfl rfl)
theorem dX0_comeRound_43 : decode cX0_comeRound 43 = .ok (.ior, 1) := dk_128 (dk_at dksX0_comeRound_1 19 rfl rfl)
theorem dX0_comeRound_44 : decode cX0_comeRound 44 = .ok (.iload 6, 2) := dk_21 6 (dk_at dksX0_comeRound_1 20 rfl rfl)
theorem dX0_comeRound_46 : decode cX0_comeRound 46 = .ok (.invokestatic 271, 3) := dk_184 1 15 (dk_at dksX0_comeRound_2 0 rfl rfl)
theorem dX0_comeRound_49 : decode cX0_comeRound 49 = .ok (.ifCond .ne 24, 3) := dk_154 0 24 (dk_at dksX0_comeRound_2 3 rfl rfl)
theorem dX0_comeRound_52 : decode cX0_comeRound 52 = .ok (.iload 5, 2) := dk_21 5 (dk_at dksX0_comeRound_2 6 rfl rfl)
theorem dX0_comeRound_54 : decode cX0_comeRound 54 = .ok (.iconst 1, 1) := dk_4 (dk_at dksX0_comeRound_2 8 rfl rfl)
theorem dX0_comeRound_55 : decode cX0_comeRound 55 = .ok (.iload 6, 2) := dk_21 6 (dk_at dksX0_comeRound_2 9 rfl rfl)
theorem dX0_comeRound_57 : decode cX0_comeRound 57 = .ok (.ishl, 1) := dk_120 (dk_at dksX0_comeRound_2 11 rfl rfl)
theorem dX0_comeRound_58 : decode cX0_comeRound 58 = .ok (.ior, 1) := dk_128 (dk_at dksX0_comeRound_2 12 rfl rfl)
theorem dX0_comeRound_59 : decode cX0_comeRound 59 = .ok (.istore 5, 2) := dk_54 5 (dk_at dksX0_comeRound_2 13 rfl rfl)
theorem dX0_comeRound_61 : decode cX0_comeRound 61 = .ok (.aload_n 0, 1) := dk_42 (dk_at dksX0_comeRound_2 15 rfl rfl)
theorem dX0_comeRound_62 : decode cX0_comeRound 62 = .ok (.getfield 44, 3) := dk_180 0 44 (dk_at dksX0_comeRound_2 16 rfl rfl)
theorem dX0_comeRound_65 : decode cX0_comeRound 65 = .ok (.iload 6, 2) := dk_21 6 (dk_at dksX0_comeRound_2 19 rfl rfl)
theorem dX0_comeRound_67 : decode cX0_comeRound 67 = .ok (.iaload, 1) := dk_46 (dk_at dksX0_comeRound_2 21 rfl rfl)
theorem dX0_comeRound_68 : decode cX0_comeRound 68 = .ok (.istore 6, 2) := dk_54 6 (dk_at dksX0_comeRound_2 22 rfl rfl)
theorem dX0_comeRound_70 : decode cX0_comeRound 70 = .ok (.goto (-30), 3) := dk_167 255 226 (dk_at dksX0_comeRound_3 0 rfl rfl)
theorem dX0_comeRound_73 : decode cX0_comeRound 73 = .ok (.iload 6, 2) := dk_21 6 (dk_at dksX0_comeRound_3 3 rfl rfl)
theorem dX0_comeRound_75 : decode cX0_comeRound 75 = .ok (.iload 4, 2) := dk_21 4 (dk_at dksX0_comeRound_3 5 rfl rfl)
theorem dX0_comeRound_77 : decode cX0_comeRound 77 = .ok (.if_icmp .eq 6, 3) := dk_159 0 6 (dk_at dksX0_comeRound_3 7 rfl rfl)
theorem dX0_comeRound_80 : decode cX0_comeRound 80 = .ok (.goto 81, 3) := dk_167 0 81 (dk_at dksX0_comeRound_3 10 rfl rfl)
theorem dX0_comeRound_83 : decode cX0_comeRound 83 = .ok (.iload_n 3, 1) := dk_29 (dk_at dksX0_comeRound_3 13 rfl rfl)
theorem dX0_comeRound_84 : decode cX0_comeRound 84 = .ok (.iload 5, 2) := dk_21 5 (dk_at dksX0_comeRound_3 14 rfl rfl)
theorem dX0_comeRound_86 : decode cX0_comeRound 86 = .ok (.ior, 1) := dk_128 (dk_at dksX0_comeRound_3 16 rfl rfl)
theorem dX0_comeRound_87 : decode cX0_comeRound 87 = .ok (.istore_n 3, 1) := dk_62 (dk_at dksX0_comeRound_3 17 rfl rfl)
theorem dX0_comeRound_88 : decode cX0_comeRound 88 = .ok (.aload_n 0, 1) := dk_42 (dk_at dksX0_comeRound_3 18 rfl rfl)
theorem dX0_comeRound_89 : decode cX0_comeRound 89 = .ok (.dup, 1) := dk_89 (dk_at dksX0_comeRound_3 19 rfl rfl)
theorem dX0_comeRound_90 : decode cX0_comeRound 90 = .ok (.getfield 275, 3) := dk_180 1 19 (dk_at dksX0_comeRound_3 20 rfl rfl)
theorem dX0_comeRound_93 : decode cX0_comeRound 93 = .ok (.iload 5, 2) := dk_21 5 (dk_at dksX0_comeRound_4 0 rfl rfl)
theorem dX0_comeRound_95 : decode cX0_comeRound 95 = .ok (.invokestatic 286, 3) := dk_184 1 30 (dk_at dksX0_comeRound_4 2 rfl rfl)
theorem dX0_comeRound_98 : decode cX0_comeRound 98 = .ok (.iconst 1, 1) := dk_4 (dk_at dksX0_comeRound_4 5 rfl rfl)
theorem dX0_comeRound_99 : decode cX0_comeRound 99 = .ok (.if_icmp .le 7, 3) := dk_164 0 7 (dk_at dksX0_comeRound_4 6 rfl rfl)
theorem dX0_comeRound_102 : decode cX0_comeRound 102 = .ok (.iconst 1, 1) := dk_4 (dk_at dksX0_comeRound_4 9 rfl rfl)
theorem dX0_comeRound_103 : decode cX0_comeRound 103 = .ok (.goto 4, 3) := dk_167 0 4 (dk_at dksX0_comeRound_4 10 rfl rfl)
theorem dX0_comeRound_106 : decode cX0_comeRound 106 = .ok (.iconst 0, 1) := dk_3 (dk_at dksX0_comeRound_4 13 rfl rfl)
theorem dX0_comeRound_107 : decode cX0_comeRound 107 = .ok (.iadd, 1) := dk_96 (dk_at dksX0_comeRound_4 14 rfl rfl)
theorem dX0_comeRound_108 : decode cX0_comeRound 108 = .ok (.putfield 275, 3) := dk_181 1 19 (dk_at dksX0_comeRound_4 15 rfl rfl)
theorem dX0_comeRound_111 : decode cX0_comeRound 111 = .ok (.iconst 0, 1) := dk_3 (dk_at dksX0_comeRound_4 18 rfl rfl)
theorem dX0_comeRound_112 : decode cX0_comeRound 112 = .ok (.istore 7, 2) := dk_54 7 (dk_at dksX0_comeRound_4 19 rfl rfl)
theorem dX0_comeRound_114 : decode cX0_comeRound 114 = .ok (.iload 7, 2) := dk_21 7 (dk_at dksX0_comeRound_4 21 rfl rfl)
theorem dX0_comeRound_116 : decode cX0_comeRound 116 = .ok (.aload_n 0, 1) := dk_42 (dk_at dksX0_comeRound_4 23 rfl rfl)
theorem dX0_comeRound_117 : decode cX0_comeRound 117 = .ok (.getfield 12, 3) := dk_180 0 12 (dk_at dksX0_comeRound_5 0 rfl rfl)
theorem dX0_comeRound_120 : decode cX0_comeRound 120 = .ok (.getfield 141, 3) := dk_180 0 141 (dk_at dksX0_comeRound_5 3 rfl rfl)
theorem dX0_comeRound_123 : decode cX0_comeRound 123 = .ok (.if_icmp .ge 38, 3) := dk_162 0 38 (dk_at dksX0_comeRound_5 6 rfl rfl)
theorem dX0_comeRound_126 : decode cX0_comeRound 126 = .ok (.iload 5, 2) := dk_21 5 (dk_at dksX0_comeRound_5 9 rfl rfl)
theorem dX0_comeRound_128 : decode cX0_comeRound 128 = .ok (.iload 7, 2) := dk_21 7 (dk_at dksX0_comeRound_5 11 rfl rfl)
theorem dX0_comeRound_130 : decode cX0_comeRound 130 = .ok (.invokestatic 271, 3) := dk_184 1 15 (dk_at dksX0_comeRound_5 13 rfl rfl)
theorem dX0_comeRound_133 : decode cX0_comeRound 133 = .ok (.ifCond .eq 22, 3) := dk_153 0 22 (dk_at dksX0_comeRound_5 16 rfl rfl)
theorem dX0_comeRound_136 : decode cX0_comeRound 136 = .ok (.aload_n 0, 1) := dk_42 (dk_at dksX0_comeRound_5 19 rfl rfl)
theorem dX0_comeRound_137 : decode cX0_comeRound 137 = .ok (.getfield 40, 3) := dk_180 0 40 (dk_at dksX0_comeRound_5 20 rfl rfl)
theorem dX0_comeRound_140 : decode cX0_comeRound 140 = .ok (.iload 7, 2) := dk_21 7 (dk_at dksX0_comeRound_6 0 rfl rfl)
theorem dX0_comeRound_142 : decode cX0_comeRound 142 = .ok (.aload_n 1, 1) := dk_43 (dk_at dksX0_comeRound_6 2 rfl rfl)
theorem dX0_comeRound_143 : decode cX0_comeRound 143 = .ok (.getfield 173, 3) := dk_180 0 173 (dk_at dksX0_comeRound_6 3 rfl rfl)
theorem dX0_comeRound_146 : decode cX0_comeRound 146 = .ok (.aload_n 0, 1) := dk_42 (dk_at dksX0_comeRound_6 6 rfl rfl)
theorem dX0_comeRound_147 : decode cX0_comeRound 147 = .ok (.getfield 44, 3) := dk_180 0 44 (dk_at dksX0_comeRound_6 7 rfl rfl)
theorem dX0_comeRound_150 : decode cX0_comeRound 150 = .ok (.iload 7, 2) := dk_21 7 (dk_at dksX0_comeRound_6 10 rfl rfl)
theorem dX0_comeRound_152 : decode cX0_comeRound 152 = .ok (.iaload, 1) := dk_46 (dk_at dksX0_comeRound_6 12 rfl rfl)
theorem dX0_comeRound_153 : decode cX0_comeRound 153 = .ok (.iaload, 1) := dk_46 (dk_at dksX0_comeRound_6 13 rfl rfl)
theorem dX0_comeRound_154 : decode cX0_comeRound 154 = .ok (.iastore, 1) := dk_79 (dk_at dksX0_comeRound_6 14 rfl rfl)
theorem dX0_comeRound_155 : decode cX0_comeRound 155 = .ok (.iinc 7 1, 3) := dk_132 7 1 (dk_at dksX0_comeRound_6 15 rfl rfl)
theorem dX0_comeRound_158 : decode cX0_comeRound 158 = .ok (.goto (-44), 3) := dk_167 255 212 (dk_at dksX0_comeRound_6 18 rfl rfl)
theorem dX0_comeRound_161 : decode cX0_comeRound 161 = .ok (.iinc 4 1, 3) := dk_132 4 1 (dk_at dksX0_comeRound_6 21 rfl rfl)
theorem dX0_comeRound_164 : decode cX0_comeRound 164 = .ok (.goto (-159), 3) := dk_167 255 97 (dk_at dksX0_comeRound_7 0 rfl rfl)
theorem dX0_comeRound_167 : decode cX0_comeRound 167 = .ok (.iload_n 3, 1) := dk_29 (dk_at dksX0_comeRound_7 3 rfl rfl)
theorem dX0_comeRound_168 : decode cX0_comeRound 168 = .ok (.ireturn, 1) := dk_172 (dk_at dksX0_comeRound_7 4 rfl rfl)
abbrev cX0_undo : ByteArray := prog_1_method_24_code
def yX0_undo : MethodName := ⟨RX0, "undo", "(I)I"⟩
def dkwX0_undo_2 : List UInt8 := [180, 0, 36, 42, 180, 0, 191, 50, 182, 0, 194, 87, 42, 180, 0, 132, 172]
abbrev dktX0_undo_2 : List UInt8 := dkwX0_undo_2 ++ []
def dkwX0_undo_1 : List UInt8 := [96, 27, 100, 16, 10, 112, 181, 0, 191, 42, 89, 180, 0, 132, 27, 100, 181, 0, 132, 42, 180, 0, 21, 42]
abbrev dktX0_undo_1 : List UInt8 := dkwX0_undo_1 ++ dktX0_undo_2
def dkwX0_undo_0 : List UInt8 := [27, 133, 10, 42, 180, 0, 132, 133, 184, 0, 108, 154, 0, 6, 16, 253, 172, 42, 42, 180, 0, 191, 16, 10]
abbrev dktX0_undo_0 : List UInt8 := dkwX0_undo_0 ++ dktX0_undo_1
theorem dksX0_undo_0 : cX0_undo.data.toList.drop 0 = dktX0_undo_0 := by decide +kernel
theorem dksX0_undo_1 : cX0_undo.data.toList.drop 24 = dktX0_undo_1 := dk_seg dksX0_undo_0 24 rfl rfl
theorem dksX0_undo_2 : cX0_undo.data.toList.drop 48 = dktX0_undo_2 := dk_seg dksX0_undo_1 24 rfl rfl
theorem dX0_undo_0 : decode cX0_undo 0 = .ok (.iload_n 1, 1) := dk_27 (dk_at dksX0_undo_0 0 rfl rfl)
theorem dX0_undo_1 : decode cX0_undo 1 = .ok (.i2l, 1) := dk_133 (dk_at dksX0_undo_0 1 rfl rfl)
theorem dX0_undo_2 : decode cX0_undo 2 = .ok (.lconst 1, 1) := dk_10 (dk_at dksX0_undo_0 2 rfl rfl)
theorem dX0_undo_3 : decode cX0_undo 3 = .ok (.aload_n 0, 1) := dk_42 (dk_at dksX0_undo_0 3 rfl rfl)
theorem dX0_undo_4 : decode cX0_undo 4 = .ok (.getfield 132, 3) := dk_180 0 132 (dk_at dksX0_undo_0 4 rfl rfl)
theorem dX0_undo_7 : decode cX0_undo 7 = .ok (.i2l, 1) := dk_133 (dk_at dksX0_undo_0 7 rfl rfl)
theorem dX0_undo_8 : decode cX0_undo 8 = .ok (.invokestatic 108, 3) := dk_184 0 108 (dk_at dksX0_undo_0 8 rfl rfl)
theorem dX0_undo_11 : decode cX0_undo 11 = .ok (.ifCond .ne 6, 3) := dk_154 0 6 (dk_at dksX0_undo_0 11 rfl rfl)
theorem dX0_undo_14 : decode cX0_undo 14 = .ok (.bipush (-3), 2) := dk_16 253 (dk_at dksX0_undo_0 14 rfl rfl)
theorem dX0_undo_16 : decode cX0_undo 16 = .ok (.ireturn, 1) := dk_172 (dk_at dksX0_undo_0 16 rfl rfl)
theorem dX0_undo_17 : decode cX0_undo 17 = .ok (.aload_n 0, 1) := dk_42 (dk_at dksX0_undo_0 17 rfl rfl)
theorem dX0_undo_18 : decode cX0_undo 18 = .ok (.aload_n 0, 1) := dk_42 (dk_at dksX0_undo_0 18 rfl rfl)
theorem dX0_undo_19 : decode cX0_undo 19 = .ok (.getfield 191, 3) := dk_180 0 191 (dk_at dksX0_undo_0 19 rfl rfl)
theorem dX0_undo_22 : decode cX0_undo 22 = .ok (.bipush 10, 2) := dk_16 10 (dk_at dksX0_undo_0 22 rfl rfl)
theorem dX0_undo_24 : decode cX0_undo 24 = .ok (.iadd, 1) := dk_96 (dk_at dksX0_undo_1 0 rfl rfl)
theorem dX0_undo_25 : decode cX0_undo 25 = .ok (.iload_n 1, 1) := dk_27 (dk_at dksX0_undo_1 1 rfl rfl)
theorem dX0_undo_26 : decode cX0_undo 26 = .ok (.isub, 1) := dk_100 (dk_at dksX0_undo_1 2 rfl rfl)
theorem dX0_undo_27 : decode cX0_undo 27 = .ok (.bipush 10, 2) := dk_16 10 (dk_at dksX0_undo_1 3 rfl rfl)
theorem dX0_undo_29 : decode cX0_undo 29 = .ok (.irem, 1) := dk_112 (dk_at dksX0_undo_1 5 rfl rfl)
theorem dX0_undo_30 : decode cX0_undo 30 = .ok (.putfield 191, 3) := dk_181 0 191 (dk_at dksX0_undo_1 6 rfl rfl)
theorem dX0_undo_33 : decode cX0_undo 33 = .ok (.aload_n 0, 1) := dk_42 (dk_at dksX0_undo_1 9 rfl rfl)
theorem dX0_undo_34 : decode cX0_undo 34 = .ok (.dup, 1) := dk_89 (dk_at dksX0_undo_1 10 rfl rfl)
theorem dX0_undo_35 : decode cX0_undo 35 = .ok (.getfield 132, 3) := dk_180 0 132 (dk_at dksX0_undo_1 11 rfl rfl)
theorem dX0_undo_38 : decode cX0_undo 38 = .ok (.iload_n 1, 1) := dk_27 (dk_at dksX0_undo_1 14 rfl rfl)
theorem dX0_undo_39 : decode cX0_undo 39 = .ok (.isub, 1) := dk_100 (dk_at dksX0_undo_1 15 rfl rfl)
theorem dX0_undo_40 : decode cX0_undo 40 = .ok (.putfield 132, 3) := dk_181 0 132 (dk_at dksX0_undo_1 16 rfl rfl)
theorem dX0_undo_43 : decode cX0_undo 43 = .ok (.aload_n 0, 1) := dk_42 (dk_at dksX0_undo_1 19 rfl rfl)
theorem dX0_undo_44 : decode cX0_undo 44 = .ok (.getfield 21, 3) := dk_180 0 21 (dk_at dksX0_undo_1 20 rfl rfl)
theorem dX0_undo_47 : decode cX0_undo 47 = .ok (.aload_n 0, 1) := dk_42 (dk_at dksX0_undo_1 23 rfl rfl)
theorem dX0_undo_48 : decode cX0_undo 48 = .ok (.getfield 36, 3) := dk_180 0 36 (dk_at dksX0_undo_2 0 rfl rfl)
theorem dX0_undo_51 : decode cX0_undo 51 = .ok (.aload_n 0, 1) := dk_42 (dk_at dksX0_undo_2 3 rfl rfl)
theorem dX0_undo_52 : decode cX0_undo 52 = .ok (.getfield 191, 3) := dk_180 0 191 (dk_at dksX0_undo_2 4 rfl rfl)
theorem dX0_undo_55 : decode cX0_undo 55 = .ok (.aaload, 1) := dk_50 (dk_at dksX0_undo_2 7 rfl rfl)
theorem dX0_undo_56 : decode cX0_undo 56 = .ok (.invokevirtual 194, 3) := dk_182 0 194 (dk_at dksX0_undo_2 8 rfl rfl)
theorem dX0_undo_59 : decode cX0_undo 59 = .ok (.pop, 1) := dk_87 (dk_at dksX0_undo_2 11 rfl rfl)
theorem dX0_undo_60 : decode cX0_undo 60 = .ok (.aload_n 0, 1) := dk_42 (dk_at dksX0_undo_2 12 rfl rfl)
theorem dX0_undo_61 : decode cX0_undo 61 = .ok (.getfield 132, 3) := dk_180 0 132 (dk_at dksX0_undo_2 13 rfl rfl)
theorem dX0_undo_64 : decode cX0_undo 64 = .ok (.ireturn, 1) := dk_172 (dk_at dksX0_undo_2 16 rfl rfl)
abbrev cX0_judge : ByteArray := prog_1_method_26_code
def yX0_judge : MethodName := ⟨RX0, "judge", "(II)I"⟩
def dkwX0_judge_5 : List UInt8 := [180, 0, 25, 180, 0, 253, 172, 42, 180, 0, 25, 180, 1, 0, 172]
abbrev dktX0_judge_5 : List UInt8 := dkwX0_judge_5 ++ []
def dkwX0_judge_4 : List UInt8 := [160, 0, 7, 3, 167, 0, 16, 42, 180, 0, 25, 45, 21, 4, 182, 0, 230, 182, 0, 234, 172, 42]
abbrev dktX0_judge_4 : List UInt8 := dkwX0_judge_4 ++ dktX0_judge_5
def dkwX0_judge_3 : List UInt8 := [21, 4, 45, 182, 0, 227, 160, 0, 7, 2, 167, 0, 5, 21, 4, 172, 21, 4, 45, 182, 0, 227]
abbrev dktX0_judge_3 : List UInt8 := dkwX0_judge_3 ++ dktX0_judge_4
def dkwX0_judge_2 : List UInt8 := [170, 0, 0, 0, 76, 0, 0, 0, 0, 0, 0, 0, 2, 0, 0, 0, 25, 0, 0, 0, 41, 0, 0, 0, 68]
abbrev dktX0_judge_2 : List UInt8 := dkwX0_judge_2 ++ dktX0_judge_3
def dkwX0_judge_1 : List UInt8 := [180, 0, 86, 27, 50, 78, 45, 180, 0, 245, 199, 0, 6, 16, 250, 172, 42, 45, 182, 0, 249, 54, 4, 28]
abbrev dktX0_judge_1 : List UInt8 := dkwX0_judge_1 ++ dktX0_judge_2
def dkwX0_judge_0 : List UInt8 := [27, 184, 0, 240, 153, 0, 15, 28, 133, 9, 20, 0, 243, 184, 0, 108, 154, 0, 6, 16, 254, 172, 42]
abbrev dktX0_judge_0 : List UInt8 := dkwX0_judge_0 ++ dktX0_judge_1
theorem dksX0_judge_0 : cX0_judge.data.toList.drop 0 = dktX0_judge_0 := by decide +kernel
theorem dksX0_judge_1 : cX0_judge.data.toList.drop 23 = dktX0_judge_1 := dk_seg dksX0_judge_0 23 rfl rfl
theorem dksX0_judge_2 : cX0_judge.data.toList.drop 47 = dktX0_judge_2 := dk_seg dksX0_judge_1 24 rfl rfl
theorem dksX0_judge_3 : cX0_judge.data.toList.drop 72 = dktX0_judge_3 := dk_seg dksX0_judge_2 25 rfl rfl
theorem dksX0_judge_4 : cX0_judge.data.toList.drop 94 = dktX0_judge_4 := dk_seg dksX0_judge_3 22 rfl rfl
theorem dksX0_judge_5 : cX0_judge.data.toList.drop 116 = dktX0_judge_5 := dk_seg dksX0_judge_4 22 rfl rfl
theorem dX0_judge_0 : decode cX0_judge 0 = .ok (.iload_n 1, 1) := dk_27 (dk_at dksX0_judge_0 0 rfl rfl)
theorem dX0_judge_1 : decode cX0_judge 1 = .ok (.invokestatic 240, 3) := dk_184 0 240 (dk_at dksX0_judge_0 1 rfl rfl)
theorem dX0_judge_4 : decode cX0_judge 4 = .ok (.ifCond .eq 15, 3) := dk_153 0 15 (dk_at dksX0_judge_0 4 rfl rfl)
theorem dX0_judge_7 : decode cX0_judge 7 = .ok (.iload_n 2, 1) := dk_28 (dk_at dksX0_judge_0 7 rfl rfl)
theorem dX0_judge_8 : decode cX0_judge 8 = .ok (.i2l, 1) := dk_133 (dk_at dksX0_judge_0 8 rfl rfl)
theorem dX0_judge_9 : decode cX0_judge 9 = .ok (.lconst 0, 1) := dk_9 (dk_at dksX0_judge_0 9 rfl rfl)
theorem dX0_judge_10 : decode cX0_judge 10 = .ok (.ldc2_w 243, 3) := dk_20 0 243 (dk_at dksX0_judge_0 10 rfl rfl)
theorem dX0_judge_13 : decode cX0_judge 13 = .ok (.invokestatic 108, 3) := dk_184 0 108 (dk_at dksX0_judge_0 13 rfl rfl)
theorem dX0_judge_16 : decode cX0_judge 16 = .ok (.ifCond .ne 6, 3) := dk_154 0 6 (dk_at dksX0_judge_0 16 rfl rfl)
theorem dX0_judge_19 : decode cX0_judge 19 = .ok (.bipush (-2), 2) := dk_16 254 (dk_at dksX0_judge_0 19 rfl rfl)
theorem dX0_judge_21 : decode cX0_judge 21 = .ok (.ireturn, 1) := dk_172 (dk_at dksX0_judge_0 21 rfl rfl)
theorem dX0_judge_22 : decode cX0_judge 22 = .ok (.aload_n 0, 1) := dk_42 (dk_at dksX0_judge_0 22 rfl rfl)
theorem dX0_judge_23 : decode cX0_judge 23 = .ok (.getfield 86, 3) := dk_180 0 86 (dk_at dksX0_judge_1 0 rfl rfl)
theorem dX0_judge_26 : decode cX0_judge 26 = .ok (.iload_n 1, 1) := dk_27 (dk_at dksX0_judge_1 3 rfl rfl)
theorem dX0_judge_27 : decode cX0_judge 27 = .ok (.aaload, 1) := dk_50 (dk_at dksX0_judge_1 4 rfl rfl)
theorem dX0_judge_28 : decode cX0_judge 28 = .ok (.astore_n 3, 1) := dk_78 (dk_at dksX0_judge_1 5 rfl rfl)
theorem dX0_judge_29 : decode cX0_judge 29 = .ok (.aload_n 3, 1) := dk_45 (dk_at dksX0_judge_1 6 rfl rfl)
theorem dX0_judge_30 : decode cX0_judge 30 = .ok (.getfield 245, 3) := dk_180 0 245 (dk_at dksX0_judge_1 7 rfl rfl)
theorem dX0_judge_33 : decode cX0_judge 33 = .ok (.ifnonnull 6, 3) := dk_199 0 6 (dk_at dksX0_judge_1 10 rfl rfl)
theorem dX0_judge_36 : decode cX0_judge 36 = .ok (.bipush (-6), 2) := dk_16 250 (dk_at dksX0_judge_1 13 rfl rfl)
theorem dX0_judge_38 : decode cX0_judge 38 = .ok (.ireturn, 1) := dk_172 (dk_at dksX0_judge_1 15 rfl rfl)
theorem dX0_judge_39 : decode cX0_judge 39 = .ok (.aload_n 0, 1) := dk_42 (dk_at dksX0_judge_1 16 rfl rfl)
theorem dX0_judge_40 : decode cX0_judge 40 = .ok (.aload_n 3, 1) := dk_45 (dk_at dksX0_judge_1 17 rfl rfl)
theorem dX0_judge_41 : decode cX0_judge 41 = .ok (.invokevirtual 249, 3) := dk_182 0 249 (dk_at dksX0_judge_1 18 rfl rfl)
theorem dX0_judge_44 : decode cX0_judge 44 = .ok (.istore 4, 2) := dk_54 4 (dk_at dksX0_judge_1 21 rfl rfl)
theorem dX0_judge_46 : decode cX0_judge 46 = .ok (.iload_n 2, 1) := dk_28 (dk_at dksX0_judge_1 23 rfl rfl)
theorem dX0_judge_47 : decode cX0_judge 47 = .ok (.tableswitch 76 0 2 #[25, 41, 68], 25) := by decide +kernel
theorem dX0_judge_72 : decode cX0_judge 72 = .ok (.iload 4, 2) := dk_21 4 (dk_at dksX0_judge_3 0 rfl rfl)
theorem dX0_judge_74 : decode cX0_judge 74 = .ok (.aload_n 3, 1) := dk_45 (dk_at dksX0_judge_3 2 rfl rfl)
theorem dX0_judge_75 : decode cX0_judge 75 = .ok (.invokevirtual 227, 3) := dk_182 0 227 (dk_at dksX0_judge_3 3 rfl rfl)
theorem dX0_judge_78 : decode cX0_judge 78 = .ok (.if_icmp .ne 7, 3) := dk_160 0 7 (dk_at dksX0_judge_3 6 rfl rfl)
theorem dX0_judge_81 : decode cX0_judge 81 = .ok (.iconst (-1), 1) := dk_2 (dk_at dksX0_judge_3 9 rfl rfl)
theorem dX0_judge_82 : decode cX0_judge 82 = .ok (.goto 5, 3) := dk_167 0 5 (dk_at dksX0_judge_3 10 rfl rfl)
theorem dX0_judge_85 : decode cX0_judge 85 = .ok (.iload 4, 2) := dk_21 4 (dk_at dksX0_judge_3 13 rfl rfl)
theorem dX0_judge_87 : decode cX0_judge 87 = .ok (.ireturn, 1) := dk_172 (dk_at dksX0_judge_3 15 rfl rfl)
theorem dX0_judge_88 : decode cX0_judge 88 = .ok (.iload 4, 2) := dk_21 4 (dk_at dksX0_judge_3 16 rfl rfl)
theorem dX0_judge_90 : decode cX0_judge 90 = .ok (.aload_n 3, 1) := dk_45 (dk_at dksX0_judge_3 18 rfl rfl)
theorem dX0_judge_91 : decode cX0_judge 91 = .ok (.invokevirtual 227, 3) := dk_182 0 227 (dk_at dksX0_judge_3 19 rfl rfl)
theorem dX0_judge_94 : decode cX0_judge 94 = .ok (.if_icmp .ne 7, 3) := dk_160 0 7 (dk_at dksX0_judge_4 0 rfl rfl)
theorem dX0_judge_97 : decode cX0_judge 97 = .ok (.iconst 0, 1) := dk_3 (dk_at dksX0_judge_4 3 rfl rfl)
theorem dX0_judge_98 : decode cX0_judge 98 = .ok (.goto 16, 3) := dk_167 0 16 (dk_at dksX0_judge_4 4 rfl rfl)
theorem dX0_judge_101 : decode cX0_judge 101 = .ok (.aload_n 0, 1) := dk_42 (dk_at dksX0_judge_4 7 rfl rfl)
theorem dX0_judge_102 : decode cX0_judge 102 = .ok (.getfield 25, 3) := dk_180 0 25 (dk_at dksX0_judge_4 8 rfl rfl)
theorem dX0_judge_105 : decode cX0_judge 105 = .ok (.aload_n 3, 1) := dk_45 (dk_at dksX0_judge_4 11 rfl rfl)
theorem dX0_judge_106 : decode cX0_judge 106 = .ok (.iload 4, 2) := dk_21 4 (dk_at dksX0_judge_4 12 rfl rfl)
theorem dX0_judge_108 : decode cX0_judge 108 = .ok (.invokevirtual 230, 3) := dk_182 0 230 (dk_at dksX0_judge_4 14 rfl rfl)
theorem dX0_judge_111 : decode cX0_judge 111 = .ok (.invokevirtual 234, 3) := dk_182 0 234 (dk_at dksX0_judge_4 17 rfl rfl)
theorem dX0_judge_114 : decode cX0_judge 114 = .ok (.ireturn, 1) := dk_172 (dk_at dksX0_judge_4 20 rfl rfl)
theorem dX0_judge_115 : decode cX0_judge 115 = .ok (.aload_n 0, 1) := dk_42 (dk_at dksX0_judge_4 21 rfl rfl)
theorem dX0_judge_116 : decode cX0_judge 116 = .ok (.getfield 25, 3) := dk_180 0 25 (dk_at dksX0_judge_5 0 rfl rfl)
theorem dX0_judge_119 : decode cX0_judge 119 = .ok (.getfield 253, 3) := dk_180 0 253 (dk_at dksX0_judge_5 3 rfl rfl)
theorem dX0_judge_122 : decode cX0_judge 122 = .ok (.ireturn, 1) := dk_172 (dk_at dksX0_judge_5 6 rfl rfl)
theorem dX0_judge_123 : decode cX0_judge 123 = .ok (.aload_n 0, 1) := dk_42 (dk_at dksX0_judge_5 7 rfl rfl)
theorem dX0_judge_124 : decode cX0_judge 124 = .ok (.getfield 25, 3) := dk_180 0 25 (dk_at dksX0_judge_5 8 rfl rfl)
theorem dX0_judge_127 : decode cX0_judge 127 = .ok (.getfield 256, 3) := dk_180 1 0 (dk_at dksX0_judge_5 11 rfl rfl)
theorem dX0_judge_130 : decode cX0_judge 130 = .ok (.ireturn, 1) := dk_172 (dk_at dksX0_judge_5 14 rfl rfl)
abbrev cX0_isTray : ByteArray := prog_1_method_79_code
def yX0_isTray : MethodName := ⟨RX0, "isTray", "(I)Z"⟩
def dkwX0_isTray_0 : List UInt8 := [26, 133, 9, 20, 0, 243, 184, 0, 108, 172]
abbrev dktX0_isTray_0 : List UInt8 := dkwX0_isTray_0 ++ []
theorem dksX0_isTray_0 : cX0_isTray.data.toList.drop 0 = dktX0_isTray_0 := by decide +kernel
theorem dX0_isTray_0 : decode cX0_isTray 0 = .ok (.iload_n 0, 1) := dk_26 (dk_at dksX0_isTray_0 0 rfl rfl)
theorem dX0_isTray_1 : decode cX0_isTray 1 = .ok (.i2l, 1) := dk_133 (dk_at dksX0_isTray_0 1 rfl rfl)
theorem dX0_isTray_2 : decode cX0_isTray 2 = .ok (.lconst 0, 1) := dk_9 (dk_at dksX0_isTray_0 2 rfl rfl)
theorem dX0_isTray_3 : decode cX0_isTray 3 = .ok (.ldc2_w 243, 3) := dk_20 0 243 (dk_at dksX0_isTray_0 3 rfl rfl)
theorem dX0_isTray_6 : decode cX0_isTray 6 = .ok (.invokestatic 108, 3) := dk_184 0 108 (dk_at dksX0_isTray_0 6 rfl rfl)
theorem dX0_isTray_9 : decode cX0_isTray 9 = .ok (.ireturn, 1) := dk_172 (dk_at dksX0_isTray_0 9 rfl rfl)
abbrev cX0_goes : ByteArray := prog_1_method_25_code
def yX0_goes : MethodName := ⟨RX0, "goes", "(LSunkTower$Numbers;)I"⟩
def dkwX0_goes_2 : List UInt8 := [182, 0, 237, 132, 2, 1, 167, 255, 217, 28, 172]
abbrev dktX0_goes_2 : List UInt8 := dkwX0_goes_2 ++ []
def dkwX0_goes_1 : List UInt8 := [180, 0, 25, 43, 28, 182, 0, 230, 182, 0, 234, 154, 0, 22, 42, 180, 0, 25, 43, 28, 182, 0, 230, 136]
abbrev dktX0_goes_1 : List UInt8 := dkwX0_goes_1 ++ dktX0_goes_2
def dkwX0_goes_0 : List UInt8 := [42, 180, 0, 25, 42, 180, 0, 21, 182, 0, 194, 87, 3, 61, 28, 43, 182, 0, 227, 162, 0, 37, 42]
abbrev dktX0_goes_0 : List UInt8 := dkwX0_goes_0 ++ dktX0_goes_1
theorem dksX0_goes_0 : cX0_goes.data.toList.drop 0 = dktX0_goes_0 := by decide +kernel
theorem dksX0_goes_1 : cX0_goes.data.toList.drop 23 = dktX0_goes_1 := dk_seg dksX0_goes_0 23 rfl rfl
theorem dksX0_goes_2 : cX0_goes.data.toList.drop 47 = dktX0_goes_2 := dk_seg dksX0_goes_1 24 rfl rfl
theorem dX0_goes_0 : decode cX0_goes 0 = .ok (.aload_n 0, 1) := dk_42 (dk_at dksX0_goes_0 0 rfl rfl)
theorem dX0_goes_1 : decode cX0_goes 1 = .ok (.getfield 25, 3) := dk_180 0 25 (dk_at dksX0_goes_0 1 rfl rfl)
theorem dX0_goes_4 : decode cX0_goes 4 = .ok (.aload_n 0, 1) := dk_42 (dk_at dksX0_goes_0 4 rfl rfl)
theorem dX0_goes_5 : decode cX0_goes 5 = .ok (.getfield 21, 3) := dk_180 0 21 (dk_at dksX0_goes_0 5 rfl rfl)
theorem dX0_goes_8 : decode cX0_goes 8 = .ok (.invokevirtual 194, 3) := dk_182 0 194 (dk_at dksX0_goes_0 8 rfl rfl)
theorem dX0_goes_11 : decode cX0_goes 11 = .ok (.pop, 1) := dk_87 (dk_at dksX0_goes_0 11 rfl rfl)
theorem dX0_goes_12 : decode cX0_goes 12 = .ok (.iconst 0, 1) := dk_3 (dk_at dksX0_goes_0 12 rfl rfl)
theorem dX0_goes_13 : decode cX0_goes 13 = .ok (.istore_n 2, 1) := dk_61 (dk_at dksX0_goes_0 13 rfl rfl)
theorem dX0_goes_14 : decode cX0_goes 14 = .ok (.iload_n 2, 1) := dk_28 (dk_at dksX0_goes_0 14 rfl rfl)
theorem dX0_goes_15 : decode cX0_goes 15 = .ok (.aload_n 1, 1) := dk_43 (dk_at dksX0_goes_0 15 rfl rfl)
theorem dX0_goes_16 : decode cX0_goes 16 = .ok (.invokevirtual 227, 3) := dk_182 0 227 (dk_at dksX0_goes_0 16 rfl rfl)
theorem dX0_goes_19 : decode cX0_goes 19 = .ok (.if_icmp .ge 37, 3) := dk_162 0 37 (dk_at dksX0_goes_0 19 rfl rfl)
theorem dX0_goes_22 : decode cX0_goes 22 = .ok (.aload_n 0, 1) := dk_42 (dk_at dksX0_goes_0 22 rfl rfl)
theorem dX0_goes_23 : decode cX0_goes 23 = .ok (.getfield 25, 3) := dk_180 0 25 (dk_at dksX0_goes_1 0 rfl rfl)
theorem dX0_goes_26 : decode cX0_goes 26 = .ok (.aload_n 1, 1) := dk_43 (dk_at dksX0_goes_1 3 rfl rfl)
theorem dX0_goes_27 : decode cX0_goes 27 = .ok (.iload_n 2, 1) := dk_28 (dk_at dksX0_goes_1 4 rfl rfl)
theorem dX0_goes_28 : decode cX0_goes 28 = .ok (.invokevirtual 230, 3) := dk_182 0 230 (dk_at dksX0_goes_1 5 rfl rfl)
theorem dX0_goes_31 : decode cX0_goes 31 = .ok (.invokevirtual 234, 3) := dk_182 0 234 (dk_at dksX0_goes_1 8 rfl rfl)
theorem dX0_goes_34 : decode cX0_goes 34 = .ok (.ifCond .ne 22, 3) := dk_154 0 22 (dk_at dksX0_goes_1 11 rfl rfl)
theorem dX0_goes_37 : decode cX0_goes 37 = .ok (.aload_n 0, 1) := dk_42 (dk_at dksX0_goes_1 14 rfl rfl)
theorem dX0_goes_38 : decode cX0_goes 38 = .ok (.getfield 25, 3) := dk_180 0 25 (dk_at dksX0_goes_1 15 rfl rfl)
theorem dX0_goes_41 : decode cX0_goes 41 = .ok (.aload_n 1, 1) := dk_43 (dk_at dksX0_goes_1 18 rfl rfl)
theorem dX0_goes_42 : decode cX0_goes 42 = .ok (.iload_n 2, 1) := dk_28 (dk_at dksX0_goes_1 19 rfl rfl)
theorem dX0_goes_43 : decode cX0_goes 43 = .ok (.invokevirtual 230, 3) := dk_182 0 230 (dk_at dksX0_goes_1 20 rfl rfl)
theorem dX0_goes_46 : decode cX0_goes 46 = .ok (.l2i, 1) := dk_136 (dk_at dksX0_goes_1 23 rfl rfl)
theorem dX0_goes_47 : decode cX0_goes 47 = .ok (.invokevirtual 237, 3) := dk_182 0 237 (dk_at dksX0_goes_2 0 rfl rfl)
theorem dX0_goes_50 : decode cX0_goes 50 = .ok (.iinc 2 1, 3) := dk_132 2 1 (dk_at dksX0_goes_2 3 rfl rfl)
theorem dX0_goes_53 : decode cX0_goes 53 = .ok (.goto (-39), 3) := dk_167 255 217 (dk_at dksX0_goes_2 6 rfl rfl)
theorem dX0_goes_56 : decode cX0_goes 56 = .ok (.iload_n 2, 1) := dk_28 (dk_at dksX0_goes_2 9 rfl rfl)
theorem dX0_goes_57 : decode cX0_goes 57 = .ok (.ireturn, 1) := dk_172 (dk_at dksX0_goes_2 10 rfl rfl)
abbrev cX0_perform : ByteArray := prog_1_method_27_code
def yX0_perform : MethodName := ⟨RX0, "perform", "(I)I"⟩
def dkwX0_perform_2 : List UInt8 := [180, 0, 21, 42, 180, 0, 25, 182, 0, 194, 87, 28, 172]
abbrev dktX0_perform_2 : List UInt8 := dkwX0_perform_2 ++ []
def dkwX0_perform_1 : List UInt8 := [172, 42, 42, 180, 0, 86, 27, 50, 182, 0, 249, 61, 28, 154, 0, 5, 3, 172, 42, 182, 0, 205, 42]
abbrev dktX0_perform_1 : List UInt8 := dkwX0_perform_1 ++ dktX0_perform_2
def dkwX0_perform_0 : List UInt8 := [27, 184, 0, 240, 154, 0, 6, 16, 254, 172, 42, 180, 0, 86, 27, 50, 180, 0, 245, 199, 0, 6, 16, 250]
abbrev dktX0_perform_0 : List UInt8 := dkwX0_perform_0 ++ dktX0_perform_1
theorem dksX0_perform_0 : cX0_perform.data.toList.drop 0 = dktX0_perform_0 := by decide +kernel
theorem dksX0_perform_1 : cX0_perform.data.toList.drop 24 = dktX0_perform_1 := dk_seg dksX0_perform_0 24 rfl rfl
theorem dksX0_perform_2 : cX0_perform.data.toList.drop 47 = dktX0_perform_2 := dk_seg dksX0_perform_1 23 rfl rfl
theorem dX0_perform_0 : decode cX0_perform 0 = .ok (.iload_n 1, 1) := dk_27 (dk_at dksX0_perform_0 0 rfl rfl)
theorem dX0_perform_1 : decode cX0_perform 1 = .ok (.invokestatic 240, 3) := dk_184 0 240 (dk_at dksX0_perform_0 1 rfl rfl)
theorem dX0_perform_4 : decode cX0_perform 4 = .ok (.ifCond .ne 6, 3) := dk_154 0 6 (dk_at dksX0_perform_0 4 rfl rfl)
theorem dX0_perform_7 : decode cX0_perform 7 = .ok (.bipush (-2), 2) := dk_16 254 (dk_at dksX0_perform_0 7 rfl rfl)
theorem dX0_perform_9 : decode cX0_perform 9 = .ok (.ireturn, 1) := dk_172 (dk_at dksX0_perform_0 9 rfl rfl)
theorem dX0_perform_10 : decode cX0_perform 10 = .ok (.aload_n 0, 1) := dk_42 (dk_at dksX0_perform_0 10 rfl rfl)
theorem dX0_perform_11 : decode cX0_perform 11 = .ok (.getfield 86, 3) := dk_180 0 86 (dk_at dksX0_perform_0 11 rfl rfl)
theorem dX0_perform_14 : decode cX0_perform 14 = .ok (.iload_n 1, 1) := dk_27 (dk_at dksX0_perform_0 14 rfl rfl)
theorem dX0_perform_15 : decode cX0_perform 15 = .ok (.aaload, 1) := dk_50 (dk_at dksX0_perform_0 15 rfl rfl)
theorem dX0_perform_16 : decode cX0_perform 16 = .ok (.getfield 245, 3) := dk_180 0 245 (dk_at dksX0_perform_0 16 rfl rfl)
theorem dX0_perform_19 : decode cX0_perform 19 = .ok (.ifnonnull 6, 3) := dk_199 0 6 (dk_at dksX0_perform_0 19 rfl rfl)
theorem dX0_perform_22 : decode cX0_perform 22 = .ok (.bipush (-6), 2) := dk_16 250 (dk_at dksX0_perform_0 22 rfl rfl)
theorem dX0_perform_24 : decode cX0_perform 24 = .ok (.ireturn, 1) := dk_172 (dk_at dksX0_perform_1 0 rfl rfl)
theorem dX0_perform_25 : decode cX0_perform 25 = .ok (.aload_n 0, 1) := dk_42 (dk_at dksX0_perform_1 1 rfl rfl)
theorem dX0_perform_26 : decode cX0_perform 26 = .ok (.aload_n 0, 1) := dk_42 (dk_at dksX0_perform_1 2 rfl rfl)
theorem dX0_perform_27 : decode cX0_perform 27 = .ok (.getfield 86, 3) := dk_180 0 86 (dk_at dksX0_perform_1 3 rfl rfl)
theorem dX0_perform_30 : decode cX0_perform 30 = .ok (.iload_n 1, 1) := dk_27 (dk_at dksX0_perform_1 6 rfl rfl)
theorem dX0_perform_31 : decode cX0_perform 31 = .ok (.aaload, 1) := dk_50 (dk_at dksX0_perform_1 7 rfl rfl)
theorem dX0_perform_32 : decode cX0_perform 32 = .ok (.invokevirtual 249, 3) := dk_182 0 249 (dk_at dksX0_perform_1 8 rfl rfl)
theorem dX0_perform_35 : decode cX0_perform 35 = .ok (.istore_n 2, 1) := dk_61 (dk_at dksX0_perform_1 11 rfl rfl)
theorem dX0_perform_36 : decode cX0_perform 36 = .ok (.iload_n 2, 1) := dk_28 (dk_at dksX0_perform_1 12 rfl rfl)
theorem dX0_perform_37 : decode cX0_perform 37 = .ok (.ifCond .ne 5, 3) := dk_154 0 5 (dk_at dksX0_perform_1 13 rfl rfl)
theorem dX0_perform_40 : decode cX0_perform 40 = .ok (.iconst 0, 1) := dk_3 (dk_at dksX0_perform_1 16 rfl rfl)
theorem dX0_perform_41 : decode cX0_perform 41 = .ok (.ireturn, 1) := dk_172 (dk_at dksX0_perform_1 17 rfl rfl)
theorem dX0_perform_42 : decode cX0_perform 42 = .ok (.aload_n 0, 1) := dk_42 (dk_at dksX0_perform_1 18 rfl rfl)
theorem dX0_perform_43 : decode cX0_perform 43 = .ok (.invokevirtual 205, 3) := dk_182 0 205 (dk_at dksX0_perform_1 19 rfl rfl)
theorem dX0_perform_46 : decode cX0_perform 46 = .ok (.aload_n 0, 1) := dk_42 (dk_at dksX0_perform_1 22 rfl rfl)
theorem dX0_perform_47 : decode cX0_perform 47 = .ok (.getfield 21, 3) := dk_180 0 21 (dk_at dksX0_perform_2 0 rfl rfl)
theorem dX0_perform_50 : decode cX0_perform 50 = .ok (.aload_n 0, 1) := dk_42 (dk_at dksX0_perform_2 3 rfl rfl)
theorem dX0_perform_51 : decode cX0_perform 51 = .ok (.getfield 25, 3) := dk_180 0 25 (dk_at dksX0_perform_2 4 rfl rfl)
theorem dX0_perform_54 : decode cX0_perform 54 = .ok (.invokevirtual 194, 3) := dk_182 0 194 (dk_at dksX0_perform_2 7 rfl rfl)
theorem dX0_perform_57 : decode cX0_perform 57 = .ok (.pop, 1) := dk_87 (dk_at dksX0_perform_2 10 rfl rfl)
theorem dX0_perform_58 : decode cX0_perform 58 = .ok (.iload_n 2, 1) := dk_28 (dk_at dksX0_perform_2 11 rfl rfl)
theorem dX0_perform_59 : decode cX0_perform 59 = .ok (.ireturn, 1) := dk_172 (dk_at dksX0_perform_2 12 rfl rfl)
abbrev cX0_years : ByteArray := prog_1_method_30_code
def yX0_years : MethodName := ⟨RX0, "years", "(II)I"⟩
def dkwX0_years_5 : List UInt8 := [180, 0, 21, 42, 180, 0, 25, 182, 0, 194, 87, 29, 172]
abbrev dktX0_years_5 : List UInt8 := dkwX0_years_5 ++ []
def dkwX0_years_4 : List UInt8 := [182, 0, 237, 132, 3, 1, 132, 4, 1, 167, 255, 213, 29, 154, 0, 5, 3, 172, 42, 182, 0, 205, 42]
abbrev dktX0_years_4 : List UInt8 := dkwX0_years_4 ++ dktX0_years_5
def dkwX0_years_3 : List UInt8 := [54, 5, 42, 180, 0, 25, 21, 5, 133, 182, 0, 234, 153, 0, 6, 167, 0, 15, 42, 180, 0, 25, 21, 5]
abbrev dktX0_years_3 : List UInt8 := dkwX0_years_3 ++ dktX0_years_4
def dkwX0_years_2 : List UInt8 := [182, 0, 194, 87, 42, 27, 181, 1, 4, 3, 62, 3, 54, 4, 21, 4, 28, 162, 0, 43, 42, 182, 1, 12]
abbrev dktX0_years_2 : List UInt8 := dkwX0_years_2 ++ dktX0_years_3
def dkwX0_years_1 : List UInt8 := [153, 0, 13, 42, 180, 0, 12, 180, 0, 141, 154, 0, 6, 16, 251, 172, 42, 180, 0, 25, 42, 180, 0, 21]
abbrev dktX0_years_1 : List UInt8 := dkwX0_years_1 ++ dktX0_years_2
def dkwX0_years_0 : List UInt8 := [28, 133, 10, 20, 1, 10, 184, 0, 108, 154, 0, 6, 16, 253, 172, 42, 180, 0, 21, 180, 0, 138]
abbrev dktX0_years_0 : List UInt8 := dkwX0_years_0 ++ dktX0_years_1
theorem dksX0_years_0 : cX0_years.data.toList.drop 0 = dktX0_years_0 := by decide +kernel
theorem dksX0_years_1 : cX0_years.data.toList.drop 22 = dktX0_years_1 := dk_seg dksX0_years_0 22 rfl rfl
theorem dksX0_years_2 : cX0_years.data.toList.drop 46 = dktX0_years_2 := dk_seg dksX0_years_1 24 rfl rfl
theorem dksX0_years_3 : cX0_years.data.toList.drop 70 = dktX0_years_3 := dk_seg dksX0_years_2 24 rfl rfl
theorem dksX0_years_4 : cX0_years.data.toList.drop 94 = dktX0_years_4 := dk_seg dksX0_years_3 24 rfl rfl
theorem dksX0_years_5 : cX0_years.data.toList.drop 117 = dktX0_years_5 := dk_seg dksX0_years_4 23 rfl rfl
theorem dX0_years_0 : decode cX0_years 0 = .ok (.iload_n 2, 1) := dk_28 (dk_at dksX0_years_0 0 rfl rfl)
theorem dX0_years_1 : decode cX0_years 1 = .ok (.i2l, 1) := dk_133 (dk_at dksX0_years_0 1 rfl rfl)
theorem dX0_years_2 : decode cX0_years 2 = .ok (.lconst 1, 1) := dk_10 (dk_at dksX0_years_0 2 rfl rfl)
theorem dX0_years_3 : decode cX0_years 3 = .ok (.ldc2_w 266, 3) := dk_20 1 10 (dk_at dksX0_years_0 3 rfl rfl)
theorem dX0_years_6 : decode cX0_years 6 = .ok (.invokestatic 108, 3) := dk_184 0 108 (dk_at dksX0_years_0 6 rfl rfl)
theorem dX0_years_9 : decode cX0_years 9 = .ok (.ifCond .ne 6, 3) := dk_154 0 6 (dk_at dksX0_years_0 9 rfl rfl)
theorem dX0_years_12 : decode cX0_years 12 = .ok (.bipush (-3), 2) := dk_16 253 (dk_at dksX0_years_0 12 rfl rfl)
theorem dX0_years_14 : decode cX0_years 14 = .ok (.ireturn, 1) := dk_172 (dk_at dksX0_years_0 14 rfl rfl)
theorem dX0_years_15 : decode cX0_years 15 = .ok (.aload_n 0, 1) := dk_42 (dk_at dksX0_years_0 15 rfl rfl)
theorem dX0_years_16 : decode cX0_years 16 = .ok (.getfield 21, 3) := dk_180 0 21 (dk_at dksX0_years_0 16 rfl rfl)
theorem dX0_years_19 : decode cX0_years 19 = .ok (.getfield 138, 3) := dk_180 0 138 (dk_at dksX0_years_0 19 rfl rfl)
theorem dX0_years_22 : decode cX0_years 22 = .ok (.ifCond .eq 13, 3) := dk_153 0 13 (dk_at dksX0_years_1 0 rfl rfl)
theorem dX0_years_25 : decode cX0_years 25 = .ok (.aload_n 0, 1) := dk_42 (dk_at dksX0_years_1 3 rfl rfl)
theorem dX0_years_26 : decode cX0_years 26 = .ok (.getfield 12, 3) := dk_180 0 12 (dk_at dksX0_years_1 4 rfl rfl)
theorem dX0_years_29 : decode cX0_years 29 = .ok (.getfield 141, 3) := dk_180 0 141 (dk_at dksX0_years_1 7 rfl rfl)
theorem dX0_years_32 : decode cX0_years 32 = .ok (.ifCond .ne 6, 3) := dk_154 0 6 (dk_at dksX0_years_1 10 rfl rfl)
theorem dX0_years_35 : decode cX0_years 35 = .ok (.bipush (-5), 2) := dk_16 251 (dk_at dksX0_years_1 13 rfl rfl)
theorem dX0_years_37 : decode cX0_years 37 = .ok (.ireturn, 1) := dk_172 (dk_at dksX0_years_1 15 rfl rfl)
theorem dX0_years_38 : decode cX0_years 38 = .ok (.aload_n 0, 1) := dk_42 (dk_at dksX0_years_1 16 rfl rfl)
theorem dX0_years_39 : decode cX0_years 39 = .ok (.getfield 25, 3) := dk_180 0 25 (dk_at dksX0_years_1 17 rfl rfl)
theorem dX0_years_42 : decode cX0_years 42 = .ok (.aload_n 0, 1) := dk_42 (dk_at dksX0_years_1 20 rfl rfl)
theorem dX0_years_43 : decode cX0_years 43 = .ok (.getfield 21, 3) := dk_180 0 21 (dk_at dksX0_years_1 21 rfl rfl)
theorem dX0_years_46 : decode cX0_years 46 = .ok (.invokevirtual 194, 3) := dk_182 0 194 (dk_at dksX0_years_2 0 rfl rfl)
theorem dX0_years_49 : decode cX0_years 49 = .ok (.pop, 1) := dk_87 (dk_at dksX0_years_2 3 rfl rfl)
theorem dX0_years_50 : decode cX0_years 50 = .ok (.aload_n 0, 1) := dk_42 (dk_at dksX0_years_2 4 rfl rfl)
theorem dX0_years_51 : decode cX0_years 51 = .ok (.iload_n 1, 1) := dk_27 (dk_at dksX0_years_2 5 rfl rfl)
theorem dX0_years_52 : decode cX0_years 52 = .ok (.putfield 260, 3) := dk_181 1 4 (dk_at dksX0_years_2 6 rfl rfl)
theorem dX0_years_55 : decode cX0_years 55 = .ok (.iconst 0, 1) := dk_3 (dk_at dksX0_years_2 9 rfl rfl)
theorem dX0_years_56 : decode cX0_years 56 = .ok (.istore_n 3, 1) := dk_62 (dk_at dksX0_years_2 10 rfl rfl)
theorem dX0_years_57 : decode cX0_years 57 = .ok (.iconst 0, 1) := dk_3 (dk_at dksX0_years_2 11 rfl rfl)
theorem dX0_years_58 : decode cX0_years 58 = .ok (.istore 4, 2) := dk_54 4 (dk_at dksX0_years_2 12 rfl rfl)
theorem dX0_years_60 : decode cX0_years 60 = .ok (.iload 4, 2) := dk_21 4 (dk_at dksX0_years_2 14 rfl rfl)
theorem dX0_years_62 : decode cX0_years 62 = .ok (.iload_n 2, 1) := dk_28 (dk_at dksX0_years_2 16 rfl rfl)
theorem dX0_years_63 : decode cX0_years 63 = .ok (.if_icmp .ge 43, 3) := dk_162 0 43 (dk_at dksX0_years_2 17 rfl rfl)
theorem dX0_years_66 : decode cX0_years 66 = .ok (.aload_n 0, 1) := dk_42 (dk_at dksX0_years_2 20 rfl rfl)
theorem dX0_years_67 : decode cX0_years 67 = .ok (.invokevirtual 268, 3) := dk_182 1 12 (dk_at dksX0_years_2 21 rfl rfl)
theorem dX0_years_70 : decode cX0_years 70 = .ok (.istore 5, 2) := dk_54 5 (dk_at dksX0_years_3 0 rfl rfl)
theorem dX0_years_72 : decode cX0_years 72 = .ok (.aload_n 0, 1) := dk_42 (dk_at dksX0_years_3 2 rfl rfl)
theorem dX0_years_73 : decode cX0_years 73 = .ok (.getfield 25, 3) := dk_180 0 25 (dk_at dksX0_years_3 3 rfl rfl)
theorem dX0_years_76 : decode cX0_years 76 = .ok (.iload 5, 2) := dk_21 5 (dk_at dksX0_years_3 6 rfl rfl)
theorem dX0_years_78 : decode cX0_years 78 = .ok (.i2l, 1) := dk_133 (dk_at dksX0_years_3 8 rfl rfl)
theorem dX0_years_79 : decode cX0_years 79 = .ok (.invokevirtual 234, 3) := dk_182 0 234 (dk_at dksX0_years_3 9 rfl rfl)
theorem dX0_years_82 : decode cX0_years 82 = .ok (.ifCond .eq 6, 3) := dk_153 0 6 (dk_at dksX0_years_3 12 rfl rfl)
theorem dX0_years_85 : decode cX0_years 85 = .ok (.goto 15, 3) := dk_167 0 15 (dk_at dksX0_years_3 15 rfl rfl)
theorem dX0_years_88 : decode cX0_years 88 = .ok (.aload_n 0, 1) := dk_42 (dk_at dksX0_years_3 18 rfl rfl)
theorem dX0_years_89 : decode cX0_years 89 = .ok (.getfield 25, 3) := dk_180 0 25 (dk_at dksX0_years_3 19 rfl rfl)
theorem dX0_years_92 : decode cX0_years 92 = .ok (.iload 5, 2) := dk_21 5 (dk_at dksX0_years_3 22 rfl rfl)
theorem dX0_years_94 : decode cX0_years 94 = .ok (.invokevirtual 237, 3) := dk_182 0 237 (dk_at dksX0_years_4 0 rfl rfl)
theorem dX0_years_97 : decode cX0_years 97 = .ok (.iinc 3 1, 3) := dk_132 3 1 (dk_at dksX0_years_4 3 rfl rfl)
theorem dX0_years_100 : decode cX0_years 100 = .ok (.iinc 4 1, 3) := dk_132 4 1 (dk_at dksX0_years_4 6 rfl rfl)
theorem dX0_years_103 : decode cX0_years 103 = .ok (.goto (-43), 3) := dk_167 255 213 (dk_at dksX0_years_4 9 rfl rfl)
theorem dX0_years_106 : decode cX0_years 106 = .ok (.iload_n 3, 1) := dk_29 (dk_at dksX0_years_4 12 rfl rfl)
theorem dX0_years_107 : decode cX0_years 107 = .ok (.ifCond .ne 5, 3) := dk_154 0 5 (dk_at dksX0_years_4 13 rfl rfl)
theorem dX0_years_110 : decode cX0_years 110 = .ok (.iconst 0, 1) := dk_3 (dk_at dksX0_years_4 16 rfl rfl)
theorem dX0_years_111 : decode cX0_years 111 = .ok (.ireturn, 1) := dk_172 (dk_at dksX0_years_4 17 rfl rfl)
theorem dX0_years_112 : decode cX0_years 112 = .ok (.aload_n 0, 1) := dk_42 (dk_at dksX0_years_4 18 rfl rfl)
theorem dX0_years_113 : decode cX0_years 113 = .ok (.invokevirtual 205, 3) := dk_182 0 205 (dk_at dksX0_years_4 19 rfl rfl)
theorem dX0_years_116 : decode cX0_years 116 = .ok (.aload_n 0, 1) := dk_42 (dk_at dksX0_years_4 22 rfl rfl)
theorem dX0_years_117 : decode cX0_years 117 = .ok (.getfield 21, 3) := dk_180 0 21 (dk_at dksX0_years_5 0 rfl rfl)
theorem dX0_years_120 : decode cX0_years 120 = .ok (.aload_n 0, 1) := dk_42 (dk_at dksX0_years_5 3 rfl rfl)
theorem dX0_years_121 : decode cX0_years 121 = .ok (.getfield 25, 3) := dk_180 0 25 (dk_at dksX0_years_5 4 rfl rfl)
theorem dX0_years_124 : decode cX0_years 124 = .ok (.invokevirtual 194, 3) := dk_182 0 194 (dk_at dksX0_years_5 7 rfl rfl)
theorem dX0_years_127 : decode cX0_years 127 = .ok (.pop, 1) := dk_87 (dk_at dksX0_years_5 10 rfl rfl)
theorem dX0_years_128 : decode cX0_years 128 = .ok (.iload_n 3, 1) := dk_29 (dk_at dksX0_years_5 11 rfl rfl)
theorem dX0_years_129 : decode cX0_years 129 = .ok (.ireturn, 1) := dk_172 (dk_at dksX0_years_5 12 rfl rfl)
abbrev cX0_told : ByteArray := prog_1_method_29_code
def yX0_told : MethodName := ⟨RX0, "told", "()I"⟩
def dkwX0_told_3 : List UInt8 := [17, 39, 16, 17, 3, 232, 28, 104, 96, 42, 17, 3, 232, 182, 1, 7, 96, 172]
abbrev dktX0_told_3 : List UInt8 := dkwX0_told_3 ++ []
def dkwX0_told_2 : List UInt8 := [160, 0, 22, 16, 100, 28, 104, 42, 42, 180, 0, 25, 180, 0, 138, 182, 1, 7, 96, 167, 0, 20]
abbrev dktX0_told_2 : List UInt8 := dkwX0_told_2 ++ dktX0_told_3
def dkwX0_told_1 : List UInt8 := [7, 160, 0, 7, 17, 7, 208, 172, 42, 42, 180, 0, 12, 180, 0, 141, 182, 1, 7, 61, 27, 5]
abbrev dktX0_told_1 : List UInt8 := dkwX0_told_1 ++ dktX0_told_2
def dkwX0_told_0 : List UInt8 := [42, 16, 6, 182, 1, 7, 60, 27, 5, 162, 0, 5, 2, 172, 27, 6, 160, 0, 7, 17, 11, 184, 172, 27]
abbrev dktX0_told_0 : List UInt8 := dkwX0_told_0 ++ dktX0_told_1
theorem dksX0_told_0 : cX0_told.data.toList.drop 0 = dktX0_told_0 := by decide +kernel
theorem dksX0_told_1 : cX0_told.data.toList.drop 24 = dktX0_told_1 := dk_seg dksX0_told_0 24 rfl rfl
theorem dksX0_told_2 : cX0_told.data.toList.drop 46 = dktX0_told_2 := dk_seg dksX0_told_1 22 rfl rfl
theorem dksX0_told_3 : cX0_told.data.toList.drop 68 = dktX0_told_3 := dk_seg dksX0_told_2 22 rfl rfl
theorem dX0_told_0 : decode cX0_told 0 = .ok (.aload_n 0, 1) := dk_42 (dk_at dksX0_told_0 0 rfl rfl)
theorem dX0_told_1 : decode cX0_told 1 = .ok (.bipush 6, 2) := dk_16 6 (dk_at dksX0_told_0 1 rfl rfl)
theorem dX0_told_3 : decode cX0_told 3 = .ok (.invokevirtual 263, 3) := dk_182 1 7 (dk_at dksX0_told_0 3 rfl rfl)
theorem dX0_told_6 : decode cX0_told 6 = .ok (.istore_n 1, 1) := dk_60 (dk_at dksX0_told_0 6 rfl rfl)
theorem dX0_told_7 : decode cX0_told 7 = .ok (.iload_n 1, 1) := dk_27 (dk_at dksX0_told_0 7 rfl rfl)
theorem dX0_told_8 : decode cX0_told 8 = .ok (.iconst 2, 1) := dk_5 (dk_at dksX0_told_0 8 rfl rfl)
theorem dX0_told_9 : decode cX0_told 9 = .ok (.if_icmp .ge 5, 3) := dk_162 0 5 (dk_at dksX0_told_0 9 rfl rfl)
theorem dX0_told_12 : decode cX0_told 12 = .ok (.iconst (-1), 1) := dk_2 (dk_at dksX0_told_0 12 rfl rfl)
theorem dX0_told_13 : decode cX0_told 13 = .ok (.ireturn, 1) := dk_172 (dk_at dksX0_told_0 13 rfl rfl)
theorem dX0_told_14 : decode cX0_told 14 = .ok (.iload_n 1, 1) := dk_27 (dk_at dksX0_told_0 14 rfl rfl)
theorem dX0_told_15 : decode cX0_told 15 = .ok (.iconst 3, 1) := dk_6 (dk_at dksX0_told_0 15 rfl rfl)
theorem dX0_told_16 : decode cX0_told 16 = .ok (.if_icmp .ne 7, 3) := dk_160 0 7 (dk_at dksX0_told_0 16 rfl rfl)
theorem dX0_told_19 : decode cX0_told 19 = .ok (.sipush 3000, 3) := dk_17 11 184 (dk_at dksX0_told_0 19 rfl rfl)
theorem dX0_told_22 : decode cX0_told 22 = .ok (.ireturn, 1) := dk_172 (dk_at dksX0_told_0 22 rfl rfl)
theorem dX0_told_23 : decode cX0_told 23 = .ok (.iload_n 1, 1) := dk_27 (dk_at dksX0_told_0 23 rfl rfl)
theorem dX0_told_24 : decode cX0_told 24 = .ok (.iconst 4, 1) := dk_7 (dk_at dksX0_told_1 0 rfl rfl)
theorem dX0_told_25 : decode cX0_told 25 = .ok (.if_icmp .ne 7, 3) := dk_160 0 7 (dk_at dksX0_told_1 1 rfl rfl)
theorem dX0_told_28 : decode cX0_told 28 = .ok (.sipush 2000, 3) := dk_17 7 208 (dk_at dksX0_told_1 4 rfl rfl)
theorem dX0_told_31 : decode cX0_told 31 = .ok (.ireturn, 1) := dk_172 (dk_at dksX0_told_1 7 rfl rfl)
theorem dX0_told_32 : decode cX0_told 32 = .ok (.aload_n 0, 1) := dk_42 (dk_at dksX0_told_1 8 rfl rfl)
theorem dX0_told_33 : decode cX0_told 33 = .ok (.aload_n 0, 1) := dk_42 (dk_at dksX0_told_1 9 rfl rfl)
theorem dX0_told_34 : decode cX0_told 34 = .ok (.getfield 12, 3) := dk_180 0 12 (dk_at dksX0_told_1 10 rfl rfl)
theorem dX0_told_37 : decode cX0_told 37 = .ok (.getfield 141, 3) := dk_180 0 141 (dk_at dksX0_told_1 13 rfl rfl)
theorem dX0_told_40 : decode cX0_told 40 = .ok (.invokevirtual 263, 3) := dk_182 1 7 (dk_at dksX0_told_1 16 rfl rfl)
theorem dX0_told_43 : decode cX0_told 43 = .ok (.istore_n 2, 1) := dk_61 (dk_at dksX0_told_1 19 rfl rfl)
theorem dX0_told_44 : decode cX0_told 44 = .ok (.iload_n 1, 1) := dk_27 (dk_at dksX0_told_1 20 rfl rfl)
theorem dX0_told_45 : decode cX0_told 45 = .ok (.iconst 2, 1) := dk_5 (dk_at dksX0_told_1 21 rfl rfl)
theorem dX0_told_46 : decode cX0_told 46 = .ok (.if_icmp .ne 22, 3) := dk_160 0 22 (dk_at dksX0_told_2 0 rfl rfl)
theorem dX0_told_49 : decode cX0_told 49 = .ok (.bipush 100, 2) := dk_16 100 (dk_at dksX0_told_2 3 rfl rfl)
theorem dX0_told_51 : decode cX0_told 51 = .ok (.iload_n 2, 1) := dk_28 (dk_at dksX0_told_2 5 rfl rfl)
theorem dX0_told_52 : decode cX0_told 52 = .ok (.imul, 1) := dk_104 (dk_at dksX0_told_2 6 rfl rfl)
theorem dX0_told_53 : decode cX0_told 53 = .ok (.aload_n 0, 1) := dk_42 (dk_at dksX0_told_2 7 rfl rfl)
theorem dX0_told_54 : decode cX0_told 54 = .ok (.aload_n 0, 1) := dk_42 (dk_at dksX0_told_2 8 rfl rfl)
theorem dX0_told_55 : decode cX0_told 55 = .ok (.getfield 25, 3) := dk_180 0 25 (dk_at dksX0_told_2 9 rfl rfl)
theorem dX0_told_58 : decode cX0_told 58 = .ok (.getfield 138, 3) := dk_180 0 138 (dk_at dksX0_told_2 12 rfl rfl)
theorem dX0_told_61 : decode cX0_told 61 = .ok (.invokevirtual 263, 3) := dk_182 1 7 (dk_at dksX0_told_2 15 rfl rfl)
theorem dX0_told_64 : decode cX0_told 64 = .ok (.iadd, 1) := dk_96 (dk_at dksX0_told_2 18 rfl rfl)
theorem dX0_told_65 : decode cX0_told 65 = .ok (.goto 20, 3) := dk_167 0 20 (dk_at dksX0_told_2 19 rfl rfl)
theorem dX0_told_68 : decode cX0_told 68 = .ok (.sipush 10000, 3) := dk_17 39 16 (dk_at dksX0_told_3 0 rfl rfl)
theorem dX0_told_71 : decode cX0_told 71 = .ok (.sipush 1000, 3) := dk_17 3 232 (dk_at dksX0_told_3 3 rfl rfl)
theorem dX0_told_74 : decode cX0_told 74 = .ok (.iload_n 2, 1) := dk_28 (dk_at dksX0_told_3 6 rfl rfl)
theorem dX0_told_75 : decode cX0_told 75 = .ok (.imul, 1) := dk_104 (dk_at dksX0_told_3 7 rfl rfl)
theorem dX0_told_76 : decode cX0_told 76 = .ok (.iadd, 1) := dk_96 (dk_at dksX0_told_3 8 rfl rfl)
theorem dX0_told_77 : decode cX0_told 77 = .ok (.aload_n 0, 1) := dk_42 (dk_at dksX0_told_3 9 rfl rfl)
theorem dX0_told_78 : decode cX0_told 78 = .ok (.sipush 1000, 3) := dk_17 3 232 (dk_at dksX0_told_3 10 rfl rfl)
theorem dX0_told_81 : decode cX0_told 81 = .ok (.invokevirtual 263, 3) := dk_182 1 7 (dk_at dksX0_told_3 13 rfl rfl)
theorem dX0_told_84 : decode cX0_told 84 = .ok (.iadd, 1) := dk_96 (dk_at dksX0_told_3 16 rfl rfl)
theorem dX0_told_85 : decode cX0_told 85 = .ok (.ireturn, 1) := dk_172 (dk_at dksX0_told_3 17 rfl rfl)
abbrev cX0_draw : ByteArray := prog_1_method_28_code
def yX0_draw : MethodName := ⟨RX0, "draw", "(I)I"⟩
def dkwX0_draw_1 : List UInt8 := [112, 172]
abbrev dktX0_draw_1 : List UInt8 := dkwX0_draw_1 ++ []
def dkwX0_draw_0 : List UInt8 := [42, 19, 1, 3, 42, 180, 1, 4, 104, 17, 48, 57, 96, 181, 1, 4, 42, 180, 1, 4, 16, 16, 124, 27]
abbrev dktX0_draw_0 : List UInt8 := dkwX0_draw_0 ++ dktX0_draw_1
theorem dksX0_draw_0 : cX0_draw.data.toList.drop 0 = dktX0_draw_0 := by decide +kernel
theorem dksX0_draw_1 : cX0_draw.data.toList.drop 24 = dktX0_draw_1 := dk_seg dksX0_draw_0 24 rfl rfl
theorem dX0_draw_0 : decode cX0_draw 0 = .ok (.aload_n 0, 1) := dk_42 (dk_at dksX0_draw_0 0 rfl rfl)
theorem dX0_draw_1 : decode cX0_draw 1 = .ok (.ldc_w 259, 3) := dk_19 1 3 (dk_at dksX0_draw_0 1 rfl rfl)
theorem dX0_draw_4 : decode cX0_draw 4 = .ok (.aload_n 0, 1) := dk_42 (dk_at dksX0_draw_0 4 rfl rfl)
theorem dX0_draw_5 : decode cX0_draw 5 = .ok (.getfield 260, 3) := dk_180 1 4 (dk_at dksX0_draw_0 5 rfl rfl)
theorem dX0_draw_8 : decode cX0_draw 8 = .ok (.imul, 1) := dk_104 (dk_at dksX0_draw_0 8 rfl rfl)
theorem dX0_draw_9 : decode cX0_draw 9 = .ok (.sipush 12345, 3) := dk_17 48 57 (dk_at dksX0_draw_0 9 rfl rfl)
theorem dX0_draw_12 : decode cX0_draw 12 = .ok (.iadd, 1) := dk_96 (dk_at dksX0_draw_0 12 rfl rfl)
theorem dX0_draw_13 : decode cX0_draw 13 = .ok (.putfield 260, 3) := dk_181 1 4 (dk_at dksX0_draw_0 13 rfl rfl)
theorem dX0_draw_16 : decode cX0_draw 16 = .ok (.aload_n 0, 1) := dk_42 (dk_at dksX0_draw_0 16 rfl rfl)
theorem dX0_draw_17 : decode cX0_draw 17 = .ok (.getfield 260, 3) := dk_180 1 4 (dk_at dksX0_draw_0 17 rfl rfl)
theorem dX0_draw_20 : decode cX0_draw 20 = .ok (.bipush 16, 2) := dk_16 16 (dk_at dksX0_draw_0 20 rfl rfl)
theorem dX0_draw_22 : decode cX0_draw 22 = .ok (.iushr, 1) := dk_124 (dk_at dksX0_draw_0 22 rfl rfl)
theorem dX0_draw_23 : decode cX0_draw 23 = .ok (.iload_n 1, 1) := dk_27 (dk_at dksX0_draw_0 23 rfl rfl)
theorem dX0_draw_24 : decode cX0_draw 24 = .ok (.irem, 1) := dk_112 (dk_at dksX0_draw_1 0 rfl rfl)
theorem dX0_draw_25 : decode cX0_draw 25 = .ok (.ireturn, 1) := dk_172 (dk_at dksX0_draw_1 1 rfl rfl)
abbrev cX0_envies : ByteArray := prog_1_method_34_code
def yX0_envies : MethodName := ⟨RX0, "envies", "(I)I"⟩
def dkwX0_envies_4 : List UInt8 := [164, 0, 9, 28, 4, 29, 120, 128, 61, 132, 3, 1, 167, 255, 168, 28, 172]
abbrev dktX0_envies_4 : List UInt8 := dkwX0_envies_4 ++ []
def dkwX0_envies_3 : List UInt8 := [29, 46, 182, 0, 187, 42, 180, 0, 21, 27, 42, 180, 0, 21, 180, 0, 173, 27, 46, 182, 0, 187]
abbrev dktX0_envies_3 : List UInt8 := dkwX0_envies_3 ++ dktX0_envies_4
def dkwX0_envies_2 : List UInt8 := [180, 0, 21, 180, 0, 173, 29, 46, 2, 159, 0, 46, 42, 180, 0, 21, 27, 42, 180, 0, 21, 180, 0, 173]
abbrev dktX0_envies_2 : List UInt8 := dkwX0_envies_2 ++ dktX0_envies_3
def dkwX0_envies_1 : List UInt8 := [162, 0, 83, 29, 27, 159, 0, 72, 42, 180, 0, 21, 180, 0, 173, 27, 46, 2, 159, 0, 59, 42]
abbrev dktX0_envies_1 : List UInt8 := dkwX0_envies_1 ++ dktX0_envies_2
def dkwX0_envies_0 : List UInt8 := [42, 27, 182, 0, 164, 154, 0, 6, 16, 254, 172, 3, 61, 3, 62, 29, 42, 180, 0, 12, 180, 0, 141]
abbrev dktX0_envies_0 : List UInt8 := dkwX0_envies_0 ++ dktX0_envies_1
theorem dksX0_envies_0 : cX0_envies.data.toList.drop 0 = dktX0_envies_0 := by decide +kernel
theorem dksX0_envies_1 : cX0_envies.data.toList.drop 23 = dktX0_envies_1 := dk_seg dksX0_envies_0 23 rfl rfl
theorem dksX0_envies_2 : cX0_envies.data.toList.drop 45 = dktX0_envies_2 := dk_seg dksX0_envies_1 22 rfl rfl
theorem dksX0_envies_3 : cX0_envies.data.toList.drop 69 = dktX0_envies_3 := dk_seg dksX0_envies_2 24 rfl rfl
theorem dksX0_envies_4 : cX0_envies.data.toList.drop 91 = dktX0_envies_4 := dk_seg dksX0_envies_3 22 rfl rfl
theorem dX0_envies_0 : decode cX0_envies 0 = .ok (.aload_n 0, 1) := dk_42 (dk_at dksX0_envies_0 0 rfl rfl)
theorem dX0_envies_1 : decode cX0_envies 1 = .ok (.iload_n 1, 1) := dk_27 (dk_at dksX0_envies_0 1 rfl rfl)
theorem dX0_envies_2 : decode cX0_envies 2 = .ok (.invokevirtual 164, 3) := dk_182 0 164 (dk_at dksX0_envies_0 2 rfl rfl)
theorem dX0_envies_5 : decode cX0_envies 5 = .ok (.ifCond .ne 6, 3) := dk_154 0 6 (dk_at dksX0_envies_0 5 rfl rfl)
theorem dX0_envies_8 : decode cX0_envies 8 = .ok (.bipush (-2), 2) := dk_16 254 (dk_at dksX0_envies_0 8 rfl rfl)
theorem dX0_envies_10 : decode cX0_envies 10 = .ok (.ireturn, 1) := dk_172 (dk_at dksX0_envies_0 10 rfl rfl)
theorem dX0_envies_11 : decode cX0_envies 11 = .ok (.iconst 0, 1) := dk_3 (dk_at dksX0_envies_0 11 rfl rfl)
theorem dX0_envies_12 : decode cX0_envies 12 = .ok (.istore_n 2, 1) := dk_61 (dk_at dksX0_envies_0 12 rfl rfl)
theorem dX0_envies_13 : decode cX0_envies 13 = .ok (.iconst 0, 1) := dk_3 (dk_at dksX0_envies_0 13 rfl rfl)
theorem dX0_envies_14 : decode cX0_envies 14 = .ok (.istore_n 3, 1) := dk_62 (dk_at dksX0_envies_0 14 rfl rfl)
theorem dX0_envies_15 : decode cX0_envies 15 = .ok (.iload_n 3, 1) := dk_29 (dk_at dksX0_envies_0 15 rfl rfl)
theorem dX0_envies_16 : decode cX0_envies 16 = .ok (.aload_n 0, 1) := dk_42 (dk_at dksX0_envies_0 16 rfl rfl)
theorem dX0_envies_17 : decode cX0_envies 17 = .ok (.getfield 12, 3) := dk_180 0 12 (dk_at dksX0_envies_0 17 rfl rfl)
theorem dX0_envies_20 : decode cX0_envies 20 = .ok (.getfield 141, 3) := dk_180 0 141 (dk_at dksX0_envies_0 20 rfl rfl)
theorem dX0_envies_23 : decode cX0_envies 23 = .ok (.if_icmp .ge 83, 3) := dk_162 0 83 (dk_at dksX0_envies_1 0 rfl rfl)
theorem dX0_envies_26 : decode cX0_envies 26 = .ok (.iload_n 3, 1) := dk_29 (dk_at dksX0_envies_1 3 rfl rfl)
theorem dX0_envies_27 : decode cX0_envies 27 = .ok (.iload_n 1, 1) := dk_27 (dk_at dksX0_envies_1 4 rfl rfl)
theorem dX0_envies_28 : decode cX0_envies 28 = .ok (.if_icmp .eq 72, 3) := dk_159 0 72 (dk_at dksX0_envies_1 5 rfl rfl)
theorem dX0_envies_31 : decode cX0_envies 31 = .ok (.aload_n 0, 1) := dk_42 (dk_at dksX0_envies_1 8 rfl rfl)
theorem dX0_envies_32 : decode cX0_envies 32 = .ok (.getfield 21, 3) := dk_180 0 21 (dk_at dksX0_envies_1 9 rfl rfl)
theorem dX0_envies_35 : decode cX0_envies 35 = .ok (.getfield 173, 3) := dk_180 0 173 (dk_at dksX0_envies_1 12 rfl rfl)
theorem dX0_envies_38 : decode cX0_envies 38 = .ok (.iload_n 1, 1) := dk_27 (dk_at dksX0_envies_1 15 rfl rfl)
theorem dX0_envies_39 : decode cX0_envies 39 = .ok (.iaload, 1) := dk_46 (dk_at dksX0_envies_1 16 rfl rfl)
theorem dX0_envies_40 : decode cX0_envies 40 = .ok (.iconst (-1), 1) := dk_2 (dk_at dksX0_envies_1 17 rfl rfl)
theorem dX0_envies_41 : decode cX0_envies 41 = .ok (.if_icmp .eq 59, 3) := dk_159 0 59 (dk_at dksX0_envies_1 18 rfl rfl)
theorem dX0_envies_44 : decode cX0_envies 44 = .ok (.aload_n 0, 1) := dk_42 (dk_at dksX0_envies_1 21 rfl rfl)
theorem dX0_envies_45 : decode cX0_envies 45 = .ok (.getfield 21, 3) := dk_180 0 21 (dk_at dksX0_envies_2 0 rfl rfl)
theorem dX0_envies_48 : decode cX0_envies 48 = .ok (.getfield 173, 3) := dk_180 0 173 (dk_at dksX0_envies_2 3 rfl rfl)
theorem dX0_envies_51 : decode cX0_envies 51 = .ok (.iload_n 3, 1) := dk_29 (dk_at dksX0_envies_2 6 rfl rfl)
theorem dX0_envies_52 : decode cX0_envies 52 = .ok (.iaload, 1) := dk_46 (dk_at dksX0_envies_2 7 rfl rfl)
theorem dX0_envies_53 : decode cX0_envies 53 = .ok (.iconst (-1), 1) := dk_2 (dk_at dksX0_envies_2 8 rfl rfl)
theorem dX0_envies_54 : decode cX0_envies 54 = .ok (.if_icmp .eq 46, 3) := dk_159 0 46 (dk_at dksX0_envies_2 9 rfl rfl)
theorem dX0_envies_57 : decode cX0_envies 57 = .ok (.aload_n 0, 1) := dk_42 (dk_at dksX0_envies_2 12 rfl rfl)
theorem dX0_envies_58 : decode cX0_envies 58 = .ok (.getfield 21, 3) := dk_180 0 21 (dk_at dksX0_envies_2 13 rfl rfl)
theorem dX0_envies_61 : decode cX0_envies 61 = .ok (.iload_n 1, 1) := dk_27 (dk_at dksX0_envies_2 16 rfl rfl)
theorem dX0_envies_62 : decode cX0_envies 62 = .ok (.aload_n 0, 1) := dk_42 (dk_at dksX0_envies_2 17 rfl rfl)
theorem dX0_envies_63 : decode cX0_envies 63 = .ok (.getfield 21, 3) := dk_180 0 21 (dk_at dksX0_envies_2 18 rfl rfl)
theorem dX0_envies_66 : decode cX0_envies 66 = .ok (.getfield 173, 3) := dk_180 0 173 (dk_at dksX0_envies_2 21 rfl rfl)
theorem dX0_envies_69 : decode cX0_envies 69 = .ok (.iload_n 3, 1) := dk_29 (dk_at dksX0_envies_3 0 rfl rfl)
theorem dX0_envies_70 : decode cX0_envies 70 = .ok (.iaload, 1) := dk_46 (dk_at dksX0_envies_3 1 rfl rfl)
theorem dX0_envies_71 : decode cX0_envies 71 = .ok (.invokevirtual 187, 3) := dk_182 0 187 (dk_at dksX0_envies_3 2 rfl rfl)
theorem dX0_envies_74 : decode cX0_envies 74 = .ok (.aload_n 0, 1) := dk_42 (dk_at dksX0_envies_3 5 rfl rfl)
theorem dX0_envies_75 : decode cX0_envies 75 = .ok (.getfield 21, 3) := dk_180 0 21 (dk_at dksX0_envies_3 6 rfl rfl)
theorem dX0_envies_78 : decode cX0_envies 78 = .ok (.iload_n 1, 1) := dk_27 (dk_at dksX0_envies_3 9 rfl rfl)
theorem dX0_envies_79 : decode cX0_envies 79 = .ok (.aload_n 0, 1) := dk_42 (dk_at dksX0_envies_3 10 rfl rfl)
theorem dX0_envies_80 : decode cX0_envies 80 = .ok (.getfield 21, 3) := dk_180 0 21 (dk_at dksX0_envies_3 11 rfl rfl)
theorem dX0_envies_83 : decode cX0_envies 83 = .ok (.getfield 173, 3) := dk_180 0 173 (dk_at dksX0_envies_3 14 rfl rfl)
theorem dX0_envies_86 : decode cX0_envies 86 = .ok (.iload_n 1, 1) := dk_27 (dk_at dksX0_envies_3 17 rfl rfl)
theorem dX0_envies_87 : decode cX0_envies 87 = .ok (.iaload, 1) := dk_46 (dk_at dksX0_envies_3 18 rfl rfl)
theorem dX0_envies_88 : decode cX0_envies 88 = .ok (.invokevirtual 187, 3) := dk_182 0 187 (dk_at dksX0_envies_3 19 rfl rfl)
theorem dX0_envies_91 : decode cX0_envies 91 = .ok (.if_icmp .le 9, 3) := dk_164 0 9 (dk_at dksX0_envies_4 0 rfl rfl)
theorem dX0_envies_94 : decode cX0_envies 94 = .ok (.iload_n 2, 1) := dk_28 (dk_at dksX0_envies_4 3 rfl rfl)
theorem dX0_envies_95 : decode cX0_envies 95 = .ok (.iconst 1, 1) := dk_4 (dk_at dksX0_envies_4 4 rfl rfl)
theorem dX0_envies_96 : decode cX0_envies 96 = .ok (.iload_n 3, 1) := dk_29 (dk_at dksX0_envies_4 5 rfl rfl)
theorem dX0_envies_97 : decode cX0_envies 97 = .ok (.ishl, 1) := dk_120 (dk_at dksX0_envies_4 6 rfl rfl)
theorem dX0_envies_98 : decode cX0_envies 98 = .ok (.ior, 1) := dk_128 (dk_at dksX0_envies_4 7 rfl rfl)
theorem dX0_envies_99 : decode cX0_envies 99 = .ok (.istore_n 2, 1) := dk_61 (dk_at dksX0_envies_4 8 rfl rfl)
theorem dX0_envies_100 : decode cX0_envies 100 = .ok (.iinc 3 1, 3) := dk_132 3 1 (dk_at dksX0_envies_4 9 rfl rfl)
theorem dX0_envies_103 : decode cX0_envies 103 = .ok (.goto (-88), 3) := dk_167 255 168 (dk_at dksX0_envies_4 12 rfl rfl)
theorem dX0_envies_106 : decode cX0_envies 106 = .ok (.iload_n 2, 1) := dk_28 (dk_at dksX0_envies_4 15 rfl rfl)
theorem dX0_envies_107 : decode cX0_envies 107 = .ok (.ireturn, 1) := dk_172 (dk_at dksX0_envies_4 16 rfl rfl)
abbrev cX0_byRings : ByteArray := prog_1_method_35_code
def yX0_byRings : MethodName := ⟨RX0, "byRings", "(I)I"⟩
def dkwX0_byRings_1 : List UInt8 := [46, 172]
abbrev dktX0_byRings_1 : List UInt8 := dkwX0_byRings_1 ++ []
def dkwX0_byRings_0 : List UInt8 := [42, 27, 182, 0, 164, 154, 0, 6, 16, 254, 172, 42, 42, 180, 0, 21, 182, 1, 35, 42, 180, 0, 40, 27]
abbrev dktX0_byRings_0 : List UInt8 := dkwX0_byRings_0 ++ dktX0_byRings_1
theorem dksX0_byRings_0 : cX0_byRings.data.toList.drop 0 = dktX0_byRings_0 := by decide +kernel
theorem dksX0_byRings_1 : cX0_byRings.data.toList.drop 24 = dktX0_byRings_1 := dk_seg dksX0_byRings_0 24 rfl rfl
theorem dX0_byRings_0 : decode cX0_byRings 0 = .ok (.aload_n 0, 1) := dk_42 (dk_at dksX0_byRings_0 0 rfl rfl)
theorem dX0_byRings_1 : decode cX0_byRings 1 = .ok (.iload_n 1, 1) := dk_27 (dk_at dksX0_byRings_0 1 rfl rfl)
theorem dX0_byRings_2 : decode cX0_byRings 2 = .ok (.invokevirtual 164, 3) := dk_182 0 164 (dk_at dksX0_byRings_0 2 rfl rfl)
theorem dX0_byRings_5 : decode cX0_byRings 5 = .ok (.ifCond .ne 6, 3) := dk_154 0 6 (dk_at dksX0_byRings_0 5 rfl rfl)
theorem dX0_byRings_8 : decode cX0_byRings 8 = .ok (.bipush (-2), 2) := dk_16 254 (dk_at dksX0_byRings_0 8 rfl rfl)
theorem dX0_byRings_10 : decode cX0_byRings 10 = .ok (.ireturn, 1) := dk_172 (dk_at dksX0_byRings_0 10 rfl rfl)
theorem dX0_byRings_11 : decode cX0_byRings 11 = .ok (.aload_n 0, 1) := dk_42 (dk_at dksX0_byRings_0 11 rfl rfl)
theorem dX0_byRings_12 : decode cX0_byRings 12 = .ok (.aload_n 0, 1) := dk_42 (dk_at dksX0_byRings_0 12 rfl rfl)
theorem dX0_byRings_13 : decode cX0_byRings 13 = .ok (.getfield 21, 3) := dk_180 0 21 (dk_at dksX0_byRings_0 13 rfl rfl)
theorem dX0_byRings_16 : decode cX0_byRings 16 = .ok (.invokevirtual 291, 3) := dk_182 1 35 (dk_at dksX0_byRings_0 16 rfl rfl)
theorem dX0_byRings_19 : decode cX0_byRings 19 = .ok (.aload_n 0, 1) := dk_42 (dk_at dksX0_byRings_0 19 rfl rfl)
theorem dX0_byRings_20 : decode cX0_byRings 20 = .ok (.getfield 40, 3) := dk_180 0 40 (dk_at dksX0_byRings_0 20 rfl rfl)
theorem dX0_byRings_23 : decode cX0_byRings 23 = .ok (.iload_n 1, 1) := dk_27 (dk_at dksX0_byRings_0 23 rfl rfl)
theorem dX0_byRings_24 : decode cX0_byRings 24 = .ok (.iaload, 1) := dk_46 (dk_at dksX0_byRings_1 0 rfl rfl)
theorem dX0_byRings_25 : decode cX0_byRings 25 = .ok (.ireturn, 1) := dk_172 (dk_at dksX0_byRings_1 1 rfl rfl)
abbrev cX0_ringsMany : ByteArray := prog_1_method_36_code
def yX0_ringsMany : MethodName := ⟨RX0, "ringsMany", "()I"⟩
def dkwX0_ringsMany_0 : List UInt8 := [42, 42, 180, 0, 21, 182, 1, 35, 42, 180, 1, 19, 172]
abbrev dktX0_ringsMany_0 : List UInt8 := dkwX0_ringsMany_0 ++ []
theorem dksX0_ringsMany_0 : cX0_ringsMany.data.toList.drop 0 = dktX0_ringsMany_0 := by decide +kernel
theorem dX0_ringsMany_0 : decode cX0_ringsMany 0 = .ok (.aload_n 0, 1) := dk_42 (dk_at dksX0_ringsMany_0 0 rfl rfl)
theorem dX0_ringsMany_1 : decode cX0_ringsMany 1 = .ok (.aload_n 0, 1) := dk_42 (dk_at dksX0_ringsMany_0 1 rfl rfl)
theorem dX0_ringsMany_2 : decode cX0_ringsMany 2 = .ok (.getfield 21, 3) := dk_180 0 21 (dk_at dksX0_ringsMany_0 2 rfl rfl)
theorem dX0_ringsMany_5 : decode cX0_ringsMany 5 = .ok (.invokevirtual 291, 3) := dk_182 1 35 (dk_at dksX0_ringsMany_0 5 rfl rfl)
theorem dX0_ringsMany_8 : decode cX0_ringsMany 8 = .ok (.aload_n 0, 1) := dk_42 (dk_at dksX0_ringsMany_0 8 rfl rfl)
theorem dX0_ringsMany_9 : decode cX0_ringsMany 9 = .ok (.getfield 275, 3) := dk_180 1 19 (dk_at dksX0_ringsMany_0 9 rfl rfl)
theorem dX0_ringsMany_12 : decode cX0_ringsMany 12 = .ok (.ireturn, 1) := dk_172 (dk_at dksX0_ringsMany_0 12 rfl rfl)
abbrev cX0_sunkIn : ByteArray := prog_1_method_38_code
def yX0_sunkIn : MethodName := ⟨RX0, "sunkIn", "(I)I"⟩
def dkwX0_sunkIn_1 : List UInt8 := [182, 0, 208, 87, 42, 180, 0, 25, 180, 0, 253, 172]
abbrev dktX0_sunkIn_1 : List UInt8 := dkwX0_sunkIn_1 ++ []
def dkwX0_sunkIn_0 : List UInt8 := [42, 27, 182, 1, 41, 154, 0, 6, 16, 253, 172, 42, 180, 0, 25, 42, 180, 0, 21, 182, 0, 194, 27]
abbrev dktX0_sunkIn_0 : List UInt8 := dkwX0_sunkIn_0 ++ dktX0_sunkIn_1
theorem dksX0_sunkIn_0 : cX0_sunkIn.data.toList.drop 0 = dktX0_sunkIn_0 := by decide +kernel
theorem dksX0_sunkIn_1 : cX0_sunkIn.data.toList.drop 23 = dktX0_sunkIn_1 := dk_seg dksX0_sunkIn_0 23 rfl rfl
theorem dX0_sunkIn_0 : decode cX0_sunkIn 0 = .ok (.aload_n 0, 1) := dk_42 (dk_at dksX0_sunkIn_0 0 rfl rfl)
theorem dX0_sunkIn_1 : decode cX0_sunkIn 1 = .ok (.iload_n 1, 1) := dk_27 (dk_at dksX0_sunkIn_0 1 rfl rfl)
theorem dX0_sunkIn_2 : decode cX0_sunkIn 2 = .ok (.invokevirtual 297, 3) := dk_182 1 41 (dk_at dksX0_sunkIn_0 2 rfl rfl)
theorem dX0_sunkIn_5 : decode cX0_sunkIn 5 = .ok (.ifCond .ne 6, 3) := dk_154 0 6 (dk_at dksX0_sunkIn_0 5 rfl rfl)
theorem dX0_sunkIn_8 : decode cX0_sunkIn 8 = .ok (.bipush (-3), 2) := dk_16 253 (dk_at dksX0_sunkIn_0 8 rfl rfl)
theorem dX0_sunkIn_10 : decode cX0_sunkIn 10 = .ok (.ireturn, 1) := dk_172 (dk_at dksX0_sunkIn_0 10 rfl rfl)
theorem dX0_sunkIn_11 : decode cX0_sunkIn 11 = .ok (.aload_n 0, 1) := dk_42 (dk_at dksX0_sunkIn_0 11 rfl rfl)
theorem dX0_sunkIn_12 : decode cX0_sunkIn 12 = .ok (.getfield 25, 3) := dk_180 0 25 (dk_at dksX0_sunkIn_0 12 rfl rfl)
theorem dX0_sunkIn_15 : decode cX0_sunkIn 15 = .ok (.aload_n 0, 1) := dk_42 (dk_at dksX0_sunkIn_0 15 rfl rfl)
theorem dX0_sunkIn_16 : decode cX0_sunkIn 16 = .ok (.getfield 21, 3) := dk_180 0 21 (dk_at dksX0_sunkIn_0 16 rfl rfl)
theorem dX0_sunkIn_19 : decode cX0_sunkIn 19 = .ok (.invokevirtual 194, 3) := dk_182 0 194 (dk_at dksX0_sunkIn_0 19 rfl rfl)
theorem dX0_sunkIn_22 : decode cX0_sunkIn 22 = .ok (.iload_n 1, 1) := dk_27 (dk_at dksX0_sunkIn_0 22 rfl rfl)
theorem dX0_sunkIn_23 : decode cX0_sunkIn 23 = .ok (.invokevirtual 208, 3) := dk_182 0 208 (dk_at dksX0_sunkIn_1 0 rfl rfl)
theorem dX0_sunkIn_26 : decode cX0_sunkIn 26 = .ok (.pop, 1) := dk_87 (dk_at dksX0_sunkIn_1 3 rfl rfl)
theorem dX0_sunkIn_27 : decode cX0_sunkIn 27 = .ok (.aload_n 0, 1) := dk_42 (dk_at dksX0_sunkIn_1 4 rfl rfl)
theorem dX0_sunkIn_28 : decode cX0_sunkIn 28 = .ok (.getfield 25, 3) := dk_180 0 25 (dk_at dksX0_sunkIn_1 5 rfl rfl)
theorem dX0_sunkIn_31 : decode cX0_sunkIn 31 = .ok (.getfield 253, 3) := dk_180 0 253 (dk_at dksX0_sunkIn_1 8 rfl rfl)
theorem dX0_sunkIn_34 : decode cX0_sunkIn 34 = .ok (.ireturn, 1) := dk_172 (dk_at dksX0_sunkIn_1 11 rfl rfl)
abbrev cX0_isAhead : ByteArray := prog_1_method_37_code
def yX0_isAhead : MethodName := ⟨RX0, "isAhead", "(I)Z"⟩
def dkwX0_isAhead_0 : List UInt8 := [27, 133, 9, 20, 1, 39, 184, 0, 108, 172]
abbrev dktX0_isAhead_0 : List UInt8 := dkwX0_isAhead_0 ++ []
theorem dksX0_isAhead_0 : cX0_isAhead.data.toList.drop 0 = dktX0_isAhead_0 := by decide +kernel
theorem dX0_isAhead_0 : decode cX0_isAhead 0 = .ok (.iload_n 1, 1) := dk_27 (dk_at dksX0_isAhead_0 0 rfl rfl)
theorem dX0_isAhead_1 : decode cX0_isAhead 1 = .ok (.i2l, 1) := dk_133 (dk_at dksX0_isAhead_0 1 rfl rfl)
theorem dX0_isAhead_2 : decode cX0_isAhead 2 = .ok (.lconst 0, 1) := dk_9 (dk_at dksX0_isAhead_0 2 rfl rfl)
theorem dX0_isAhead_3 : decode cX0_isAhead 3 = .ok (.ldc2_w 295, 3) := dk_20 1 39 (dk_at dksX0_isAhead_0 3 rfl rfl)
theorem dX0_isAhead_6 : decode cX0_isAhead 6 = .ok (.invokestatic 108, 3) := dk_184 0 108 (dk_at dksX0_isAhead_0 6 rfl rfl)
theorem dX0_isAhead_9 : decode cX0_isAhead 9 = .ok (.ireturn, 1) := dk_172 (dk_at dksX0_isAhead_0 9 rfl rfl)
abbrev cX0_heightIn : ByteArray := prog_1_method_39_code
def yX0_heightIn : MethodName := ⟨RX0, "heightIn", "(II)I"⟩
def dkwX0_heightIn_2 : List UInt8 := [180, 0, 253, 100, 16, 12, 184, 1, 45, 172]
abbrev dktX0_heightIn_2 : List UInt8 := dkwX0_heightIn_2 ++ []
def dkwX0_heightIn_1 : List UInt8 := [180, 0, 25, 42, 180, 0, 21, 182, 0, 194, 28, 182, 0, 208, 87, 17, 0, 144, 27, 104, 42, 180, 0, 25]
abbrev dktX0_heightIn_1 : List UInt8 := dkwX0_heightIn_1 ++ dktX0_heightIn_2
def dkwX0_heightIn_0 : List UInt8 := [42, 27, 182, 0, 144, 154, 0, 6, 18, 186, 172, 42, 28, 182, 1, 41, 154, 0, 7, 19, 1, 44, 172, 42]
abbrev dktX0_heightIn_0 : List UInt8 := dkwX0_heightIn_0 ++ dktX0_heightIn_1
theorem dksX0_heightIn_0 : cX0_heightIn.data.toList.drop 0 = dktX0_heightIn_0 := by decide +kernel
theorem dksX0_heightIn_1 : cX0_heightIn.data.toList.drop 24 = dktX0_heightIn_1 := dk_seg dksX0_heightIn_0 24 rfl rfl
theorem dksX0_heightIn_2 : cX0_heightIn.data.toList.drop 48 = dktX0_heightIn_2 := dk_seg dksX0_heightIn_1 24 rfl rfl
theorem dX0_heightIn_0 : decode cX0_heightIn 0 = .ok (.aload_n 0, 1) := dk_42 (dk_at dksX0_heightIn_0 0 rfl rfl)
theorem dX0_heightIn_1 : decode cX0_heightIn 1 = .ok (.iload_n 1, 1) := dk_27 (dk_at dksX0_heightIn_0 1 rfl rfl)
theorem dX0_heightIn_2 : decode cX0_heightIn 2 = .ok (.invokevirtual 144, 3) := dk_182 0 144 (dk_at dksX0_heightIn_0 2 rfl rfl)
theorem dX0_heightIn_5 : decode cX0_heightIn 5 = .ok (.ifCond .ne 6, 3) := dk_154 0 6 (dk_at dksX0_heightIn_0 5 rfl rfl)
theorem dX0_heightIn_8 : decode cX0_heightIn 8 = .ok (.ldc 186, 2) := dk_18 186 (dk_at dksX0_heightIn_0 8 rfl rfl)
theorem dX0_heightIn_10 : decode cX0_heightIn 10 = .ok (.ireturn, 1) := dk_172 (dk_at dksX0_heightIn_0 10 rfl rfl)
theorem dX0_heightIn_11 : decode cX0_heightIn 11 = .ok (.aload_n 0, 1) := dk_42 (dk_at dksX0_heightIn_0 11 rfl rfl)
theorem dX0_heightIn_12 : decode cX0_heightIn 12 = .ok (.iload_n 2, 1) := dk_28 (dk_at dksX0_heightIn_0 12 rfl rfl)
theorem dX0_heightIn_13 : decode cX0_heightIn 13 = .ok (.invokevirtual 297, 3) := dk_182 1 41 (dk_at dksX0_heightIn_0 13 rfl rfl)
theorem dX0_heightIn_16 : decode cX0_heightIn 16 = .ok (.ifCond .ne 7, 3) := dk_154 0 7 (dk_at dksX0_heightIn_0 16 rfl rfl)
theorem dX0_heightIn_19 : decode cX0_heightIn 19 = .ok (.ldc_w 300, 3) := dk_19 1 44 (dk_at dksX0_heightIn_0 19 rfl rfl)
theorem dX0_heightIn_22 : decode cX0_heightIn 22 = .ok (.ireturn, 1) := dk_172 (dk_at dksX0_heightIn_0 22 rfl rfl)
theorem dX0_heightIn_23 : decode cX0_heightIn 23 = .ok (.aload_n 0, 1) := dk_42 (dk_at dksX0_heightIn_0 23 rfl rfl)
theorem dX0_heightIn_24 : decode cX0_heightIn 24 = .ok (.getfield 25, 3) := dk_180 0 25 (dk_at dksX0_heightIn_1 0 rfl rfl)
theorem dX0_heightIn_27 : decode cX0_heightIn 27 = .ok (.aload_n 0, 1) := dk_42 (dk_at dksX0_heightIn_1 3 rfl rfl)
theorem dX0_heightIn_28 : decode cX0_heightIn 28 = .ok (.getfield 21, 3) := dk_180 0 21 (dk_at dksX0_heightIn_1 4 rfl rfl)
theorem dX0_heightIn_31 : decode cX0_heightIn 31 = .ok (.invokevirtual 194, 3) := dk_182 0 194 (dk_at dksX0_heightIn_1 7 rfl rfl)
theorem dX0_heightIn_34 : decode cX0_heightIn 34 = .ok (.iload_n 2, 1) := dk_28 (dk_at dksX0_heightIn_1 10 rfl rfl)
theorem dX0_heightIn_35 : decode cX0_heightIn 35 = .ok (.invokevirtual 208, 3) := dk_182 0 208 (dk_at dksX0_heightIn_1 11 rfl rfl)
theorem dX0_heightIn_38 : decode cX0_heightIn 38 = .ok (.pop, 1) := dk_87 (dk_at dksX0_heightIn_1 14 rfl rfl)
theorem dX0_heightIn_39 : decode cX0_heightIn 39 = .ok (.sipush 144, 3) := dk_17 0 144 (dk_at dksX0_heightIn_1 15 rfl rfl)
theorem dX0_heightIn_42 : decode cX0_heightIn 42 = .ok (.iload_n 1, 1) := dk_27 (dk_at dksX0_heightIn_1 18 rfl rfl)
theorem dX0_heightIn_43 : decode cX0_heightIn 43 = .ok (.imul, 1) := dk_104 (dk_at dksX0_heightIn_1 19 rfl rfl)
theorem dX0_heightIn_44 : decode cX0_heightIn 44 = .ok (.aload_n 0, 1) := dk_42 (dk_at dksX0_heightIn_1 20 rfl rfl)
theorem dX0_heightIn_45 : decode cX0_heightIn 45 = .ok (.getfield 25, 3) := dk_180 0 25 (dk_at dksX0_heightIn_1 21 rfl rfl)
theorem dX0_heightIn_48 : decode cX0_heightIn 48 = .ok (.getfield 253, 3) := dk_180 0 253 (dk_at dksX0_heightIn_2 0 rfl rfl)
theorem dX0_heightIn_51 : decode cX0_heightIn 51 = .ok (.isub, 1) := dk_100 (dk_at dksX0_heightIn_2 3 rfl rfl)
theorem dX0_heightIn_52 : decode cX0_heightIn 52 = .ok (.bipush 12, 2) := dk_16 12 (dk_at dksX0_heightIn_2 4 rfl rfl)
theorem dX0_heightIn_54 : decode cX0_heightIn 54 = .ok (.invokestatic 301, 3) := dk_184 1 45 (dk_at dksX0_heightIn_2 6 rfl rfl)
theorem dX0_heightIn_57 : decode cX0_heightIn 57 = .ok (.ireturn, 1) := dk_172 (dk_at dksX0_heightIn_2 9 rfl rfl)
abbrev cX0_doorIn : ByteArray := prog_1_method_40_code
def yX0_doorIn : MethodName := ⟨RX0, "doorIn", "(I)I"⟩
def dkwX0_doorIn_1 : List UInt8 := [182, 0, 208, 87, 42, 180, 0, 25, 182, 1, 48, 172]
abbrev dktX0_doorIn_1 : List UInt8 := dkwX0_doorIn_1 ++ []
def dkwX0_doorIn_0 : List UInt8 := [42, 27, 182, 1, 41, 154, 0, 6, 16, 253, 172, 42, 180, 0, 25, 42, 180, 0, 21, 182, 0, 194, 27]
abbrev dktX0_doorIn_0 : List UInt8 := dkwX0_doorIn_0 ++ dktX0_doorIn_1
theorem dksX0_doorIn_0 : cX0_doorIn.data.toList.drop 0 = dktX0_doorIn_0 := by decide +kernel
theorem dksX0_doorIn_1 : cX0_doorIn.data.toList.drop 23 = dktX0_doorIn_1 := dk_seg dksX0_doorIn_0 23 rfl rfl
theorem dX0_doorIn_0 : decode cX0_doorIn 0 = .ok (.aload_n 0, 1) := dk_42 (dk_at dksX0_doorIn_0 0 rfl rfl)
theorem dX0_doorIn_1 : decode cX0_doorIn 1 = .ok (.iload_n 1, 1) := dk_27 (dk_at dksX0_doorIn_0 1 rfl rfl)
theorem dX0_doorIn_2 : decode cX0_doorIn 2 = .ok (.invokevirtual 297, 3) := dk_182 1 41 (dk_at dksX0_doorIn_0 2 rfl rfl)
theorem dX0_doorIn_5 : decode cX0_doorIn 5 = .ok (.ifCond .ne 6, 3) := dk_154 0 6 (dk_at dksX0_doorIn_0 5 rfl rfl)
theorem dX0_doorIn_8 : decode cX0_doorIn 8 = .ok (.bipush (-3), 2) := dk_16 253 (dk_at dksX0_doorIn_0 8 rfl rfl)
theorem dX0_doorIn_10 : decode cX0_doorIn 10 = .ok (.ireturn, 1) := dk_172 (dk_at dksX0_doorIn_0 10 rfl rfl)
theorem dX0_doorIn_11 : decode cX0_doorIn 11 = .ok (.aload_n 0, 1) := dk_42 (dk_at dksX0_doorIn_0 11 rfl rfl)
theorem dX0_doorIn_12 : decode cX0_doorIn 12 = .ok (.getfield 25, 3) := dk_180 0 25 (dk_at dksX0_doorIn_0 12 rfl rfl)
theorem dX0_doorIn_15 : decode cX0_doorIn 15 = .ok (.aload_n 0, 1) := dk_42 (dk_at dksX0_doorIn_0 15 rfl rfl)
theorem dX0_doorIn_16 : decode cX0_doorIn 16 = .ok (.getfield 21, 3) := dk_180 0 21 (dk_at dksX0_doorIn_0 16 rfl rfl)
theorem dX0_doorIn_19 : decode cX0_doorIn 19 = .ok (.invokevirtual 194, 3) := dk_182 0 194 (dk_at dksX0_doorIn_0 19 rfl rfl)
theorem dX0_doorIn_22 : decode cX0_doorIn 22 = .ok (.iload_n 1, 1) := dk_27 (dk_at dksX0_doorIn_0 22 rfl rfl)
theorem dX0_doorIn_23 : decode cX0_doorIn 23 = .ok (.invokevirtual 208, 3) := dk_182 0 208 (dk_at dksX0_doorIn_1 0 rfl rfl)
theorem dX0_doorIn_26 : decode cX0_doorIn 26 = .ok (.pop, 1) := dk_87 (dk_at dksX0_doorIn_1 3 rfl rfl)
theorem dX0_doorIn_27 : decode cX0_doorIn 27 = .ok (.aload_n 0, 1) := dk_42 (dk_at dksX0_doorIn_1 4 rfl rfl)
theorem dX0_doorIn_28 : decode cX0_doorIn 28 = .ok (.getfield 25, 3) := dk_180 0 25 (dk_at dksX0_doorIn_1 5 rfl rfl)
theorem dX0_doorIn_31 : decode cX0_doorIn 31 = .ok (.invokevirtual 304, 3) := dk_182 1 48 (dk_at dksX0_doorIn_1 8 rfl rfl)
theorem dX0_doorIn_34 : decode cX0_doorIn 34 = .ok (.ireturn, 1) := dk_172 (dk_at dksX0_doorIn_1 11 rfl rfl)
abbrev cX0_buriedIn : ByteArray := prog_1_method_42_code
def yX0_buriedIn : MethodName := ⟨RX0, "buriedIn", "(I)I"⟩
def dkwX0_buriedIn_1 : List UInt8 := [172]
abbrev dktX0_buriedIn_1 : List UInt8 := dkwX0_buriedIn_1 ++ []
def dkwX0_buriedIn_0 : List UInt8 := [42, 27, 182, 0, 144, 153, 0, 17, 42, 17, 0, 144, 27, 4, 96, 104, 182, 1, 54, 167, 0, 5, 16, 254]
abbrev dktX0_buriedIn_0 : List UInt8 := dkwX0_buriedIn_0 ++ dktX0_buriedIn_1
theorem dksX0_buriedIn_0 : cX0_buriedIn.data.toList.drop 0 = dktX0_buriedIn_0 := by decide +kernel
theorem dksX0_buriedIn_1 : cX0_buriedIn.data.toList.drop 24 = dktX0_buriedIn_1 := dk_seg dksX0_buriedIn_0 24 rfl rfl
theorem dX0_buriedIn_0 : decode cX0_buriedIn 0 = .ok (.aload_n 0, 1) := dk_42 (dk_at dksX0_buriedIn_0 0 rfl rfl)
theorem dX0_buriedIn_1 : decode cX0_buriedIn 1 = .ok (.iload_n 1, 1) := dk_27 (dk_at dksX0_buriedIn_0 1 rfl rfl)
theorem dX0_buriedIn_2 : decode cX0_buriedIn 2 = .ok (.invokevirtual 144, 3) := dk_182 0 144 (dk_at dksX0_buriedIn_0 2 rfl rfl)
theorem dX0_buriedIn_5 : decode cX0_buriedIn 5 = .ok (.ifCond .eq 17, 3) := dk_153 0 17 (dk_at dksX0_buriedIn_0 5 rfl rfl)
theorem dX0_buriedIn_8 : decode cX0_buriedIn 8 = .ok (.aload_n 0, 1) := dk_42 (dk_at dksX0_buriedIn_0 8 rfl rfl)
theorem dX0_buriedIn_9 : decode cX0_buriedIn 9 = .ok (.sipush 144, 3) := dk_17 0 144 (dk_at dksX0_buriedIn_0 9 rfl rfl)
theorem dX0_buriedIn_12 : decode cX0_buriedIn 12 = .ok (.iload_n 1, 1) := dk_27 (dk_at dksX0_buriedIn_0 12 rfl rfl)
theorem dX0_buriedIn_13 : decode cX0_buriedIn 13 = .ok (.iconst 1, 1) := dk_4 (dk_at dksX0_buriedIn_0 13 rfl rfl)
theorem dX0_buriedIn_14 : decode cX0_buriedIn 14 = .ok (.iadd, 1) := dk_96 (dk_at dksX0_buriedIn_0 14 rfl rfl)
theorem dX0_buriedIn_15 : decode cX0_buriedIn 15 = .ok (.imul, 1) := dk_104 (dk_at dksX0_buriedIn_0 15 rfl rfl)
theorem dX0_buriedIn_16 : decode cX0_buriedIn 16 = .ok (.invokevirtual 310, 3) := dk_182 1 54 (dk_at dksX0_buriedIn_0 16 rfl rfl)
theorem dX0_buriedIn_19 : decode cX0_buriedIn 19 = .ok (.goto 5, 3) := dk_167 0 5 (dk_at dksX0_buriedIn_0 19 rfl rfl)
theorem dX0_buriedIn_22 : decode cX0_buriedIn 22 = .ok (.bipush (-2), 2) := dk_16 254 (dk_at dksX0_buriedIn_0 22 rfl rfl)
theorem dX0_buriedIn_24 : decode cX0_buriedIn 24 = .ok (.ireturn, 1) := dk_172 (dk_at dksX0_buriedIn_1 0 rfl rfl)
abbrev cX0_firstSunk : ByteArray := prog_1_method_41_code
def yX0_firstSunk : MethodName := ⟨RX0, "firstSunk", "(I)I"⟩
def dkwX0_firstSunk_2 : List UInt8 := [167, 255, 225, 2, 172]
abbrev dktX0_firstSunk_2 : List UInt8 := dkwX0_firstSunk_2 ++ []
def dkwX0_firstSunk_1 : List UInt8 := [180, 0, 25, 180, 0, 253, 27, 161, 0, 5, 28, 172, 42, 180, 0, 25, 182, 1, 51, 87, 132, 2, 1]
abbrev dktX0_firstSunk_1 : List UInt8 := dkwX0_firstSunk_1 ++ dktX0_firstSunk_2
def dkwX0_firstSunk_0 : List UInt8 := [42, 180, 0, 25, 42, 180, 0, 21, 182, 0, 194, 87, 3, 61, 28, 17, 2, 88, 163, 0, 30, 42]
abbrev dktX0_firstSunk_0 : List UInt8 := dkwX0_firstSunk_0 ++ dktX0_firstSunk_1
theorem dksX0_firstSunk_0 : cX0_firstSunk.data.toList.drop 0 = dktX0_firstSunk_0 := by decide +kernel
theorem dksX0_firstSunk_1 : cX0_firstSunk.data.toList.drop 22 = dktX0_firstSunk_1 := dk_seg dksX0_firstSunk_0 22 rfl rfl
theorem dksX0_firstSunk_2 : cX0_firstSunk.data.toList.drop 45 = dktX0_firstSunk_2 := dk_seg dksX0_firstSunk_1 23 rfl rfl
theorem dX0_firstSunk_0 : decode cX0_firstSunk 0 = .ok (.aload_n 0, 1) := dk_42 (dk_at dksX0_firstSunk_0 0 rfl rfl)
theorem dX0_firstSunk_1 : decode cX0_firstSunk 1 = .ok (.getfield 25, 3) := dk_180 0 25 (dk_at dksX0_firstSunk_0 1 rfl rfl)
theorem dX0_firstSunk_4 : decode cX0_firstSunk 4 = .ok (.aload_n 0, 1) := dk_42 (dk_at dksX0_firstSunk_0 4 rfl rfl)
theorem dX0_firstSunk_5 : decode cX0_firstSunk 5 = .ok (.getfield 21, 3) := dk_180 0 21 (dk_at dksX0_firstSunk_0 5 rfl rfl)
theorem dX0_firstSunk_8 : decode cX0_firstSunk 8 = .ok (.invokevirtual 194, 3) := dk_182 0 194 (dk_at dksX0_firstSunk_0 8 rfl rfl)
theorem dX0_firstSunk_11 : decode cX0_firstSunk 11 = .ok (.pop, 1) := dk_87 (dk_at dksX0_firstSunk_0 11 rfl rfl)
theorem dX0_firstSunk_12 : decode cX0_firstSunk 12 = .ok (.iconst 0, 1) := dk_3 (dk_at dksX0_firstSunk_0 12 rfl rfl)
theorem dX0_firstSunk_13 : decode cX0_firstSunk 13 = .ok (.istore_n 2, 1) := dk_61 (dk_at dksX0_firstSunk_0 13 rfl rfl)
theorem dX0_firstSunk_14 : decode cX0_firstSunk 14 = .ok (.iload_n 2, 1) := dk_28 (dk_at dksX0_firstSunk_0 14 rfl rfl)
theorem dX0_firstSunk_15 : decode cX0_firstSunk 15 = .ok (.sipush 600, 3) := dk_17 2 88 (dk_at dksX0_firstSunk_0 15 rfl rfl)
theorem dX0_firstSunk_18 : decode cX0_firstSunk 18 = .ok (.if_icmp .gt 30, 3) := dk_163 0 30 (dk_at dksX0_firstSunk_0 18 rfl rfl)
theorem dX0_firstSunk_21 : decode cX0_firstSunk 21 = .ok (.aload_n 0, 1) := dk_42 (dk_at dksX0_firstSunk_0 21 rfl rfl)
theorem dX0_firstSunk_22 : decode cX0_firstSunk 22 = .ok (.getfield 25, 3) := dk_180 0 25 (dk_at dksX0_firstSunk_1 0 rfl rfl)
theorem dX0_firstSunk_25 : decode cX0_firstSunk 25 = .ok (.getfield 253, 3) := dk_180 0 253 (dk_at dksX0_firstSunk_1 3 rfl rfl)
theorem dX0_firstSunk_28 : decode cX0_firstSunk 28 = .ok (.iload_n 1, 1) := dk_27 (dk_at dksX0_firstSunk_1 6 rfl rfl)
theorem dX0_firstSunk_29 : decode cX0_firstSunk 29 = .ok (.if_icmp .lt 5, 3) := dk_161 0 5 (dk_at dksX0_firstSunk_1 7 rfl rfl)
theorem dX0_firstSunk_32 : decode cX0_firstSunk 32 = .ok (.iload_n 2, 1) := dk_28 (dk_at dksX0_firstSunk_1 10 rfl rfl)
theorem dX0_firstSunk_33 : decode cX0_firstSunk 33 = .ok (.ireturn, 1) := dk_172 (dk_at dksX0_firstSunk_1 11 rfl rfl)
theorem dX0_firstSunk_34 : decode cX0_firstSunk 34 = .ok (.aload_n 0, 1) := dk_42 (dk_at dksX0_firstSunk_1 12 rfl rfl)
theorem dX0_firstSunk_35 : decode cX0_firstSunk 35 = .ok (.getfield 25, 3) := dk_180 0 25 (dk_at dksX0_firstSunk_1 13 rfl rfl)
theorem dX0_firstSunk_38 : decode cX0_firstSunk 38 = .ok (.invokevirtual 307, 3) := dk_182 1 51 (dk_at dksX0_firstSunk_1 16 rfl rfl)
theorem dX0_firstSunk_41 : decode cX0_firstSunk 41 = .ok (.pop, 1) := dk_87 (dk_at dksX0_firstSunk_1 19 rfl rfl)
theorem dX0_firstSunk_42 : decode cX0_firstSunk 42 = .ok (.iinc 2 1, 3) := dk_132 2 1 (dk_at dksX0_firstSunk_1 20 rfl rfl)
theorem dX0_firstSunk_45 : decode cX0_firstSunk 45 = .ok (.goto (-31), 3) := dk_167 255 225 (dk_at dksX0_firstSunk_2 0 rfl rfl)
theorem dX0_firstSunk_48 : decode cX0_firstSunk 48 = .ok (.iconst (-1), 1) := dk_2 (dk_at dksX0_firstSunk_2 3 rfl rfl)
theorem dX0_firstSunk_49 : decode cX0_firstSunk 49 = .ok (.ireturn, 1) := dk_172 (dk_at dksX0_firstSunk_2 4 rfl rfl)
abbrev cX0_sunkBy : ByteArray := prog_1_method_43_code
def yX0_sunkBy : MethodName := ⟨RX0, "sunkBy", "(I)I"⟩
def dkwX0_sunkBy_0 : List UInt8 := [27, 156, 0, 8, 16, 253, 167, 0, 8, 42, 27, 182, 1, 54, 172]
abbrev dktX0_sunkBy_0 : List UInt8 := dkwX0_sunkBy_0 ++ []
theorem dksX0_sunkBy_0 : cX0_sunkBy.data.toList.drop 0 = dktX0_sunkBy_0 := by decide +kernel
theorem dX0_sunkBy_0 : decode cX0_sunkBy 0 = .ok (.iload_n 1, 1) := dk_27 (dk_at dksX0_sunkBy_0 0 rfl rfl)
theorem dX0_sunkBy_1 : decode cX0_sunkBy 1 = .ok (.ifCond .ge 8, 3) := dk_156 0 8 (dk_at dksX0_sunkBy_0 1 rfl rfl)
theorem dX0_sunkBy_4 : decode cX0_sunkBy 4 = .ok (.bipush (-3), 2) := dk_16 253 (dk_at dksX0_sunkBy_0 4 rfl rfl)
theorem dX0_sunkBy_6 : decode cX0_sunkBy 6 = .ok (.goto 8, 3) := dk_167 0 8 (dk_at dksX0_sunkBy_0 6 rfl rfl)
theorem dX0_sunkBy_9 : decode cX0_sunkBy 9 = .ok (.aload_n 0, 1) := dk_42 (dk_at dksX0_sunkBy_0 9 rfl rfl)
theorem dX0_sunkBy_10 : decode cX0_sunkBy 10 = .ok (.iload_n 1, 1) := dk_27 (dk_at dksX0_sunkBy_0 10 rfl rfl)
theorem dX0_sunkBy_11 : decode cX0_sunkBy 11 = .ok (.invokevirtual 310, 3) := dk_182 1 54 (dk_at dksX0_sunkBy_0 11 rfl rfl)
theorem dX0_sunkBy_14 : decode cX0_sunkBy 14 = .ok (.ireturn, 1) := dk_172 (dk_at dksX0_sunkBy_0 14 rfl rfl)
abbrev cX0_fastest : ByteArray := prog_1_method_44_code
def yX0_fastest : MethodName := ⟨RX0, "fastest", "()I"⟩
def dkwX0_fastest_2 : List UInt8 := [21, 4, 61, 132, 3, 1, 167, 255, 223, 27, 172]
abbrev dktX0_fastest_2 : List UInt8 := dkwX0_fastest_2 ++ []
def dkwX0_fastest_1 : List UInt8 := [163, 0, 32, 42, 180, 0, 25, 182, 1, 51, 54, 4, 21, 4, 28, 163, 0, 6, 167, 0, 8, 29, 60]
abbrev dktX0_fastest_1 : List UInt8 := dkwX0_fastest_1 ++ dktX0_fastest_2
def dkwX0_fastest_0 : List UInt8 := [42, 180, 0, 25, 42, 180, 0, 21, 182, 0, 194, 87, 3, 60, 2, 61, 3, 62, 29, 17, 2, 88]
abbrev dktX0_fastest_0 : List UInt8 := dkwX0_fastest_0 ++ dktX0_fastest_1
theorem dksX0_fastest_0 : cX0_fastest.data.toList.drop 0 = dktX0_fastest_0 := by decide +kernel
theorem dksX0_fastest_1 : cX0_fastest.data.toList.drop 22 = dktX0_fastest_1 := dk_seg dksX0_fastest_0 22 rfl rfl
theorem dksX0_fastest_2 : cX0_fastest.data.toList.drop 45 = dktX0_fastest_2 := dk_seg dksX0_fastest_1 23 rfl rfl
theorem dX0_fastest_0 : decode cX0_fastest 0 = .ok (.aload_n 0, 1) := dk_42 (dk_at dksX0_fastest_0 0 rfl rfl)
theorem dX0_fastest_1 : decode cX0_fastest 1 = .ok (.getfield 25, 3) := dk_180 0 25 (dk_at dksX0_fastest_0 1 rfl rfl)
theorem dX0_fastest_4 : decode cX0_fastest 4 = .ok (.aload_n 0, 1) := dk_42 (dk_at dksX0_fastest_0 4 rfl rfl)
theorem dX0_fastest_5 : decode cX0_fastest 5 = .ok (.getfield 21, 3) := dk_180 0 21 (dk_at dksX0_fastest_0 5 rfl rfl)
theorem dX0_fastest_8 : decode cX0_fastest 8 = .ok (.invokevirtual 194, 3) := dk_182 0 194 (dk_at dksX0_fastest_0 8 rfl rfl)
theorem dX0_fastest_11 : decode cX0_fastest 11 = .ok (.pop, 1) := dk_87 (dk_at dksX0_fastest_0 11 rfl rfl)
theorem dX0_fastest_12 : decode cX0_fastest 12 = .ok (.iconst 0, 1) := dk_3 (dk_at dksX0_fastest_0 12 rfl rfl)
theorem dX0_fastest_13 : decode cX0_fastest 13 = .ok (.istore_n 1, 1) := dk_60 (dk_at dksX0_fastest_0 13 rfl rfl)
theorem dX0_fastest_14 : decode cX0_fastest 14 = .ok (.iconst (-1), 1) := dk_2 (dk_at dksX0_fastest_0 14 rfl rfl)
theorem dX0_fastest_15 : decode cX0_fastest 15 = .ok (.istore_n 2, 1) := dk_61 (dk_at dksX0_fastest_0 15 rfl rfl)
theorem dX0_fastest_16 : decode cX0_fastest 16 = .ok (.iconst 0, 1) := dk_3 (dk_at dksX0_fastest_0 16 rfl rfl)
theorem dX0_fastest_17 : decode cX0_fastest 17 = .ok (.istore_n 3, 1) := dk_62 (dk_at dksX0_fastest_0 17 rfl rfl)
theorem dX0_fastest_18 : decode cX0_fastest 18 = .ok (.iload_n 3, 1) := dk_29 (dk_at dksX0_fastest_0 18 rfl rfl)
theorem dX0_fastest_19 : decode cX0_fastest 19 = .ok (.sipush 600, 3) := dk_17 2 88 (dk_at dksX0_fastest_0 19 rfl rfl)
theorem dX0_fastest_22 : decode cX0_fastest 22 = .ok (.if_icmp .gt 32, 3) := dk_163 0 32 (dk_at dksX0_fastest_1 0 rfl rfl)
theorem dX0_fastest_25 : decode cX0_fastest 25 = .ok (.aload_n 0, 1) := dk_42 (dk_at dksX0_fastest_1 3 rfl rfl)
theorem dX0_fastest_26 : decode cX0_fastest 26 = .ok (.getfield 25, 3) := dk_180 0 25 (dk_at dksX0_fastest_1 4 rfl rfl)
theorem dX0_fastest_29 : decode cX0_fastest 29 = .ok (.invokevirtual 307, 3) := dk_182 1 51 (dk_at dksX0_fastest_1 7 rfl rfl)
theorem dX0_fastest_32 : decode cX0_fastest 32 = .ok (.istore 4, 2) := dk_54 4 (dk_at dksX0_fastest_1 10 rfl rfl)
theorem dX0_fastest_34 : decode cX0_fastest 34 = .ok (.iload 4, 2) := dk_21 4 (dk_at dksX0_fastest_1 12 rfl rfl)
theorem dX0_fastest_36 : decode cX0_fastest 36 = .ok (.iload_n 2, 1) := dk_28 (dk_at dksX0_fastest_1 14 rfl rfl)
theorem dX0_fastest_37 : decode cX0_fastest 37 = .ok (.if_icmp .gt 6, 3) := dk_163 0 6 (dk_at dksX0_fastest_1 15 rfl rfl)
theorem dX0_fastest_40 : decode cX0_fastest 40 = .ok (.goto 8, 3) := dk_167 0 8 (dk_at dksX0_fastest_1 18 rfl rfl)
theorem dX0_fastest_43 : decode cX0_fastest 43 = .ok (.iload_n 3, 1) := dk_29 (dk_at dksX0_fastest_1 21 rfl rfl)
theorem dX0_fastest_44 : decode cX0_fastest 44 = .ok (.istore_n 1, 1) := dk_60 (dk_at dksX0_fastest_1 22 rfl rfl)
theorem dX0_fastest_45 : decode cX0_fastest 45 = .ok (.iload 4, 2) := dk_21 4 (dk_at dksX0_fastest_2 0 rfl rfl)
theorem dX0_fastest_47 : decode cX0_fastest 47 = .ok (.istore_n 2, 1) := dk_61 (dk_at dksX0_fastest_2 2 rfl rfl)
theorem dX0_fastest_48 : decode cX0_fastest 48 = .ok (.iinc 3 1, 3) := dk_132 3 1 (dk_at dksX0_fastest_2 3 rfl rfl)
theorem dX0_fastest_51 : decode cX0_fastest 51 = .ok (.goto (-33), 3) := dk_167 255 223 (dk_at dksX0_fastest_2 6 rfl rfl)
theorem dX0_fastest_54 : decode cX0_fastest 54 = .ok (.iload_n 1, 1) := dk_27 (dk_at dksX0_fastest_2 9 rfl rfl)
theorem dX0_fastest_55 : decode cX0_fastest 55 = .ok (.ireturn, 1) := dk_172 (dk_at dksX0_fastest_2 10 rfl rfl)
abbrev cX0_paid : ByteArray := prog_1_method_45_code
def yX0_paid : MethodName := ⟨RX0, "paid", "(I)J"⟩
def dkwX0_paid_2 : List UInt8 := [133, 97, 65, 42, 180, 0, 25, 182, 1, 51, 87, 132, 4, 1, 167, 255, 227, 32, 173]
abbrev dktX0_paid_2 : List UInt8 := dkwX0_paid_2 ++ []
def dkwX0_paid_1 : List UInt8 := [182, 0, 194, 87, 9, 65, 3, 54, 4, 21, 4, 27, 162, 0, 29, 32, 42, 180, 0, 25, 4, 182, 1, 59]
abbrev dktX0_paid_1 : List UInt8 := dkwX0_paid_1 ++ dktX0_paid_2
def dkwX0_paid_0 : List UInt8 := [27, 133, 10, 20, 1, 39, 184, 0, 108, 154, 0, 7, 20, 1, 57, 173, 42, 180, 0, 25, 42, 180, 0, 21]
abbrev dktX0_paid_0 : List UInt8 := dkwX0_paid_0 ++ dktX0_paid_1
theorem dksX0_paid_0 : cX0_paid.data.toList.drop 0 = dktX0_paid_0 := by decide +kernel
theorem dksX0_paid_1 : cX0_paid.data.toList.drop 24 = dktX0_paid_1 := dk_seg dksX0_paid_0 24 rfl rfl
theorem dksX0_paid_2 : cX0_paid.data.toList.drop 48 = dktX0_paid_2 := dk_seg dksX0_paid_1 24 rfl rfl
theorem dX0_paid_0 : decode cX0_paid 0 = .ok (.iload_n 1, 1) := dk_27 (dk_at dksX0_paid_0 0 rfl rfl)
theorem dX0_paid_1 : decode cX0_paid 1 = .ok (.i2l, 1) := dk_133 (dk_at dksX0_paid_0 1 rfl rfl)
theorem dX0_paid_2 : decode cX0_paid 2 = .ok (.lconst 1, 1) := dk_10 (dk_at dksX0_paid_0 2 rfl rfl)
theorem dX0_paid_3 : decode cX0_paid 3 = .ok (.ldc2_w 295, 3) := dk_20 1 39 (dk_at dksX0_paid_0 3 rfl rfl)
theorem dX0_paid_6 : decode cX0_paid 6 = .ok (.invokestatic 108, 3) := dk_184 0 108 (dk_at dksX0_paid_0 6 rfl rfl)
theorem dX0_paid_9 : decode cX0_paid 9 = .ok (.ifCond .ne 7, 3) := dk_154 0 7 (dk_at dksX0_paid_0 9 rfl rfl)
theorem dX0_paid_12 : decode cX0_paid 12 = .ok (.ldc2_w 313, 3) := dk_20 1 57 (dk_at dksX0_paid_0 12 rfl rfl)
theorem dX0_paid_15 : decode cX0_paid 15 = .ok (.lreturn, 1) := dk_173 (dk_at dksX0_paid_0 15 rfl rfl)
theorem dX0_paid_16 : decode cX0_paid 16 = .ok (.aload_n 0, 1) := dk_42 (dk_at dksX0_paid_0 16 rfl rfl)
theorem dX0_paid_17 : decode cX0_paid 17 = .ok (.getfield 25, 3) := dk_180 0 25 (dk_at dksX0_paid_0 17 rfl rfl)
theorem dX0_paid_20 : decode cX0_paid 20 = .ok (.aload_n 0, 1) := dk_42 (dk_at dksX0_paid_0 20 rfl rfl)
theorem dX0_paid_21 : decode cX0_paid 21 = .ok (.getfield 21, 3) := dk_180 0 21 (dk_at dksX0_paid_0 21 rfl rfl)
theorem dX0_paid_24 : decode cX0_paid 24 = .ok (.invokevirtual 194, 3) := dk_182 0 194 (dk_at dksX0_paid_1 0 rfl rfl)
theorem dX0_paid_27 : decode cX0_paid 27 = .ok (.pop, 1) := dk_87 (dk_at dksX0_paid_1 3 rfl rfl)
theorem dX0_paid_28 : decode cX0_paid 28 = .ok (.lconst 0, 1) := dk_9 (dk_at dksX0_paid_1 4 rfl rfl)
theorem dX0_paid_29 : decode cX0_paid 29 = .ok (.lstore_n 2, 1) := dk_65 (dk_at dksX0_paid_1 5 rfl rfl)
theorem dX0_paid_30 : decode cX0_paid 30 = .ok (.iconst 0, 1) := dk_3 (dk_at dksX0_paid_1 6 rfl rfl)
theorem dX0_paid_31 : decode cX0_paid 31 = .ok (.istore 4, 2) := dk_54 4 (dk_at dksX0_paid_1 7 rfl rfl)
theorem dX0_paid_33 : decode cX0_paid 33 = .ok (.iload 4, 2) := dk_21 4 (dk_at dksX0_paid_1 9 rfl rfl)
theorem dX0_paid_35 : decode cX0_paid 35 = .ok (.iload_n 1, 1) := dk_27 (dk_at dksX0_paid_1 11 rfl rfl)
theorem dX0_paid_36 : decode cX0_paid 36 = .ok (.if_icmp .ge 29, 3) := dk_162 0 29 (dk_at dksX0_paid_1 12 rfl rfl)
theorem dX0_paid_39 : decode cX0_paid 39 = .ok (.lload_n 2, 1) := dk_32 (dk_at dksX0_paid_1 15 rfl rfl)
theorem dX0_paid_40 : decode cX0_paid 40 = .ok (.aload_n 0, 1) := dk_42 (dk_at dksX0_paid_1 16 rfl rfl)
theorem dX0_paid_41 : decode cX0_paid 41 = .ok (.getfield 25, 3) := dk_180 0 25 (dk_at dksX0_paid_1 17 rfl rfl)
theorem dX0_paid_44 : decode cX0_paid 44 = .ok (.iconst 1, 1) := dk_4 (dk_at dksX0_paid_1 20 rfl rfl)
theorem dX0_paid_45 : decode cX0_paid 45 = .ok (.invokevirtual 315, 3) := dk_182 1 59 (dk_at dksX0_paid_1 21 rfl rfl)
theorem dX0_paid_48 : decode cX0_paid 48 = .ok (.i2l, 1) := dk_133 (dk_at dksX0_paid_2 0 rfl rfl)
theorem dX0_paid_49 : decode cX0_paid 49 = .ok (.ladd, 1) := dk_97 (dk_at dksX0_paid_2 1 rfl rfl)
theorem dX0_paid_50 : decode cX0_paid 50 = .ok (.lstore_n 2, 1) := dk_65 (dk_at dksX0_paid_2 2 rfl rfl)
theorem dX0_paid_51 : decode cX0_paid 51 = .ok (.aload_n 0, 1) := dk_42 (dk_at dksX0_paid_2 3 rfl rfl)
theorem dX0_paid_52 : decode cX0_paid 52 = .ok (.getfield 25, 3) := dk_180 0 25 (dk_at dksX0_paid_2 4 rfl rfl)
theorem dX0_paid_55 : decode cX0_paid 55 = .ok (.invokevirtual 307, 3) := dk_182 1 51 (dk_at dksX0_paid_2 7 rfl rfl)
theorem dX0_paid_58 : decode cX0_paid 58 = .ok (.pop, 1) := dk_87 (dk_at dksX0_paid_2 10 rfl rfl)
theorem dX0_paid_59 : decode cX0_paid 59 = .ok (.iinc 4 1, 3) := dk_132 4 1 (dk_at dksX0_paid_2 11 rfl rfl)
theorem dX0_paid_62 : decode cX0_paid 62 = .ok (.goto (-29), 3) := dk_167 255 227 (dk_at dksX0_paid_2 14 rfl rfl)
theorem dX0_paid_65 : decode cX0_paid 65 = .ok (.lload_n 2, 1) := dk_32 (dk_at dksX0_paid_2 17 rfl rfl)
theorem dX0_paid_66 : decode cX0_paid 66 = .ok (.lreturn, 1) := dk_173 (dk_at dksX0_paid_2 18 rfl rfl)
abbrev cX0_share : ByteArray := prog_1_method_47_code
def yX0_share : MethodName := ⟨RX0, "share", "(II)I"⟩
def dkwX0_share_1 : List UInt8 := [27, 28, 182, 1, 62, 167, 0, 6, 19, 1, 44, 172]
abbrev dktX0_share_1 : List UInt8 := dkwX0_share_1 ++ []
def dkwX0_share_0 : List UInt8 := [42, 27, 182, 0, 164, 154, 0, 6, 18, 186, 172, 28, 133, 10, 20, 1, 39, 184, 0, 108, 153, 0, 12, 42]
abbrev dktX0_share_0 : List UInt8 := dkwX0_share_0 ++ dktX0_share_1
theorem dksX0_share_0 : cX0_share.data.toList.drop 0 = dktX0_share_0 := by decide +kernel
theorem dksX0_share_1 : cX0_share.data.toList.drop 24 = dktX0_share_1 := dk_seg dksX0_share_0 24 rfl rfl
theorem dX0_share_0 : decode cX0_share 0 = .ok (.aload_n 0, 1) := dk_42 (dk_at dksX0_share_0 0 rfl rfl)
theorem dX0_share_1 : decode cX0_share 1 = .ok (.iload_n 1, 1) := dk_27 (dk_at dksX0_share_0 1 rfl rfl)
theorem dX0_share_2 : decode cX0_share 2 = .ok (.invokevirtual 164, 3) := dk_182 0 164 (dk_at dksX0_share_0 2 rfl rfl)
theorem dX0_share_5 : decode cX0_share 5 = .ok (.ifCond .ne 6, 3) := dk_154 0 6 (dk_at dksX0_share_0 5 rfl rfl)
theorem dX0_share_8 : decode cX0_share 8 = .ok (.ldc 186, 2) := dk_18 186 (dk_at dksX0_share_0 8 rfl rfl)
theorem dX0_share_10 : decode cX0_share 10 = .ok (.ireturn, 1) := dk_172 (dk_at dksX0_share_0 10 rfl rfl)
theorem dX0_share_11 : decode cX0_share 11 = .ok (.iload_n 2, 1) := dk_28 (dk_at dksX0_share_0 11 rfl rfl)
theorem dX0_share_12 : decode cX0_share 12 = .ok (.i2l, 1) := dk_133 (dk_at dksX0_share_0 12 rfl rfl)
theorem dX0_share_13 : decode cX0_share 13 = .ok (.lconst 1, 1) := dk_10 (dk_at dksX0_share_0 13 rfl rfl)
theorem dX0_share_14 : decode cX0_share 14 = .ok (.ldc2_w 295, 3) := dk_20 1 39 (dk_at dksX0_share_0 14 rfl rfl)
theorem dX0_share_17 : decode cX0_share 17 = .ok (.invokestatic 108, 3) := dk_184 0 108 (dk_at dksX0_share_0 17 rfl rfl)
theorem dX0_share_20 : decode cX0_share 20 = .ok (.ifCond .eq 12, 3) := dk_153 0 12 (dk_at dksX0_share_0 20 rfl rfl)
theorem dX0_share_23 : decode cX0_share 23 = .ok (.aload_n 0, 1) := dk_42 (dk_at dksX0_share_0 23 rfl rfl)
theorem dX0_share_24 : decode cX0_share 24 = .ok (.iload_n 1, 1) := dk_27 (dk_at dksX0_share_1 0 rfl rfl)
theorem dX0_share_25 : decode cX0_share 25 = .ok (.iload_n 2, 1) := dk_28 (dk_at dksX0_share_1 1 rfl rfl)
theorem dX0_share_26 : decode cX0_share 26 = .ok (.invokevirtual 318, 3) := dk_182 1 62 (dk_at dksX0_share_1 2 rfl rfl)
theorem dX0_share_29 : decode cX0_share 29 = .ok (.goto 6, 3) := dk_167 0 6 (dk_at dksX0_share_1 5 rfl rfl)
theorem dX0_share_32 : decode cX0_share 32 = .ok (.ldc_w 300, 3) := dk_19 1 44 (dk_at dksX0_share_1 8 rfl rfl)
theorem dX0_share_35 : decode cX0_share 35 = .ok (.ireturn, 1) := dk_172 (dk_at dksX0_share_1 11 rfl rfl)
abbrev cX0_shareOf : ByteArray := prog_1_method_46_code
def yX0_shareOf : MethodName := ⟨RX0, "shareOf", "(II)I"⟩
def dkwX0_shareOf_1 : List UInt8 := [182, 0, 194, 180, 0, 167, 27, 3, 79, 29, 42, 180, 0, 25, 28, 182, 0, 208, 100, 172]
abbrev dktX0_shareOf_1 : List UInt8 := dkwX0_shareOf_1 ++ []
def dkwX0_shareOf_0 : List UInt8 := [42, 180, 0, 25, 42, 180, 0, 21, 182, 0, 194, 28, 182, 0, 208, 62, 42, 180, 0, 25, 42, 180, 0, 21]
abbrev dktX0_shareOf_0 : List UInt8 := dkwX0_shareOf_0 ++ dktX0_shareOf_1
theorem dksX0_shareOf_0 : cX0_shareOf.data.toList.drop 0 = dktX0_shareOf_0 := by decide +kernel
theorem dksX0_shareOf_1 : cX0_shareOf.data.toList.drop 24 = dktX0_shareOf_1 := dk_seg dksX0_shareOf_0 24 rfl rfl
theorem dX0_shareOf_0 : decode cX0_shareOf 0 = .ok (.aload_n 0, 1) := dk_42 (dk_at dksX0_shareOf_0 0 rfl rfl)
theorem dX0_shareOf_1 : decode cX0_shareOf 1 = .ok (.getfield 25, 3) := dk_180 0 25 (dk_at dksX0_shareOf_0 1 rfl rfl)
theorem dX0_shareOf_4 : decode cX0_shareOf 4 = .ok (.aload_n 0, 1) := dk_42 (dk_at dksX0_shareOf_0 4 rfl rfl)
theorem dX0_shareOf_5 : decode cX0_shareOf 5 = .ok (.getfield 21, 3) := dk_180 0 21 (dk_at dksX0_shareOf_0 5 rfl rfl)
theorem dX0_shareOf_8 : decode cX0_shareOf 8 = .ok (.invokevirtual 194, 3) := dk_182 0 194 (dk_at dksX0_shareOf_0 8 rfl rfl)
theorem dX0_shareOf_11 : decode cX0_shareOf 11 = .ok (.iload_n 2, 1) := dk_28 (dk_at dksX0_shareOf_0 11 rfl rfl)
theorem dX0_shareOf_12 : decode cX0_shareOf 12 = .ok (.invokevirtual 208, 3) := dk_182 0 208 (dk_at dksX0_shareOf_0 12 rfl rfl)
theorem dX0_shareOf_15 : decode cX0_shareOf 15 = .ok (.istore_n 3, 1) := dk_62 (dk_at dksX0_shareOf_0 15 rfl rfl)
theorem dX0_shareOf_16 : decode cX0_shareOf 16 = .ok (.aload_n 0, 1) := dk_42 (dk_at dksX0_shareOf_0 16 rfl rfl)
theorem dX0_shareOf_17 : decode cX0_shareOf 17 = .ok (.getfield 25, 3) := dk_180 0 25 (dk_at dksX0_shareOf_0 17 rfl rfl)
theorem dX0_shareOf_20 : decode cX0_shareOf 20 = .ok (.aload_n 0, 1) := dk_42 (dk_at dksX0_shareOf_0 20 rfl rfl)
theorem dX0_shareOf_21 : decode cX0_shareOf 21 = .ok (.getfield 21, 3) := dk_180 0 21 (dk_at dksX0_shareOf_0 21 rfl rfl)
theorem dX0_shareOf_24 : decode cX0_shareOf 24 = .ok (.invokevirtual 194, 3) := dk_182 0 194 (dk_at dksX0_shareOf_1 0 rfl rfl)
theorem dX0_shareOf_27 : decode cX0_shareOf 27 = .ok (.getfield 167, 3) := dk_180 0 167 (dk_at dksX0_shareOf_1 3 rfl rfl)
theorem dX0_shareOf_30 : decode cX0_shareOf 30 = .ok (.iload_n 1, 1) := dk_27 (dk_at dksX0_shareOf_1 6 rfl rfl)
theorem dX0_shareOf_31 : decode cX0_shareOf 31 = .ok (.iconst 0, 1) := dk_3 (dk_at dksX0_shareOf_1 7 rfl rfl)
theorem dX0_shareOf_32 : decode cX0_shareOf 32 = .ok (.iastore, 1) := dk_79 (dk_at dksX0_shareOf_1 8 rfl rfl)
theorem dX0_shareOf_33 : decode cX0_shareOf 33 = .ok (.iload_n 3, 1) := dk_29 (dk_at dksX0_shareOf_1 9 rfl rfl)
theorem dX0_shareOf_34 : decode cX0_shareOf 34 = .ok (.aload_n 0, 1) := dk_42 (dk_at dksX0_shareOf_1 10 rfl rfl)
theorem dX0_shareOf_35 : decode cX0_shareOf 35 = .ok (.getfield 25, 3) := dk_180 0 25 (dk_at dksX0_shareOf_1 11 rfl rfl)
theorem dX0_shareOf_38 : decode cX0_shareOf 38 = .ok (.iload_n 2, 1) := dk_28 (dk_at dksX0_shareOf_1 14 rfl rfl)
theorem dX0_shareOf_39 : decode cX0_shareOf 39 = .ok (.invokevirtual 208, 3) := dk_182 0 208 (dk_at dksX0_shareOf_1 15 rfl rfl)
theorem dX0_shareOf_42 : decode cX0_shareOf 42 = .ok (.isub, 1) := dk_100 (dk_at dksX0_shareOf_1 18 rfl rfl)
theorem dX0_shareOf_43 : decode cX0_shareOf 43 = .ok (.ireturn, 1) := dk_172 (dk_at dksX0_shareOf_1 19 rfl rfl)
abbrev cX0_heaviest : ByteArray := prog_1_method_48_code
def yX0_heaviest : MethodName := ⟨RX0, "heaviest", "(I)I"⟩
def dkwX0_heaviest_2 : List UInt8 := [163, 0, 6, 167, 0, 9, 21, 4, 61, 21, 5, 62, 132, 4, 1, 167, 255, 217, 28, 172]
abbrev dktX0_heaviest_2 : List UInt8 := dkwX0_heaviest_2 ++ []
def dkwX0_heaviest_1 : List UInt8 := [42, 180, 0, 12, 180, 0, 141, 162, 0, 33, 42, 21, 4, 27, 182, 1, 62, 54, 5, 21, 5, 29]
abbrev dktX0_heaviest_1 : List UInt8 := dkwX0_heaviest_1 ++ dktX0_heaviest_2
def dkwX0_heaviest_0 : List UInt8 := [27, 133, 10, 20, 1, 39, 184, 0, 108, 154, 0, 6, 16, 253, 172, 2, 61, 3, 62, 3, 54, 4, 21, 4]
abbrev dktX0_heaviest_0 : List UInt8 := dkwX0_heaviest_0 ++ dktX0_heaviest_1
theorem dksX0_heaviest_0 : cX0_heaviest.data.toList.drop 0 = dktX0_heaviest_0 := by decide +kernel
theorem dksX0_heaviest_1 : cX0_heaviest.data.toList.drop 24 = dktX0_heaviest_1 := dk_seg dksX0_heaviest_0 24 rfl rfl
theorem dksX0_heaviest_2 : cX0_heaviest.data.toList.drop 46 = dktX0_heaviest_2 := dk_seg dksX0_heaviest_1 22 rfl rfl
theorem dX0_heaviest_0 : decode cX0_heaviest 0 = .ok (.iload_n 1, 1) := dk_27 (dk_at dksX0_heaviest_0 0 rfl rfl)
theorem dX0_heaviest_1 : decode cX0_heaviest 1 = .ok (.i2l, 1) := dk_133 (dk_at dksX0_heaviest_0 1 rfl rfl)
theorem dX0_heaviest_2 : decode cX0_heaviest 2 = .ok (.lconst 1, 1) := dk_10 (dk_at dksX0_heaviest_0 2 rfl rfl)
theorem dX0_heaviest_3 : decode cX0_heaviest 3 = .ok (.ldc2_w 295, 3) := dk_20 1 39 (dk_at dksX0_heaviest_0 3 rfl rfl)
theorem dX0_heaviest_6 : decode cX0_heaviest 6 = .ok (.invokestatic 108, 3) := dk_184 0 108 (dk_at dksX0_heaviest_0 6 rfl rfl)
theorem dX0_heaviest_9 : decode cX0_heaviest 9 = .ok (.ifCond .ne 6, 3) := dk_154 0 6 (dk_at dksX0_heaviest_0 9 rfl rfl)
theorem dX0_heaviest_12 : decode cX0_heaviest 12 = .ok (.bipush (-3), 2) := dk_16 253 (dk_at dksX0_heaviest_0 12 rfl rfl)
theorem dX0_heaviest_14 : decode cX0_heaviest 14 = .ok (.ireturn, 1) := dk_172 (dk_at dksX0_heaviest_0 14 rfl rfl)
theorem dX0_heaviest_15 : decode cX0_heaviest 15 = .ok (.iconst (-1), 1) := dk_2 (dk_at dksX0_heaviest_0 15 rfl rfl)
theorem dX0_heaviest_16 : decode cX0_heaviest 16 = .ok (.istore_n 2, 1) := dk_61 (dk_at dksX0_heaviest_0 16 rfl rfl)
theorem dX0_heaviest_17 : decode cX0_heaviest 17 = .ok (.iconst 0, 1) := dk_3 (dk_at dksX0_heaviest_0 17 rfl rfl)
theorem dX0_heaviest_18 : decode cX0_heaviest 18 = .ok (.istore_n 3, 1) := dk_62 (dk_at dksX0_heaviest_0 18 rfl rfl)
theorem dX0_heaviest_19 : decode cX0_heaviest 19 = .ok (.iconst 0, 1) := dk_3 (dk_at dksX0_heaviest_0 19 rfl rfl)
theorem dX0_heaviest_20 : decode cX0_heaviest 20 = .ok (.istore 4, 2) := dk_54 4 (dk_at dksX0_heaviest_0 20 rfl rfl)
theorem dX0_heaviest_22 : decode cX0_heaviest 22 = .ok (.iload 4, 2) := dk_21 4 (dk_at dksX0_heaviest_0 22 rfl rfl)
theorem dX0_heaviest_24 : decode cX0_heaviest 24 = .ok (.aload_n 0, 1) := dk_42 (dk_at dksX0_heaviest_1 0 rfl rfl)
theorem dX0_heaviest_25 : decode cX0_heaviest 25 = .ok (.getfield 12, 3) := dk_180 0 12 (dk_at dksX0_heaviest_1 1 rfl rfl)
theorem dX0_heaviest_28 : decode cX0_heaviest 28 = .ok (.getfield 141, 3) := dk_180 0 141 (dk_at dksX0_heaviest_1 4 rfl rfl)
theorem dX0_heaviest_31 : decode cX0_heaviest 31 = .ok (.if_icmp .ge 33, 3) := dk_162 0 33 (dk_at dksX0_heaviest_1 7 rfl rfl)
theorem dX0_heaviest_34 : decode cX0_heaviest 34 = .ok (.aload_n 0, 1) := dk_42 (dk_at dksX0_heaviest_1 10 rfl rfl)
theorem dX0_heaviest_35 : decode cX0_heaviest 35 = .ok (.iload 4, 2) := dk_21 4 (dk_at dksX0_heaviest_1 11 rfl rfl)
theorem dX0_heaviest_37 : decode cX0_heaviest 37 = .ok (.iload_n 1, 1) := dk_27 (dk_at dksX0_heaviest_1 13 rfl rfl)
theorem dX0_heaviest_38 : decode cX0_heaviest 38 = .ok (.invokevirtual 318, 3) := dk_182 1 62 (dk_at dksX0_heaviest_1 14 rfl rfl)
theorem dX0_heaviest_41 : decode cX0_heaviest 41 = .ok (.istore 5, 2) := dk_54 5 (dk_at dksX0_heaviest_1 17 rfl rfl)
theorem dX0_heaviest_43 : decode cX0_heaviest 43 = .ok (.iload 5, 2) := dk_21 5 (dk_at dksX0_heaviest_1 19 rfl rfl)
theorem dX0_heaviest_45 : decode cX0_heaviest 45 = .ok (.iload_n 3, 1) := dk_29 (dk_at dksX0_heaviest_1 21 rfl rfl)
theorem dX0_heaviest_46 : decode cX0_heaviest 46 = .ok (.if_icmp .gt 6, 3) := dk_163 0 6 (dk_at dksX0_heaviest_2 0 rfl rfl)
theorem dX0_heaviest_49 : decode cX0_heaviest 49 = .ok (.goto 9, 3) := dk_167 0 9 (dk_at dksX0_heaviest_2 3 rfl rfl)
theorem dX0_heaviest_52 : decode cX0_heaviest 52 = .ok (.iload 4, 2) := dk_21 4 (dk_at dksX0_heaviest_2 6 rfl rfl)
theorem dX0_heaviest_54 : decode cX0_heaviest 54 = .ok (.istore_n 2, 1) := dk_61 (dk_at dksX0_heaviest_2 8 rfl rfl)
theorem dX0_heaviest_55 : decode cX0_heaviest 55 = .ok (.iload 5, 2) := dk_21 5 (dk_at dksX0_heaviest_2 9 rfl rfl)
theorem dX0_heaviest_57 : decode cX0_heaviest 57 = .ok (.istore_n 3, 1) := dk_62 (dk_at dksX0_heaviest_2 11 rfl rfl)
theorem dX0_heaviest_58 : decode cX0_heaviest 58 = .ok (.iinc 4 1, 3) := dk_132 4 1 (dk_at dksX0_heaviest_2 12 rfl rfl)
theorem dX0_heaviest_61 : decode cX0_heaviest 61 = .ok (.goto (-39), 3) := dk_167 255 217 (dk_at dksX0_heaviest_2 15 rfl rfl)
theorem dX0_heaviest_64 : decode cX0_heaviest 64 = .ok (.iload_n 2, 1) := dk_28 (dk_at dksX0_heaviest_2 18 rfl rfl)
theorem dX0_heaviest_65 : decode cX0_heaviest 65 = .ok (.ireturn, 1) := dk_172 (dk_at dksX0_heaviest_2 19 rfl rfl)
abbrev cX0_bears : ByteArray := prog_1_method_49_code
def yX0_bears : MethodName := ⟨RX0, "bears", "(II)I"⟩
def dkwX0_bears_2 : List UInt8 := [182, 0, 208, 27, 163, 0, 5, 29, 172, 132, 3, 255, 167, 255, 220, 2, 172]
abbrev dktX0_bears_2 : List UInt8 := dkwX0_bears_2 ++ []
def dkwX0_bears_1 : List UInt8 := [155, 0, 38, 42, 180, 0, 25, 42, 180, 0, 21, 182, 0, 194, 29, 181, 1, 67, 42, 180, 0, 25, 28]
abbrev dktX0_bears_1 : List UInt8 := dkwX0_bears_1 ++ dktX0_bears_2
def dkwX0_bears_0 : List UInt8 := [27, 155, 0, 15, 28, 133, 10, 20, 1, 65, 184, 0, 108, 154, 0, 6, 16, 253, 172, 17, 3, 231, 62, 29]
abbrev dktX0_bears_0 : List UInt8 := dkwX0_bears_0 ++ dktX0_bears_1
theorem dksX0_bears_0 : cX0_bears.data.toList.drop 0 = dktX0_bears_0 := by decide +kernel
theorem dksX0_bears_1 : cX0_bears.data.toList.drop 24 = dktX0_bears_1 := dk_seg dksX0_bears_0 24 rfl rfl
theorem dksX0_bears_2 : cX0_bears.data.toList.drop 47 = dktX0_bears_2 := dk_seg dksX0_bears_1 23 rfl rfl
theorem dX0_bears_0 : decode cX0_bears 0 = .ok (.iload_n 1, 1) := dk_27 (dk_at dksX0_bears_0 0 rfl rfl)
theorem dX0_bears_1 : decode cX0_bears 1 = .ok (.ifCond .lt 15, 3) := dk_155 0 15 (dk_at dksX0_bears_0 1 rfl rfl)
theorem dX0_bears_4 : decode cX0_bears 4 = .ok (.iload_n 2, 1) := dk_28 (dk_at dksX0_bears_0 4 rfl rfl)
theorem dX0_bears_5 : decode cX0_bears 5 = .ok (.i2l, 1) := dk_133 (dk_at dksX0_bears_0 5 rfl rfl)
theorem dX0_bears_6 : decode cX0_bears 6 = .ok (.lconst 1, 1) := dk_10 (dk_at dksX0_bears_0 6 rfl rfl)
theorem dX0_bears_7 : decode cX0_bears 7 = .ok (.ldc2_w 321, 3) := dk_20 1 65 (dk_at dksX0_bears_0 7 rfl rfl)
theorem dX0_bears_10 : decode cX0_bears 10 = .ok (.invokestatic 108, 3) := dk_184 0 108 (dk_at dksX0_bears_0 10 rfl rfl)
theorem dX0_bears_13 : decode cX0_bears 13 = .ok (.ifCond .ne 6, 3) := dk_154 0 6 (dk_at dksX0_bears_0 13 rfl rfl)
theorem dX0_bears_16 : decode cX0_bears 16 = .ok (.bipush (-3), 2) := dk_16 253 (dk_at dksX0_bears_0 16 rfl rfl)
theorem dX0_bears_18 : decode cX0_bears 18 = .ok (.ireturn, 1) := dk_172 (dk_at dksX0_bears_0 18 rfl rfl)
theorem dX0_bears_19 : decode cX0_bears 19 = .ok (.sipush 999, 3) := dk_17 3 231 (dk_at dksX0_bears_0 19 rfl rfl)
theorem dX0_bears_22 : decode cX0_bears 22 = .ok (.istore_n 3, 1) := dk_62 (dk_at dksX0_bears_0 22 rfl rfl)
theorem dX0_bears_23 : decode cX0_bears 23 = .ok (.iload_n 3, 1) := dk_29 (dk_at dksX0_bears_0 23 rfl rfl)
theorem dX0_bears_24 : decode cX0_bears 24 = .ok (.ifCond .lt 38, 3) := dk_155 0 38 (dk_at dksX0_bears_1 0 rfl rfl)
theorem dX0_bears_27 : decode cX0_bears 27 = .ok (.aload_n 0, 1) := dk_42 (dk_at dksX0_bears_1 3 rfl rfl)
theorem dX0_bears_28 : decode cX0_bears 28 = .ok (.getfield 25, 3) := dk_180 0 25 (dk_at dksX0_bears_1 4 rfl rfl)
theorem dX0_bears_31 : decode cX0_bears 31 = .ok (.aload_n 0, 1) := dk_42 (dk_at dksX0_bears_1 7 rfl rfl)
theorem dX0_bears_32 : decode cX0_bears 32 = .ok (.getfield 21, 3) := dk_180 0 21 (dk_at dksX0_bears_1 8 rfl rfl)
theorem dX0_bears_35 : decode cX0_bears 35 = .ok (.invokevirtual 194, 3) := dk_182 0 194 (dk_at dksX0_bears_1 11 rfl rfl)
theorem dX0_bears_38 : decode cX0_bears 38 = .ok (.iload_n 3, 1) := dk_29 (dk_at dksX0_bears_1 14 rfl rfl)
theorem dX0_bears_39 : decode cX0_bears 39 = .ok (.putfield 323, 3) := dk_181 1 67 (dk_at dksX0_bears_1 15 rfl rfl)
theorem dX0_bears_42 : decode cX0_bears 42 = .ok (.aload_n 0, 1) := dk_42 (dk_at dksX0_bears_1 18 rfl rfl)
theorem dX0_bears_43 : decode cX0_bears 43 = .ok (.getfield 25, 3) := dk_180 0 25 (dk_at dksX0_bears_1 19 rfl rfl)
theorem dX0_bears_46 : decode cX0_bears 46 = .ok (.iload_n 2, 1) := dk_28 (dk_at dksX0_bears_1 22 rfl rfl)
theorem dX0_bears_47 : decode cX0_bears 47 = .ok (.invokevirtual 208, 3) := dk_182 0 208 (dk_at dksX0_bears_2 0 rfl rfl)
theorem dX0_bears_50 : decode cX0_bears 50 = .ok (.iload_n 1, 1) := dk_27 (dk_at dksX0_bears_2 3 rfl rfl)
theorem dX0_bears_51 : decode cX0_bears 51 = .ok (.if_icmp .gt 5, 3) := dk_163 0 5 (dk_at dksX0_bears_2 4 rfl rfl)
theorem dX0_bears_54 : decode cX0_bears 54 = .ok (.iload_n 3, 1) := dk_29 (dk_at dksX0_bears_2 7 rfl rfl)
theorem dX0_bears_55 : decode cX0_bears 55 = .ok (.ireturn, 1) := dk_172 (dk_at dksX0_bears_2 8 rfl rfl)
theorem dX0_bears_56 : decode cX0_bears 56 = .ok (.iinc 3 (-1), 3) := dk_132 3 255 (dk_at dksX0_bears_2 9 rfl rfl)
theorem dX0_bears_59 : decode cX0_bears 59 = .ok (.goto (-36), 3) := dk_167 255 220 (dk_at dksX0_bears_2 12 rfl rfl)
theorem dX0_bears_62 : decode cX0_bears 62 = .ok (.iconst (-1), 1) := dk_2 (dk_at dksX0_bears_2 15 rfl rfl)
theorem dX0_bears_63 : decode cX0_bears 63 = .ok (.ireturn, 1) := dk_172 (dk_at dksX0_bears_2 16 rfl rfl)
abbrev cX0_stays : ByteArray := prog_1_method_57_code
def yX0_stays : MethodName := ⟨RX0, "stays", "(II)J"⟩
def dkwX0_stays_1 : List UInt8 := [42, 27, 28, 182, 1, 117, 167, 0, 6, 20, 1, 57, 173]
abbrev dktX0_stays_1 : List UInt8 := dkwX0_stays_1 ++ []
def dkwX0_stays_0 : List UInt8 := [42, 27, 182, 0, 164, 154, 0, 7, 20, 1, 113, 173, 28, 133, 10, 20, 1, 115, 184, 0, 108, 153, 0, 12]
abbrev dktX0_stays_0 : List UInt8 := dkwX0_stays_0 ++ dktX0_stays_1
theorem dksX0_stays_0 : cX0_stays.data.toList.drop 0 = dktX0_stays_0 := by decide +kernel
theorem dksX0_stays_1 : cX0_stays.data.toList.drop 24 = dktX0_stays_1 := dk_seg dksX0_stays_0 24 rfl rfl
theorem dX0_stays_0 : decode cX0_stays 0 = .ok (.aload_n 0, 1) := dk_42 (dk_at dksX0_stays_0 0 rfl rfl)
theorem dX0_stays_1 : decode cX0_stays 1 = .ok (.iload_n 1, 1) := dk_27 (dk_at dksX0_stays_0 1 rfl rfl)
theorem dX0_stays_2 : decode cX0_stays 2 = .ok (.invokevirtual 164, 3) := dk_182 0 164 (dk_at dksX0_stays_0 2 rfl rfl)
theorem dX0_stays_5 : decode cX0_stays 5 = .ok (.ifCond .ne 7, 3) := dk_154 0 7 (dk_at dksX0_stays_0 5 rfl rfl)
theorem dX0_stays_8 : decode cX0_stays 8 = .ok (.ldc2_w 369, 3) := dk_20 1 113 (dk_at dksX0_stays_0 8 rfl rfl)
theorem dX0_stays_11 : decode cX0_stays 11 = .ok (.lreturn, 1) := dk_173 (dk_at dksX0_stays_0 11 rfl rfl)
theorem dX0_stays_12 : decode cX0_stays 12 = .ok (.iload_n 2, 1) := dk_28 (dk_at dksX0_stays_0 12 rfl rfl)
theorem dX0_stays_13 : decode cX0_stays 13 = .ok (.i2l, 1) := dk_133 (dk_at dksX0_stays_0 13 rfl rfl)
theorem dX0_stays_14 : decode cX0_stays 14 = .ok (.lconst 1, 1) := dk_10 (dk_at dksX0_stays_0 14 rfl rfl)
theorem dX0_stays_15 : decode cX0_stays 15 = .ok (.ldc2_w 371, 3) := dk_20 1 115 (dk_at dksX0_stays_0 15 rfl rfl)
theorem dX0_stays_18 : decode cX0_stays 18 = .ok (.invokestatic 108, 3) := dk_184 0 108 (dk_at dksX0_stays_0 18 rfl rfl)
theorem dX0_stays_21 : decode cX0_stays 21 = .ok (.ifCond .eq 12, 3) := dk_153 0 12 (dk_at dksX0_stays_0 21 rfl rfl)
theorem dX0_stays_24 : decode cX0_stays 24 = .ok (.aload_n 0, 1) := dk_42 (dk_at dksX0_stays_1 0 rfl rfl)
theorem dX0_stays_25 : decode cX0_stays 25 = .ok (.iload_n 1, 1) := dk_27 (dk_at dksX0_stays_1 1 rfl rfl)
theorem dX0_stays_26 : decode cX0_stays 26 = .ok (.iload_n 2, 1) := dk_28 (dk_at dksX0_stays_1 2 rfl rfl)
theorem dX0_stays_27 : decode cX0_stays 27 = .ok (.invokevirtual 373, 3) := dk_182 1 117 (dk_at dksX0_stays_1 3 rfl rfl)
theorem dX0_stays_30 : decode cX0_stays 30 = .ok (.goto 6, 3) := dk_167 0 6 (dk_at dksX0_stays_1 6 rfl rfl)
theorem dX0_stays_33 : decode cX0_stays 33 = .ok (.ldc2_w 313, 3) := dk_20 1 57 (dk_at dksX0_stays_1 9 rfl rfl)
theorem dX0_stays_36 : decode cX0_stays 36 = .ok (.lreturn, 1) := dk_173 (dk_at dksX0_stays_1 12 rfl rfl)
abbrev cX0_laysMoves : ByteArray := prog_1_method_53_code
def yX0_laysMoves : MethodName := ⟨RX0, "laysMoves", "(II)J"⟩
def dkwX0_laysMoves_9 : List UInt8 := [167, 255, 179, 22, 4, 173]
abbrev dktX0_laysMoves_9 : List UInt8 := dkwX0_laysMoves_9 ++ []
def dkwX0_laysMoves_8 : List UInt8 := [167, 0, 4, 4, 96, 181, 1, 95, 42, 180, 0, 57, 21, 6, 21, 7, 79, 21, 7, 62, 132, 6, 1]
abbrev dktX0_laysMoves_8 : List UInt8 := dkwX0_laysMoves_8 ++ dktX0_laysMoves_9
def dkwX0_laysMoves_7 : List UInt8 := [167, 0, 7, 21, 7, 4, 96, 54, 7, 167, 255, 227, 42, 89, 180, 1, 95, 21, 7, 29, 160, 0, 7, 3]
abbrev dktX0_laysMoves_7 : List UInt8 := dkwX0_laysMoves_7 ++ dktX0_laysMoves_8
def dkwX0_laysMoves_6 : List UInt8 := [16, 8, 54, 7, 42, 21, 6, 29, 21, 7, 182, 1, 98, 154, 0, 23, 21, 7, 16, 8, 160, 0, 7, 3]
abbrev dktX0_laysMoves_6 : List UInt8 := dkwX0_laysMoves_6 ++ dktX0_laysMoves_7
def dkwX0_laysMoves_5 : List UInt8 := [42, 180, 0, 51, 29, 47, 97, 55, 4, 42, 3, 181, 1, 95, 3, 54, 6, 21, 6, 28, 162, 0, 77]
abbrev dktX0_laysMoves_5 : List UInt8 := dkwX0_laysMoves_5 ++ dktX0_laysMoves_6
def dkwX0_laysMoves_4 : List UInt8 := [160, 0, 8, 16, 8, 167, 0, 12, 42, 180, 0, 21, 180, 0, 173, 27, 46, 62, 42, 180, 0, 47, 29, 47]
abbrev dktX0_laysMoves_4 : List UInt8 := dkwX0_laysMoves_4 ++ dktX0_laysMoves_5
def dkwX0_laysMoves_3 : List UInt8 := [132, 4, 1, 167, 255, 227, 132, 3, 255, 167, 255, 214, 42, 180, 0, 21, 180, 0, 173, 27, 46, 2]
abbrev dktX0_laysMoves_3 : List UInt8 := dkwX0_laysMoves_3 ++ dktX0_laysMoves_4
def dkwX0_laysMoves_2 : List UInt8 := [162, 0, 28, 42, 180, 0, 51, 16, 9, 29, 104, 21, 4, 96, 42, 29, 21, 4, 182, 1, 92, 80]
abbrev dktX0_laysMoves_2 : List UInt8 := dkwX0_laysMoves_2 ++ dktX0_laysMoves_3
def dkwX0_laysMoves_1 : List UInt8 := [9, 80, 132, 3, 1, 167, 255, 235, 28, 4, 100, 62, 29, 155, 0, 44, 3, 54, 4, 21, 4, 16, 9]
abbrev dktX0_laysMoves_1 : List UInt8 := dkwX0_laysMoves_1 ++ dktX0_laysMoves_2
def dkwX0_laysMoves_0 : List UInt8 := [42, 27, 28, 182, 1, 88, 3, 62, 29, 16, 9, 162, 0, 21, 42, 180, 0, 51, 16, 9, 28, 104, 29, 96]
abbrev dktX0_laysMoves_0 : List UInt8 := dkwX0_laysMoves_0 ++ dktX0_laysMoves_1
theorem dksX0_laysMoves_0 : cX0_laysMoves.data.toList.drop 0 = dktX0_laysMoves_0 := by decide +kernel
theorem dksX0_laysMoves_1 : cX0_laysMoves.data.toList.drop 24 = dktX0_laysMoves_1 := dk_seg dksX0_laysMoves_0 24 rfl rfl
theorem dksX0_laysMoves_2 : cX0_laysMoves.data.toList.drop 47 = dktX0_laysMoves_2 := dk_seg dksX0_laysMoves_1 23 rfl rfl
theorem dksX0_laysMoves_3 : cX0_laysMoves.data.toList.drop 69 = dktX0_laysMoves_3 := dk_seg dksX0_laysMoves_2 22 rfl rfl
theorem dksX0_laysMoves_4 : cX0_laysMoves.data.toList.drop 91 = dktX0_laysMoves_4 := dk_seg dksX0_laysMoves_3 22 rfl rfl
theorem dksX0_laysMoves_5 : cX0_laysMoves.data.toList.drop 115 = dktX0_laysMoves_5 := dk_seg dksX0_laysMoves_4 24 rfl rfl
theorem dksX0_laysMoves_6 : cX0_laysMoves.data.toList.drop 138 = dktX0_laysMoves_6 := dk_seg dksX0_laysMoves_5 23 rfl rfl
theorem dksX0_laysMoves_7 : cX0_laysMoves.data.toList.drop 162 = dktX0_laysMoves_7 := dk_seg dksX0_laysMoves_6 24 rfl rfl
theorem dksX0_laysMoves_8 : cX0_laysMoves.data.toList.drop 186 = dktX0_laysMoves_8 := dk_seg dksX0_laysMoves_7 24 rfl rfl
theorem dksX0_laysMoves_9 : cX0_laysMoves.data.toList.drop 209 = dktX0_laysMoves_9 := dk_seg dksX0_laysMoves_8 23 rfl rfl
theorem dX0_laysMoves_0 : decode cX0_laysMoves 0 = .ok (.aload_n 0, 1) := dk_42 (dk_at dksX0_laysMoves_0 0 rfl rfl)
theorem dX0_laysMoves_1 : decode cX0_laysMoves 1 = .ok (.iload_n 1, 1) := dk_27 (dk_at dksX0_laysMoves_0 1 rfl rfl)
theorem dX0_laysMoves_2 : decode cX0_laysMoves 2 = .ok (.iload_n 2, 1) := dk_28 (dk_at dksX0_laysMoves_0 2 rfl rfl)
theorem dX0_laysMoves_3 : decode cX0_laysMoves 3 = .ok (.invokevirtual 344, 3) := dk_182 1 88 (dk_at dksX0_laysMoves_0 3 rfl rfl)
theorem dX0_laysMoves_6 : decode cX0_laysMoves 6 = .ok (.iconst 0, 1) := dk_3 (dk_at dksX0_laysMoves_0 6 rfl rfl)
theorem dX0_laysMoves_7 : decode cX0_laysMoves 7 = .ok (.istore_n 3, 1) := dk_62 (dk_at dksX0_laysMoves_0 7 rfl rfl)
theorem dX0_laysMoves_8 : decode cX0_laysMoves 8 = .ok (.iload_n 3, 1) := dk_29 (dk_at dksX0_laysMoves_0 8 rfl rfl)
theorem dX0_laysMoves_9 : decode cX0_laysMoves 9 = .ok (.bipush 9, 2) := dk_16 9 (dk_at dksX0_laysMoves_0 9 rfl rfl)
theorem dX0_laysMoves_11 : decode cX0_laysMoves 11 = .ok (.if_icmp .ge 21, 3) := dk_162 0 21 (dk_at dksX0_laysMoves_0 11 rfl rfl)
theorem dX0_laysMoves_14 : decode cX0_laysMoves 14 = .ok (.aload_n 0, 1) := dk_42 (dk_at dksX0_laysMoves_0 14 rfl rfl)
theorem dX0_laysMoves_15 : decode cX0_laysMoves 15 = .ok (.getfield 51, 3) := dk_180 0 51 (dk_at dksX0_laysMoves_0 15 rfl rfl)
theorem dX0_laysMoves_18 : decode cX0_laysMoves 18 = .ok (.bipush 9, 2) := dk_16 9 (dk_at dksX0_laysMoves_0 18 rfl rfl)
theorem dX0_laysMoves_20 : decode cX0_laysMoves 20 = .ok (.iload_n 2, 1) := dk_28 (dk_at dksX0_laysMoves_0 20 rfl rfl)
theorem dX0_laysMoves_21 : decode cX0_laysMoves 21 = .ok (.imul, 1) := dk_104 (dk_at dksX0_laysMoves_0 21 rfl rfl)
theorem dX0_laysMoves_22 : decode cX0_laysMoves 22 = .ok (.iload_n 3, 1) := dk_29 (dk_at dksX0_laysMoves_0 22 rfl rfl)
theorem dX0_laysMoves_23 : decode cX0_laysMoves 23 = .ok (.iadd, 1) := dk_96 (dk_at dksX0_laysMoves_0 23 rfl rfl)
theorem dX0_laysMoves_24 : decode cX0_laysMoves 24 = .ok (.lconst 0, 1) := dk_9 (dk_at dksX0_laysMoves_1 0 rfl rfl)
theorem dX0_laysMoves_25 : decode cX0_laysMoves 25 = .ok (.lastore, 1) := dk_80 (dk_at dksX0_laysMoves_1 1 rfl rfl)
theorem dX0_laysMoves_26 : decode cX0_laysMoves 26 = .ok (.iinc 3 1, 3) := dk_132 3 1 (dk_at dksX0_laysMoves_1 2 rfl rfl)
theorem dX0_laysMoves_29 : decode cX0_laysMoves 29 = .ok (.goto (-21), 3) := dk_167 255 235 (dk_at dksX0_laysMoves_1 5 rfl rfl)
theorem dX0_laysMoves_32 : decode cX0_laysMoves 32 = .ok (.iload_n 2, 1) := dk_28 (dk_at dksX0_laysMoves_1 8 rfl rfl)
theorem dX0_laysMoves_33 : decode cX0_laysMoves 33 = .ok (.iconst 1, 1) := dk_4 (dk_at dksX0_laysMoves_1 9 rfl rfl)
theorem dX0_laysMoves_34 : decode cX0_laysMoves 34 = .ok (.isub, 1) := dk_100 (dk_at dksX0_laysMoves_1 10 rfl rfl)
theorem dX0_laysMoves_35 : decode cX0_laysMoves 35 = .ok (.istore_n 3, 1) := dk_62 (dk_at dksX0_laysMoves_1 11 rfl rfl)
theorem dX0_laysMoves_36 : decode cX0_laysMoves 36 = .ok (.iload_n 3, 1) := dk_29 (dk_at dksX0_laysMoves_1 12 rfl rfl)
theorem dX0_laysMoves_37 : decode cX0_laysMoves 37 = .ok (.ifCond .lt 44, 3) := dk_155 0 44 (dk_at dksX0_laysMoves_1 13 rfl rfl)
theorem dX0_laysMoves_40 : decode cX0_laysMoves 40 = .ok (.iconst 0, 1) := dk_3 (dk_at dksX0_laysMoves_1 16 rfl rfl)
theorem dX0_laysMoves_41 : decode cX0_laysMoves 41 = .ok (.istore 4, 2) := dk_54 4 (dk_at dksX0_laysMoves_1 17 rfl rfl)
theorem dX0_laysMoves_43 : decode cX0_laysMoves 43 = .ok (.iload 4, 2) := dk_21 4 (dk_at dksX0_laysMoves_1 19 rfl rfl)
theorem dX0_laysMoves_45 : decode cX0_laysMoves 45 = .ok (.bipush 9, 2) := dk_16 9 (dk_at dksX0_laysMoves_1 21 rfl rfl)
theorem dX0_laysMoves_47 : decode cX0_laysMoves 47 = .ok (.if_icmp .ge 28, 3) := dk_162 0 28 (dk_at dksX0_laysMoves_2 0 rfl rfl)
theorem dX0_laysMoves_50 : decode cX0_laysMoves 50 = .ok (.aload_n 0, 1) := dk_42 (dk_at dksX0_laysMoves_2 3 rfl rfl)
theorem dX0_laysMoves_51 : decode cX0_laysMoves 51 = .ok (.getfield 51, 3) := dk_180 0 51 (dk_at dksX0_laysMoves_2 4 rfl rfl)
theorem dX0_laysMoves_54 : decode cX0_laysMoves 54 = .ok (.bipush 9, 2) := dk_16 9 (dk_at dksX0_laysMoves_2 7 rfl rfl)
theorem dX0_laysMoves_56 : decode cX0_laysMoves 56 = .ok (.iload_n 3, 1) := dk_29 (dk_at dksX0_laysMoves_2 9 rfl rfl)
theorem dX0_laysMoves_57 : decode cX0_laysMoves 57 = .ok (.imul, 1) := dk_104 (dk_at dksX0_laysMoves_2 10 rfl rfl)
theorem dX0_laysMoves_58 : decode cX0_laysMoves 58 = .ok (.iload 4, 2) := dk_21 4 (dk_at dksX0_laysMoves_2 11 rfl rfl)
theorem dX0_laysMoves_60 : decode cX0_laysMoves 60 = .ok (.iadd, 1) := dk_96 (dk_at dksX0_laysMoves_2 13 rfl rfl)
theorem dX0_laysMoves_61 : decode cX0_laysMoves 61 = .ok (.aload_n 0, 1) := dk_42 (dk_at dksX0_laysMoves_2 14 rfl rfl)
theorem dX0_laysMoves_62 : decode cX0_laysMoves 62 = .ok (.iload_n 3, 1) := dk_29 (dk_at dksX0_laysMoves_2 15 rfl rfl)
theorem dX0_laysMoves_63 : decode cX0_laysMoves 63 = .ok (.iload 4, 2) := dk_21 4 (dk_at dksX0_laysMoves_2 16 rfl rfl)
theorem dX0_laysMoves_65 : decode cX0_laysMoves 65 = .ok (.invokevirtual 348, 3) := dk_182 1 92 (dk_at dksX0_laysMoves_2 18 rfl rfl)
theorem dX0_laysMoves_68 : decode cX0_laysMoves 68 = .ok (.lastore, 1) := dk_80 (dk_at dksX0_laysMoves_2 21 rfl rfl)
theorem dX0_laysMoves_69 : decode cX0_laysMoves 69 = .ok (.iinc 4 1, 3) := dk_132 4 1 (dk_at dksX0_laysMoves_3 0 rfl rfl)
theorem dX0_laysMoves_72 : decode cX0_laysMoves 72 = .ok (.goto (-29), 3) := dk_167 255 227 (dk_at dksX0_laysMoves_3 3 rfl rfl)
theorem dX0_laysMoves_75 : decode cX0_laysMoves 75 = .ok (.iinc 3 (-1), 3) := dk_132 3 255 (dk_at dksX0_laysMoves_3 6 rfl rfl)
theorem dX0_laysMoves_78 : decode cX0_laysMoves 78 = .ok (.goto (-42), 3) := dk_167 255 214 (dk_at dksX0_laysMoves_3 9 rfl rfl)
theorem dX0_laysMoves_81 : decode cX0_laysMoves 81 = .ok (.aload_n 0, 1) := dk_42 (dk_at dksX0_laysMoves_3 12 rfl rfl)
theorem dX0_laysMoves_82 : decode cX0_laysMoves 82 = .ok (.getfield 21, 3) := dk_180 0 21 (dk_at dksX0_laysMoves_3 13 rfl rfl)
theorem dX0_laysMoves_85 : decode cX0_laysMoves 85 = .ok (.getfield 173, 3) := dk_180 0 173 (dk_at dksX0_laysMoves_3 16 rfl rfl)
theorem dX0_laysMoves_88 : decode cX0_laysMoves 88 = .ok (.iload_n 1, 1) := dk_27 (dk_at dksX0_laysMoves_3 19 rfl rfl)
theorem dX0_laysMoves_89 : decode cX0_laysMoves 89 = .ok (.iaload, 1) := dk_46 (dk_at dksX0_laysMoves_3 20 rfl rfl)
theorem dX0_laysMoves_90 : decode cX0_laysMoves 90 = .ok (.iconst (-1), 1) := dk_2 (dk_at dksX0_laysMoves_3 21 rfl rfl)
theorem dX0_laysMoves_91 : decode cX0_laysMoves 91 = .ok (.if_icmp .ne 8, 3) := dk_160 0 8 (dk_at dksX0_laysMoves_4 0 rfl rfl)
theorem dX0_laysMoves_94 : decode cX0_laysMoves 94 = .ok (.bipush 8, 2) := dk_16 8 (dk_at dksX0_laysMoves_4 3 rfl rfl)
theorem dX0_laysMoves_96 : decode cX0_laysMoves 96 = .ok (.goto 12, 3) := dk_167 0 12 (dk_at dksX0_laysMoves_4 5 rfl rfl)
theorem dX0_laysMoves_99 : decode cX0_laysMoves 99 = .ok (.aload_n 0, 1) := dk_42 (dk_at dksX0_laysMoves_4 8 rfl rfl)
theorem dX0_laysMoves_100 : decode cX0_laysMoves 100 = .ok (.getfield 21, 3) := dk_180 0 21 (dk_at dksX0_laysMoves_4 9 rfl rfl)
theorem dX0_laysMoves_103 : decode cX0_laysMoves 103 = .ok (.getfield 173, 3) := dk_180 0 173 (dk_at dksX0_laysMoves_4 12 rfl rfl)
theorem dX0_laysMoves_106 : decode cX0_laysMoves 106 = .ok (.iload_n 1, 1) := dk_27 (dk_at dksX0_laysMoves_4 15 rfl rfl)
theorem dX0_laysMoves_107 : decode cX0_laysMoves 107 = .ok (.iaload, 1) := dk_46 (dk_at dksX0_laysMoves_4 16 rfl rfl)
theorem dX0_laysMoves_108 : decode cX0_laysMoves 108 = .ok (.istore_n 3, 1) := dk_62 (dk_at dksX0_laysMoves_4 17 rfl rfl)
theorem dX0_laysMoves_109 : decode cX0_laysMoves 109 = .ok (.aload_n 0, 1) := dk_42 (dk_at dksX0_laysMoves_4 18 rfl rfl)
theorem dX0_laysMoves_110 : decode cX0_laysMoves 110 = .ok (.getfield 47, 3) := dk_180 0 47 (dk_at dksX0_laysMoves_4 19 rfl rfl)
theorem dX0_laysMoves_113 : decode cX0_laysMoves 113 = .ok (.iload_n 3, 1) := dk_29 (dk_at dksX0_laysMoves_4 22 rfl rfl)
theorem dX0_laysMoves_114 : decode cX0_laysMoves 114 = .ok (.laload, 1) := dk_47 (dk_at dksX0_laysMoves_4 23 rfl rfl)
theorem dX0_laysMoves_115 : decode cX0_laysMoves 115 = .ok (.aload_n 0, 1) := dk_42 (dk_at dksX0_laysMoves_5 0 rfl rfl)
theorem dX0_laysMoves_116 : decode cX0_laysMoves 116 = .ok (.getfield 51, 3) := dk_180 0 51 (dk_at dksX0_laysMoves_5 1 rfl rfl)
theorem dX0_laysMoves_119 : decode cX0_laysMoves 119 = .ok (.iload_n 3, 1) := dk_29 (dk_at dksX0_laysMoves_5 4 rfl rfl)
theorem dX0_laysMoves_120 : decode cX0_laysMoves 120 = .ok (.laload, 1) := dk_47 (dk_at dksX0_laysMoves_5 5 rfl rfl)
theorem dX0_laysMoves_121 : decode cX0_laysMoves 121 = .ok (.ladd, 1) := dk_97 (dk_at dksX0_laysMoves_5 6 rfl rfl)
theorem dX0_laysMoves_122 : decode cX0_laysMoves 122 = .ok (.lstore 4, 2) := dk_55 4 (dk_at dksX0_laysMoves_5 7 rfl rfl)
theorem dX0_laysMoves_124 : decode cX0_laysMoves 124 = .ok (.aload_n 0, 1) := dk_42 (dk_at dksX0_laysMoves_5 9 rfl rfl)
theorem dX0_laysMoves_125 : decode cX0_laysMoves 125 = .ok (.iconst 0, 1) := dk_3 (dk_at dksX0_laysMoves_5 10 rfl rfl)
theorem dX0_laysMoves_126 : decode cX0_laysMoves 126 = .ok (.putfield 351, 3) := dk_181 1 95 (dk_at dksX0_laysMoves_5 11 rfl rfl)
theorem dX0_laysMoves_129 : decode cX0_laysMoves 129 = .ok (.iconst 0, 1) := dk_3 (dk_at dksX0_laysMoves_5 14 rfl rfl)
theorem dX0_laysMoves_130 : decode cX0_laysMoves 130 = .ok (.istore 6, 2) := dk_54 6 (dk_at dksX0_laysMoves_5 15 rfl rfl)
theorem dX0_laysMoves_132 : decode cX0_laysMoves 132 = .ok (.iload 6, 2) := dk_21 6 (dk_at dksX0_laysMoves_5 17 rfl rfl)
theorem dX0_laysMoves_134 : decode cX0_laysMoves 134 = .ok (.iload_n 2, 1) := dk_28 (dk_at dksX0_laysMoves_5 19 rfl rfl)
theorem dX0_laysMoves_135 : decode cX0_laysMoves 135 = .ok (.if_icmp .ge 77, 3) := dk_162 0 77 (dk_at dksX0_laysMoves_5 20 rfl rfl)
theorem dX0_laysMoves_138 : decode cX0_laysMoves 138 = .ok (.bipush 8, 2) := dk_16 8 (dk_at dksX0_laysMoves_6 0 rfl rfl)
theorem dX0_laysMoves_140 : decode cX0_laysMoves 140 = .ok (.istore 7, 2) := dk_54 7 (dk_at dksX0_laysMoves_6 2 rfl rfl)
theorem dX0_laysMoves_142 : decode cX0_laysMoves 142 = .ok (.aload_n 0, 1) := dk_42 (dk_at dksX0_laysMoves_6 4 rfl rfl)
theorem dX0_laysMoves_143 : decode cX0_laysMoves 143 = .ok (.iload 6, 2) := dk_21 6 (dk_at dksX0_laysMoves_6 5 rfl rfl)
theorem dX0_laysMoves_145 : decode cX0_laysMoves 145 = .ok (.iload_n 3, 1) := dk_29 (dk_at dksX0_laysMoves_6 7 rfl rfl)
theorem dX0_laysMoves_146 : decode cX0_laysMoves 146 = .ok (.iload 7, 2) := dk_21 7 (dk_at dksX0_laysMoves_6 8 rfl rfl)
theorem dX0_laysMoves_148 : decode cX0_laysMoves 148 = .ok (.invokevirtual 354, 3) := dk_182 1 98 (dk_at dksX0_laysMoves_6 10 rfl rfl)
theorem dX0_laysMoves_151 : decode cX0_laysMoves 151 = .ok (.ifCond .ne 23, 3) := dk_154 0 23 (dk_at dksX0_laysMoves_6 13 rfl rfl)
theorem dX0_laysMoves_154 : decode cX0_laysMoves 154 = .ok (.iload 7, 2) := dk_21 7 (dk_at dksX0_laysMoves_6 16 rfl rfl)
theorem dX0_laysMoves_156 : decode cX0_laysMoves 156 = .ok (.bipush 8, 2) := dk_16 8 (dk_at dksX0_laysMoves_6 18 rfl rfl)
theorem dX0_laysMoves_158 : decode cX0_laysMoves 158 = .ok (.if_icmp .ne 7, 3) := dk_160 0 7 (dk_at dksX0_laysMoves_6 20 rfl rfl)
theorem dX0_laysMoves_161 : decode cX0_laysMoves 161 = .ok (.iconst 0, 1) := dk_3 (dk_at dksX0_laysMoves_6 23 rfl rfl)
theorem dX0_laysMoves_162 : decode cX0_laysMoves 162 = .ok (.goto 7, 3) := dk_167 0 7 (dk_at dksX0_laysMoves_7 0 rfl rfl)
theorem dX0_laysMoves_165 : decode cX0_laysMoves 165 = .ok (.iload 7, 2) := dk_21 7 (dk_at dksX0_laysMoves_7 3 rfl rfl)
theorem dX0_laysMoves_167 : decode cX0_laysMoves 167 = .ok (.iconst 1, 1) := dk_4 (dk_at dksX0_laysMoves_7 5 rfl rfl)
theorem dX0_laysMoves_168 : decode cX0_laysMoves 168 = .ok (.iadd, 1) := dk_96 (dk_at dksX0_laysMoves_7 6 rfl rfl)
theorem dX0_laysMoves_169 : decode cX0_laysMoves 169 = .ok (.istore 7, 2) := dk_54 7 (dk_at dksX0_laysMoves_7 7 rfl rfl)
theorem dX0_laysMoves_171 : decode cX0_laysMoves 171 = .ok (.goto (-29), 3) := dk_167 255 227 (dk_at dksX0_laysMoves_7 9 rfl rfl)
theorem dX0_laysMoves_174 : decode cX0_laysMoves 174 = .ok (.aload_n 0, 1) := dk_42 (dk_at dksX0_laysMoves_7 12 rfl rfl)
theorem dX0_laysMoves_175 : decode cX0_laysMoves 175 = .ok (.dup, 1) := dk_89 (dk_at dksX0_laysMoves_7 13 rfl rfl)
theorem dX0_laysMoves_176 : decode cX0_laysMoves 176 = .ok (.getfield 351, 3) := dk_180 1 95 (dk_at dksX0_laysMoves_7 14 rfl rfl)
theorem dX0_laysMoves_179 : decode cX0_laysMoves 179 = .ok (.iload 7, 2) := dk_21 7 (dk_at dksX0_laysMoves_7 17 rfl rfl)
theorem dX0_laysMoves_181 : decode cX0_laysMoves 181 = .ok (.iload_n 3, 1) := dk_29 (dk_at dksX0_laysMoves_7 19 rfl rfl)
theorem dX0_laysMoves_182 : decode cX0_laysMoves 182 = .ok (.if_icmp .ne 7, 3) := dk_160 0 7 (dk_at dksX0_laysMoves_7 20 rfl rfl)
theorem dX0_laysMoves_185 : decode cX0_laysMoves 185 = .ok (.iconst 0, 1) := dk_3 (dk_at dksX0_laysMoves_7 23 rfl rfl)
theorem dX0_laysMoves_186 : decode cX0_laysMoves 186 = .ok (.goto 4, 3) := dk_167 0 4 (dk_at dksX0_laysMoves_8 0 rfl rfl)
theorem dX0_laysMoves_189 : decode cX0_laysMoves 189 = .ok (.iconst 1, 1) := dk_4 (dk_at dksX0_laysMoves_8 3 rfl rfl)
theorem dX0_laysMoves_190 : decode cX0_laysMoves 190 = .ok (.iadd, 1) := dk_96 (dk_at dksX0_laysMoves_8 4 rfl rfl)
theorem dX0_laysMoves_191 : decode cX0_laysMoves 191 = .ok (.putfield 351, 3) := dk_181 1 95 (dk_at dksX0_laysMoves_8 5 rfl rfl)
theorem dX0_laysMoves_194 : decode cX0_laysMoves 194 = .ok (.aload_n 0, 1) := dk_42 (dk_at dksX0_laysMoves_8 8 rfl rfl)
theorem dX0_laysMoves_195 : decode cX0_laysMoves 195 = .ok (.getfield 57, 3) := dk_180 0 57 (dk_at dksX0_laysMoves_8 9 rfl rfl)
theorem dX0_laysMoves_198 : decode cX0_laysMoves 198 = .ok (.iload 6, 2) := dk_21 6 (dk_at dksX0_laysMoves_8 12 rfl rfl)
theorem dX0_laysMoves_200 : decode cX0_laysMoves 200 = .ok (.iload 7, 2) := dk_21 7 (dk_at dksX0_laysMoves_8 14 rfl rfl)
theorem dX0_laysMoves_202 : decode cX0_laysMoves 202 = .ok (.iastore, 1) := dk_79 (dk_at dksX0_laysMoves_8 16 rfl rfl)
theorem dX0_laysMoves_203 : decode cX0_laysMoves 203 = .ok (.iload 7, 2) := dk_21 7 (dk_at dksX0_laysMoves_8 17 rfl rfl)
theorem dX0_laysMoves_205 : decode cX0_laysMoves 205 = .ok (.istore_n 3, 1) := dk_62 (dk_at dksX0_laysMoves_8 19 rfl rfl)
theorem dX0_laysMoves_206 : decode cX0_laysMoves 206 = .ok (.iinc 6 1, 3) := dk_132 6 1 (dk_at dksX0_laysMoves_8 20 rfl rfl)
theorem dX0_laysMoves_209 : decode cX0_laysMoves 209 = .ok (.goto (-77), 3) := dk_167 255 179 (dk_at dksX0_laysMoves_9 0 rfl rfl)
theorem dX0_laysMoves_212 : decode cX0_laysMoves 212 = .ok (.lload 4, 2) := dk_22 4 (dk_at dksX0_laysMoves_9 3 rfl rfl)
theorem dX0_laysMoves_214 : decode cX0_laysMoves 214 = .ok (.lreturn, 1) := dk_173 (dk_at dksX0_laysMoves_9 5 rfl rfl)
abbrev cX0_laysStays : ByteArray := prog_1_method_51_code
def yX0_laysStays : MethodName := ⟨RX0, "laysStays", "(II)V"⟩
def dkwX0_laysStays_9 : List UInt8 := [167, 255, 207, 42, 180, 0, 25, 182, 1, 51, 87, 132, 4, 1, 167, 255, 140, 177]
abbrev dktX0_laysStays_9 : List UInt8 := dkwX0_laysStays_9 ++ []
def dkwX0_laysStays_8 : List UInt8 := [180, 0, 47, 16, 9, 29, 104, 21, 5, 96, 92, 47, 42, 27, 21, 5, 182, 1, 79, 97, 80, 132, 5, 1]
abbrev dktX0_laysStays_8 : List UInt8 := dkwX0_laysStays_8 ++ dktX0_laysStays_9
def dkwX0_laysStays_7 : List UInt8 := [180, 0, 21, 180, 0, 138, 162, 0, 43, 42, 180, 1, 73, 21, 5, 184, 1, 15, 153, 0, 25, 42]
abbrev dktX0_laysStays_7 : List UInt8 := dkwX0_laysStays_7 ++ dktX0_laysStays_8
def dkwX0_laysStays_6 : List UInt8 := [180, 0, 25, 182, 1, 76, 120, 4, 100, 2, 130, 126, 79, 132, 3, 1, 3, 54, 5, 21, 5, 42]
abbrev dktX0_laysStays_6 : List UInt8 := dkwX0_laysStays_6 ++ dktX0_laysStays_7
def dkwX0_laysStays_5 : List UInt8 := [180, 0, 25, 180, 1, 0, 16, 12, 112, 7, 160, 0, 30, 42, 180, 0, 54, 29, 42, 180, 1, 73, 4, 42]
abbrev dktX0_laysStays_5 : List UInt8 := dkwX0_laysStays_5 ++ dktX0_laysStays_6
def dkwX0_laysStays_4 : List UInt8 := [180, 0, 21, 182, 0, 194, 87, 3, 62, 3, 54, 4, 21, 4, 16, 12, 28, 104, 162, 0, 113, 42]
abbrev dktX0_laysStays_4 : List UInt8 := dkwX0_laysStays_4 ++ dktX0_laysStays_5
def dkwX0_laysStays_3 : List UInt8 := [190, 162, 0, 16, 42, 180, 0, 47, 29, 9, 80, 132, 3, 1, 167, 255, 237, 42, 180, 0, 25, 42]
abbrev dktX0_laysStays_3 : List UInt8 := dkwX0_laysStays_3 ++ dktX0_laysStays_4
def dkwX0_laysStays_2 : List UInt8 := [4, 29, 120, 167, 0, 4, 3, 128, 181, 1, 73, 132, 3, 1, 167, 255, 201, 3, 62, 29, 42, 180, 0, 47]
abbrev dktX0_laysStays_2 : List UInt8 := dkwX0_laysStays_2 ++ dktX0_laysStays_3
def dkwX0_laysStays_1 : List UInt8 := [180, 0, 21, 29, 182, 0, 153, 2, 159, 0, 16, 42, 180, 0, 21, 180, 0, 173, 27, 46, 29, 160, 0, 9]
abbrev dktX0_laysStays_1 : List UInt8 := dkwX0_laysStays_1 ++ dktX0_laysStays_2
def dkwX0_laysStays_0 : List UInt8 := [42, 3, 181, 1, 73, 3, 62, 29, 42, 180, 0, 21, 180, 0, 138, 162, 0, 50, 42, 89, 180, 1, 73, 42]
abbrev dktX0_laysStays_0 : List UInt8 := dkwX0_laysStays_0 ++ dktX0_laysStays_1
theorem dksX0_laysStays_0 : cX0_laysStays.data.toList.drop 0 = dktX0_laysStays_0 := by decide +kernel
theorem dksX0_laysStays_1 : cX0_laysStays.data.toList.drop 24 = dktX0_laysStays_1 := dk_seg dksX0_laysStays_0 24 rfl rfl
theorem dksX0_laysStays_2 : cX0_laysStays.data.toList.drop 48 = dktX0_laysStays_2 := dk_seg dksX0_laysStays_1 24 rfl rfl
theorem dksX0_laysStays_3 : cX0_laysStays.data.toList.drop 72 = dktX0_laysStays_3 := dk_seg dksX0_laysStays_2 24 rfl rfl
theorem dksX0_laysStays_4 : cX0_laysStays.data.toList.drop 94 = dktX0_laysStays_4 := dk_seg dksX0_laysStays_3 22 rfl rfl
theorem dksX0_laysStays_5 : cX0_laysStays.data.toList.drop 116 = dktX0_laysStays_5 := dk_seg dksX0_laysStays_4 22 rfl rfl
theorem dksX0_laysStays_6 : cX0_laysStays.data.toList.drop 140 = dktX0_laysStays_6 := dk_seg dksX0_laysStays_5 24 rfl rfl
theorem dksX0_laysStays_7 : cX0_laysStays.data.toList.drop 162 = dktX0_laysStays_7 := dk_seg dksX0_laysStays_6 22 rfl rfl
theorem dksX0_laysStays_8 : cX0_laysStays.data.toList.drop 184 = dktX0_laysStays_8 := dk_seg dksX0_laysStays_7 22 rfl rfl
theorem dksX0_laysStays_9 : cX0_laysStays.data.toList.drop 208 = dktX0_laysStays_9 := dk_seg dksX0_laysStays_8 24 rfl rfl
theorem dX0_laysStays_0 : decode cX0_laysStays 0 = .ok (.aload_n 0, 1) := dk_42 (dk_at dksX0_laysStays_0 0 rfl rfl)
theorem dX0_laysStays_1 : decode cX0_laysStays 1 = .ok (.iconst 0, 1) := dk_3 (dk_at dksX0_laysStays_0 1 rfl rfl)
theorem dX0_laysStays_2 : decode cX0_laysStays 2 = .ok (.putfield 329, 3) := dk_181 1 73 (dk_at dksX0_laysStays_0 2 rfl rfl)
theorem dX0_laysStays_5 : decode cX0_laysStays 5 = .ok (.iconst 0, 1) := dk_3 (dk_at dksX0_laysStays_0 5 rfl rfl)
theorem dX0_laysStays_6 : decode cX0_laysStays 6 = .ok (.istore_n 3, 1) := dk_62 (dk_at dksX0_laysStays_0 6 rfl rfl)
theorem dX0_laysStays_7 : decode cX0_laysStays 7 = .ok (.iload_n 3, 1) := dk_29 (dk_at dksX0_laysStays_0 7 rfl rfl)
theorem dX0_laysStays_8 : decode cX0_laysStays 8 = .ok (.aload_n 0, 1) := dk_42 (dk_at dksX0_laysStays_0 8 rfl rfl)
theorem dX0_laysStays_9 : decode cX0_laysStays 9 = .ok (.getfield 21, 3) := dk_180 0 21 (dk_at dksX0_laysStays_0 9 rfl rfl)
theorem dX0_laysStays_12 : decode cX0_laysStays 12 = .ok (.getfield 138, 3) := dk_180 0 138 (dk_at dksX0_laysStays_0 12 rfl rfl)
theorem dX0_laysStays_15 : decode cX0_laysStays 15 = .ok (.if_icmp .ge 50, 3) := dk_162 0 50 (dk_at dksX0_laysStays_0 15 rfl rfl)
theorem dX0_laysStays_18 : decode cX0_laysStays 18 = .ok (.aload_n 0, 1) := dk_42 (dk_at dksX0_laysStays_0 18 rfl rfl)
theorem dX0_laysStays_19 : decode cX0_laysStays 19 = .ok (.dup, 1) := dk_89 (dk_at dksX0_laysStays_0 19 rfl rfl)
theorem dX0_laysStays_20 : decode cX0_laysStays 20 = .ok (.getfield 329, 3) := dk_180 1 73 (dk_at dksX0_laysStays_0 20 rfl rfl)
theorem dX0_laysStays_23 : decode cX0_laysStays 23 = .ok (.aload_n 0, 1) := dk_42 (dk_at dksX0_laysStays_0 23 rfl rfl)
theorem dX0_laysStays_24 : decode cX0_laysStays 24 = .ok (.getfield 21, 3) := dk_180 0 21 (dk_at dksX0_laysStays_1 0 rfl rfl)
theorem dX0_laysStays_27 : decode cX0_laysStays 27 = .ok (.iload_n 3, 1) := dk_29 (dk_at dksX0_laysStays_1 3 rfl rfl)
theorem dX0_laysStays_28 : decode cX0_laysStays 28 = .ok (.invokevirtual 153, 3) := dk_182 0 153 (dk_at dksX0_laysStays_1 4 rfl rfl)
theorem dX0_laysStays_31 : decode cX0_laysStays 31 = .ok (.iconst (-1), 1) := dk_2 (dk_at dksX0_laysStays_1 7 rfl rfl)
theorem dX0_laysStays_32 : decode cX0_laysStays 32 = .ok (.if_icmp .eq 16, 3) := dk_159 0 16 (dk_at dksX0_laysStays_1 8 rfl rfl)
theorem dX0_laysStays_35 : decode cX0_laysStays 35 = .ok (.aload_n 0, 1) := dk_42 (dk_at dksX0_laysStays_1 11 rfl rfl)
theorem dX0_laysStays_36 : decode cX0_laysStays 36 = .ok (.getfield 21, 3) := dk_180 0 21 (dk_at dksX0_laysStays_1 12 rfl rfl)
theorem dX0_laysStays_39 : decode cX0_laysStays 39 = .ok (.getfield 173, 3) := dk_180 0 173 (dk_at dksX0_laysStays_1 15 rfl rfl)
theorem dX0_laysStays_42 : decode cX0_laysStays 42 = .ok (.iload_n 1, 1) := dk_27 (dk_at dksX0_laysStays_1 18 rfl rfl)
theorem dX0_laysStays_43 : decode cX0_laysStays 43 = .ok (.iaload, 1) := dk_46 (dk_at dksX0_laysStays_1 19 rfl rfl)
theorem dX0_laysStays_44 : decode cX0_laysStays 44 = .ok (.iload_n 3, 1) := dk_29 (dk_at dksX0_laysStays_1 20 rfl rfl)
theorem dX0_laysStays_45 : decode cX0_laysStays 45 = .ok (.if_icmp .ne 9, 3) := dk_160 0 9 (dk_at dksX0_laysStays_1 21 rfl rfl)
theorem dX0_laysStays_48 : decode cX0_laysStays 48 = .ok (.iconst 1, 1) := dk_4 (dk_at dksX0_laysStays_2 0 rfl rfl)
theorem dX0_laysStays_49 : decode cX0_laysStays 49 = .ok (.iload_n 3, 1) := dk_29 (dk_at dksX0_laysStays_2 1 rfl rfl)
theorem dX0_laysStays_50 : decode cX0_laysStays 50 = .ok (.ishl, 1) := dk_120 (dk_at dksX0_laysStays_2 2 rfl rfl)
theorem dX0_laysStays_51 : decode cX0_laysStays 51 = .ok (.goto 4, 3) := dk_167 0 4 (dk_at dksX0_laysStays_2 3 rfl rfl)
theorem dX0_laysStays_54 : decode cX0_laysStays 54 = .ok (.iconst 0, 1) := dk_3 (dk_at dksX0_laysStays_2 6 rfl rfl)
theorem dX0_laysStays_55 : decode cX0_laysStays 55 = .ok (.ior, 1) := dk_128 (dk_at dksX0_laysStays_2 7 rfl rfl)
theorem dX0_laysStays_56 : decode cX0_laysStays 56 = .ok (.putfield 329, 3) := dk_181 1 73 (dk_at dksX0_laysStays_2 8 rfl rfl)
theorem dX0_laysStays_59 : decode cX0_laysStays 59 = .ok (.iinc 3 1, 3) := dk_132 3 1 (dk_at dksX0_laysStays_2 11 rfl rfl)
theorem dX0_laysStays_62 : decode cX0_laysStays 62 = .ok (.goto (-55), 3) := dk_167 255 201 (dk_at dksX0_laysStays_2 14 rfl rfl)
theorem dX0_laysStays_65 : decode cX0_laysStays 65 = .ok (.iconst 0, 1) := dk_3 (dk_at dksX0_laysStays_2 17 rfl rfl)
theorem dX0_laysStays_66 : decode cX0_laysStays 66 = .ok (.istore_n 3, 1) := dk_62 (dk_at dksX0_laysStays_2 18 rfl rfl)
theorem dX0_laysStays_67 : decode cX0_laysStays 67 = .ok (.iload_n 3, 1) := dk_29 (dk_at dksX0_laysStays_2 19 rfl rfl)
theorem dX0_laysStays_68 : decode cX0_laysStays 68 = .ok (.aload_n 0, 1) := dk_42 (dk_at dksX0_laysStays_2 20 rfl rfl)
theorem dX0_laysStays_69 : decode cX0_laysStays 69 = .ok (.getfield 47, 3) := dk_180 0 47 (dk_at dksX0_laysStays_2 21 rfl rfl)
theorem dX0_laysStays_72 : decode cX0_laysStays 72 = .ok (.arraylength, 1) := dk_190 (dk_at dksX0_laysStays_3 0 rfl rfl)
theorem dX0_laysStays_73 : decode cX0_laysStays 73 = .ok (.if_icmp .ge 16, 3) := dk_162 0 16 (dk_at dksX0_laysStays_3 1 rfl rfl)
theorem dX0_laysStays_76 : decode cX0_laysStays 76 = .ok (.aload_n 0, 1) := dk_42 (dk_at dksX0_laysStays_3 4 rfl rfl)
theorem dX0_laysStays_77 : decode cX0_laysStays 77 = .ok (.getfield 47, 3) := dk_180 0 47 (dk_at dksX0_laysStays_3 5 rfl rfl)
theorem dX0_laysStays_80 : decode cX0_laysStays 80 = .ok (.iload_n 3, 1) := dk_29 (dk_at dksX0_laysStays_3 8 rfl rfl)
theorem dX0_laysStays_81 : decode cX0_laysStays 81 = .ok (.lconst 0, 1) := dk_9 (dk_at dksX0_laysStays_3 9 rfl rfl)
theorem dX0_laysStays_82 : decode cX0_laysStays 82 = .ok (.lastore, 1) := dk_80 (dk_at dksX0_laysStays_3 10 rfl rfl)
theorem dX0_laysStays_83 : decode cX0_laysStays 83 = .ok (.iinc 3 1, 3) := dk_132 3 1 (dk_at dksX0_laysStays_3 11 rfl rfl)
theorem dX0_laysStays_86 : decode cX0_laysStays 86 = .ok (.goto (-19), 3) := dk_167 255 237 (dk_at dksX0_laysStays_3 14 rfl rfl)
theorem dX0_laysStays_89 : decode cX0_laysStays 89 = .ok (.aload_n 0, 1) := dk_42 (dk_at dksX0_laysStays_3 17 rfl rfl)
theorem dX0_laysStays_90 : decode cX0_laysStays 90 = .ok (.getfield 25, 3) := dk_180 0 25 (dk_at dksX0_laysStays_3 18 rfl rfl)
theorem dX0_laysStays_93 : decode cX0_laysStays 93 = .ok (.aload_n 0, 1) := dk_42 (dk_at dksX0_laysStays_3 21 rfl rfl)
theorem dX0_laysStays_94 : decode cX0_laysStays 94 = .ok (.getfield 21, 3) := dk_180 0 21 (dk_at dksX0_laysStays_4 0 rfl rfl)
theorem dX0_laysStays_97 : decode cX0_laysStays 97 = .ok (.invokevirtual 194, 3) := dk_182 0 194 (dk_at dksX0_laysStays_4 3 rfl rfl)
theorem dX0_laysStays_100 : decode cX0_laysStays 100 = .ok (.pop, 1) := dk_87 (dk_at dksX0_laysStays_4 6 rfl rfl)
theorem dX0_laysStays_101 : decode cX0_laysStays 101 = .ok (.iconst 0, 1) := dk_3 (dk_at dksX0_laysStays_4 7 rfl rfl)
theorem dX0_laysStays_102 : decode cX0_laysStays 102 = .ok (.istore_n 3, 1) := dk_62 (dk_at dksX0_laysStays_4 8 rfl rfl)
theorem dX0_laysStays_103 : decode cX0_laysStays 103 = .ok (.iconst 0, 1) := dk_3 (dk_at dksX0_laysStays_4 9 rfl rfl)
theorem dX0_laysStays_104 : decode cX0_laysStays 104 = .ok (.istore 4, 2) := dk_54 4 (dk_at dksX0_laysStays_4 10 rfl rfl)
theorem dX0_laysStays_106 : decode cX0_laysStays 106 = .ok (.iload 4, 2) := dk_21 4 (dk_at dksX0_laysStays_4 12 rfl rfl)
theorem dX0_laysStays_108 : decode cX0_laysStays 108 = .ok (.bipush 12, 2) := dk_16 12 (dk_at dksX0_laysStays_4 14 rfl rfl)
theorem dX0_laysStays_110 : decode cX0_laysStays 110 = .ok (.iload_n 2, 1) := dk_28 (dk_at dksX0_laysStays_4 16 rfl rfl)
theorem dX0_laysStays_111 : decode cX0_laysStays 111 = .ok (.imul, 1) := dk_104 (dk_at dksX0_laysStays_4 17 rfl rfl)
theorem dX0_laysStays_112 : decode cX0_laysStays 112 = .ok (.if_icmp .ge 113, 3) := dk_162 0 113 (dk_at dksX0_laysStays_4 18 rfl rfl)
theorem dX0_laysStays_115 : decode cX0_laysStays 115 = .ok (.aload_n 0, 1) := dk_42 (dk_at dksX0_laysStays_4 21 rfl rfl)
theorem dX0_laysStays_116 : decode cX0_laysStays 116 = .ok (.getfield 25, 3) := dk_180 0 25 (dk_at dksX0_laysStays_5 0 rfl rfl)
theorem dX0_laysStays_119 : decode cX0_laysStays 119 = .ok (.getfield 256, 3) := dk_180 1 0 (dk_at dksX0_laysStays_5 3 rfl rfl)
theorem dX0_laysStays_122 : decode cX0_laysStays 122 = .ok (.bipush 12, 2) := dk_16 12 (dk_at dksX0_laysStays_5 6 rfl rfl)
theorem dX0_laysStays_124 : decode cX0_laysStays 124 = .ok (.irem, 1) := dk_112 (dk_at dksX0_laysStays_5 8 rfl rfl)
theorem dX0_laysStays_125 : decode cX0_laysStays 125 = .ok (.iconst 4, 1) := dk_7 (dk_at dksX0_laysStays_5 9 rfl rfl)
theorem dX0_laysStays_126 : decode cX0_laysStays 126 = .ok (.if_icmp .ne 30, 3) := dk_160 0 30 (dk_at dksX0_laysStays_5 10 rfl rfl)
theorem dX0_laysStays_129 : decode cX0_laysStays 129 = .ok (.aload_n 0, 1) := dk_42 (dk_at dksX0_laysStays_5 13 rfl rfl)
theorem dX0_laysStays_130 : decode cX0_laysStays 130 = .ok (.getfield 54, 3) := dk_180 0 54 (dk_at dksX0_laysStays_5 14 rfl rfl)
theorem dX0_laysStays_133 : decode cX0_laysStays 133 = .ok (.iload_n 3, 1) := dk_29 (dk_at dksX0_laysStays_5 17 rfl rfl)
theorem dX0_laysStays_134 : decode cX0_laysStays 134 = .ok (.aload_n 0, 1) := dk_42 (dk_at dksX0_laysStays_5 18 rfl rfl)
theorem dX0_laysStays_135 : decode cX0_laysStays 135 = .ok (.getfield 329, 3) := dk_180 1 73 (dk_at dksX0_laysStays_5 19 rfl rfl)
theorem dX0_laysStays_138 : decode cX0_laysStays 138 = .ok (.iconst 1, 1) := dk_4 (dk_at dksX0_laysStays_5 22 rfl rfl)
theorem dX0_laysStays_139 : decode cX0_laysStays 139 = .ok (.aload_n 0, 1) := dk_42 (dk_at dksX0_laysStays_5 23 rfl rfl)
theorem dX0_laysStays_140 : decode cX0_laysStays 140 = .ok (.getfield 25, 3) := dk_180 0 25 (dk_at dksX0_laysStays_6 0 rfl rfl)
theorem dX0_laysStays_143 : decode cX0_laysStays 143 = .ok (.invokevirtual 332, 3) := dk_182 1 76 (dk_at dksX0_laysStays_6 3 rfl rfl)
theorem dX0_laysStays_146 : decode cX0_laysStays 146 = .ok (.ishl, 1) := dk_120 (dk_at dksX0_laysStays_6 6 rfl rfl)
theorem dX0_laysStays_147 : decode cX0_laysStays 147 = .ok (.iconst 1, 1) := dk_4 (dk_at dksX0_laysStays_6 7 rfl rfl)
theorem dX0_laysStays_148 : decode cX0_laysStays 148 = .ok (.isub, 1) := dk_100 (dk_at dksX0_laysStays_6 8 rfl rfl)
theorem dX0_laysStays_149 : decode cX0_laysStays 149 = .ok (.iconst (-1), 1) := dk_2 (dk_at dksX0_laysStays_6 9 rfl rfl)
theorem dX0_laysStays_150 : decode cX0_laysStays 150 = .ok (.ixor, 1) := dk_130 (dk_at dksX0_laysStays_6 10 rfl rfl)
theorem dX0_laysStays_151 : decode cX0_laysStays 151 = .ok (.iand, 1) := dk_126 (dk_at dksX0_laysStays_6 11 rfl rfl)
theorem dX0_laysStays_152 : decode cX0_laysStays 152 = .ok (.iastore, 1) := dk_79 (dk_at dksX0_laysStays_6 12 rfl rfl)
theorem dX0_laysStays_153 : decode cX0_laysStays 153 = .ok (.iinc 3 1, 3) := dk_132 3 1 (dk_at dksX0_laysStays_6 13 rfl rfl)
theorem dX0_laysStays_156 : decode cX0_laysStays 156 = .ok (.iconst 0, 1) := dk_3 (dk_at dksX0_laysStays_6 16 rfl rfl)
theorem dX0_laysStays_157 : decode cX0_laysStays 157 = .ok (.istore 5, 2) := dk_54 5 (dk_at dksX0_laysStays_6 17 rfl rfl)
theorem dX0_laysStays_159 : decode cX0_laysStays 159 = .ok (.iload 5, 2) := dk_21 5 (dk_at dksX0_laysStays_6 19 rfl rfl)
theorem dX0_laysStays_161 : decode cX0_laysStays 161 = .ok (.aload_n 0, 1) := dk_42 (dk_at dksX0_laysStays_6 21 rfl rfl)
theorem dX0_laysStays_162 : decode cX0_laysStays 162 = .ok (.getfield 21, 3) := dk_180 0 21 (dk_at dksX0_laysStays_7 0 rfl rfl)
theorem dX0_laysStays_165 : decode cX0_laysStays 165 = .ok (.getfield 138, 3) := dk_180 0 138 (dk_at dksX0_laysStays_7 3 rfl rfl)
theorem dX0_laysStays_168 : decode cX0_laysStays 168 = .ok (.if_icmp .ge 43, 3) := dk_162 0 43 (dk_at dksX0_laysStays_7 6 rfl rfl)
theorem dX0_laysStays_171 : decode cX0_laysStays 171 = .ok (.aload_n 0, 1) := dk_42 (dk_at dksX0_laysStays_7 9 rfl rfl)
theorem dX0_laysStays_172 : decode cX0_laysStays 172 = .ok (.getfield 329, 3) := dk_180 1 73 (dk_at dksX0_laysStays_7 10 rfl rfl)
theorem dX0_laysStays_175 : decode cX0_laysStays 175 = .ok (.iload 5, 2) := dk_21 5 (dk_at dksX0_laysStays_7 13 rfl rfl)
theorem dX0_laysStays_177 : decode cX0_laysStays 177 = .ok (.invokestatic 271, 3) := dk_184 1 15 (dk_at dksX0_laysStays_7 15 rfl rfl)
theorem dX0_laysStays_180 : decode cX0_laysStays 180 = .ok (.ifCond .eq 25, 3) := dk_153 0 25 (dk_at dksX0_laysStays_7 18 rfl rfl)
theorem dX0_laysStays_183 : decode cX0_laysStays 183 = .ok (.aload_n 0, 1) := dk_42 (dk_at dksX0_laysStays_7 21 rfl rfl)
theorem dX0_laysStays_184 : decode cX0_laysStays 184 = .ok (.getfield 47, 3) := dk_180 0 47 (dk_at dksX0_laysStays_8 0 rfl rfl)
theorem dX0_laysStays_187 : decode cX0_laysStays 187 = .ok (.bipush 9, 2) := dk_16 9 (dk_at dksX0_laysStays_8 3 rfl rfl)
theorem dX0_laysStays_189 : decode cX0_laysStays 189 = .ok (.iload_n 3, 1) := dk_29 (dk_at dksX0_laysStays_8 5 rfl rfl)
theorem dX0_laysStays_190 : decode cX0_laysStays 190 = .ok (.imul, 1) := dk_104 (dk_at dksX0_laysStays_8 6 rfl rfl)
theorem dX0_laysStays_191 : decode cX0_laysStays 191 = .ok (.iload 5, 2) := dk_21 5 (dk_at dksX0_laysStays_8 7 rfl rfl)
theorem dX0_laysStays_193 : decode cX0_laysStays 193 = .ok (.iadd, 1) := dk_96 (dk_at dksX0_laysStays_8 9 rfl rfl)
theorem dX0_laysStays_194 : decode cX0_laysStays 194 = .ok (.dup2, 1) := dk_92 (dk_at dksX0_laysStays_8 10 rfl rfl)
theorem dX0_laysStays_195 : decode cX0_laysStays 195 = .ok (.laload, 1) := dk_47 (dk_at dksX0_laysStays_8 11 rfl rfl)
theorem dX0_laysStays_196 : decode cX0_laysStays 196 = .ok (.aload_n 0, 1) := dk_42 (dk_at dksX0_laysStays_8 12 rfl rfl)
theorem dX0_laysStays_197 : decode cX0_laysStays 197 = .ok (.iload_n 1, 1) := dk_27 (dk_at dksX0_laysStays_8 13 rfl rfl)
theorem dX0_laysStays_198 : decode cX0_laysStays 198 = .ok (.iload 5, 2) := dk_21 5 (dk_at dksX0_laysStays_8 14 rfl rfl)
theorem dX0_laysStays_200 : decode cX0_laysStays 200 = .ok (.invokevirtual 335, 3) := dk_182 1 79 (dk_at dksX0_laysStays_8 16 rfl rfl)
theorem dX0_laysStays_203 : decode cX0_laysStays 203 = .ok (.ladd, 1) := dk_97 (dk_at dksX0_laysStays_8 19 rfl rfl)
theorem dX0_laysStays_204 : decode cX0_laysStays 204 = .ok (.lastore, 1) := dk_80 (dk_at dksX0_laysStays_8 20 rfl rfl)
theorem dX0_laysStays_205 : decode cX0_laysStays 205 = .ok (.iinc 5 1, 3) := dk_132 5 1 (dk_at dksX0_laysStays_8 21 rfl rfl)
theorem dX0_laysStays_208 : decode cX0_laysStays 208 = .ok (.goto (-49), 3) := dk_167 255 207 (dk_at dksX0_laysStays_9 0 rfl rfl)
theorem dX0_laysStays_211 : decode cX0_laysStays 211 = .ok (.aload_n 0, 1) := dk_42 (dk_at dksX0_laysStays_9 3 rfl rfl)
theorem dX0_laysStays_212 : decode cX0_laysStays 212 = .ok (.getfield 25, 3) := dk_180 0 25 (dk_at dksX0_laysStays_9 4 rfl rfl)
theorem dX0_laysStays_215 : decode cX0_laysStays 215 = .ok (.invokevirtual 307, 3) := dk_182 1 51 (dk_at dksX0_laysStays_9 7 rfl rfl)
theorem dX0_laysStays_218 : decode cX0_laysStays 218 = .ok (.pop, 1) := dk_87 (dk_at dksX0_laysStays_9 10 rfl rfl)
theorem dX0_laysStays_219 : decode cX0_laysStays 219 = .ok (.iinc 4 1, 3) := dk_132 4 1 (dk_at dksX0_laysStays_9 11 rfl rfl)
theorem dX0_laysStays_222 : decode cX0_laysStays 222 = .ok (.goto (-116), 3) := dk_167 255 140 (dk_at dksX0_laysStays_9 14 rfl rfl)
theorem dX0_laysStays_225 : decode cX0_laysStays 225 = .ok (.return_, 1) := dk_177 (dk_at dksX0_laysStays_9 17 rfl rfl)
abbrev cX0_gain : ByteArray := prog_1_method_50_code
def yX0_gain : MethodName := ⟨RX0, "gain", "(II)J"⟩
def dkwX0_gain_3 : List UInt8 := [180, 0, 25, 28, 182, 0, 183, 133, 101, 173]
abbrev dktX0_gain_3 : List UInt8 := dkwX0_gain_3 ++ []
def dkwX0_gain_2 : List UInt8 := [167, 0, 4, 3, 28, 42, 180, 0, 25, 180, 0, 253, 42, 180, 0, 25, 180, 1, 0, 182, 1, 70, 133, 42]
abbrev dktX0_gain_2 : List UInt8 := dkwX0_gain_2 ++ dktX0_gain_3
def dkwX0_gain_1 : List UInt8 := [180, 0, 21, 180, 0, 167, 27, 46, 42, 180, 0, 21, 180, 0, 173, 27, 46, 28, 160, 0, 7, 4]
abbrev dktX0_gain_1 : List UInt8 := dkwX0_gain_1 ++ dktX0_gain_2
def dkwX0_gain_0 : List UInt8 := [28, 16, 8, 160, 0, 7, 9, 167, 0, 72, 42, 180, 0, 12, 42, 180, 0, 12, 180, 0, 170, 27, 46, 42]
abbrev dktX0_gain_0 : List UInt8 := dkwX0_gain_0 ++ dktX0_gain_1
theorem dksX0_gain_0 : cX0_gain.data.toList.drop 0 = dktX0_gain_0 := by decide +kernel
theorem dksX0_gain_1 : cX0_gain.data.toList.drop 24 = dktX0_gain_1 := dk_seg dksX0_gain_0 24 rfl rfl
theorem dksX0_gain_2 : cX0_gain.data.toList.drop 46 = dktX0_gain_2 := dk_seg dksX0_gain_1 22 rfl rfl
theorem dksX0_gain_3 : cX0_gain.data.toList.drop 70 = dktX0_gain_3 := dk_seg dksX0_gain_2 24 rfl rfl
theorem dX0_gain_0 : decode cX0_gain 0 = .ok (.iload_n 2, 1) := dk_28 (dk_at dksX0_gain_0 0 rfl rfl)
theorem dX0_gain_1 : decode cX0_gain 1 = .ok (.bipush 8, 2) := dk_16 8 (dk_at dksX0_gain_0 1 rfl rfl)
theorem dX0_gain_3 : decode cX0_gain 3 = .ok (.if_icmp .ne 7, 3) := dk_160 0 7 (dk_at dksX0_gain_0 3 rfl rfl)
theorem dX0_gain_6 : decode cX0_gain 6 = .ok (.lconst 0, 1) := dk_9 (dk_at dksX0_gain_0 6 rfl rfl)
theorem dX0_gain_7 : decode cX0_gain 7 = .ok (.goto 72, 3) := dk_167 0 72 (dk_at dksX0_gain_0 7 rfl rfl)
theorem dX0_gain_10 : decode cX0_gain 10 = .ok (.aload_n 0, 1) := dk_42 (dk_at dksX0_gain_0 10 rfl rfl)
theorem dX0_gain_11 : decode cX0_gain 11 = .ok (.getfield 12, 3) := dk_180 0 12 (dk_at dksX0_gain_0 11 rfl rfl)
theorem dX0_gain_14 : decode cX0_gain 14 = .ok (.aload_n 0, 1) := dk_42 (dk_at dksX0_gain_0 14 rfl rfl)
theorem dX0_gain_15 : decode cX0_gain 15 = .ok (.getfield 12, 3) := dk_180 0 12 (dk_at dksX0_gain_0 15 rfl rfl)
theorem dX0_gain_18 : decode cX0_gain 18 = .ok (.getfield 170, 3) := dk_180 0 170 (dk_at dksX0_gain_0 18 rfl rfl)
theorem dX0_gain_21 : decode cX0_gain 21 = .ok (.iload_n 1, 1) := dk_27 (dk_at dksX0_gain_0 21 rfl rfl)
theorem dX0_gain_22 : decode cX0_gain 22 = .ok (.iaload, 1) := dk_46 (dk_at dksX0_gain_0 22 rfl rfl)
theorem dX0_gain_23 : decode cX0_gain 23 = .ok (.aload_n 0, 1) := dk_42 (dk_at dksX0_gain_0 23 rfl rfl)
theorem dX0_gain_24 : decode cX0_gain 24 = .ok (.getfield 21, 3) := dk_180 0 21 (dk_at dksX0_gain_1 0 rfl rfl)
theorem dX0_gain_27 : decode cX0_gain 27 = .ok (.getfield 167, 3) := dk_180 0 167 (dk_at dksX0_gain_1 3 rfl rfl)
theorem dX0_gain_30 : decode cX0_gain 30 = .ok (.iload_n 1, 1) := dk_27 (dk_at dksX0_gain_1 6 rfl rfl)
theorem dX0_gain_31 : decode cX0_gain 31 = .ok (.iaload, 1) := dk_46 (dk_at dksX0_gain_1 7 rfl rfl)
theorem dX0_gain_32 : decode cX0_gain 32 = .ok (.aload_n 0, 1) := dk_42 (dk_at dksX0_gain_1 8 rfl rfl)
theorem dX0_gain_33 : decode cX0_gain 33 = .ok (.getfield 21, 3) := dk_180 0 21 (dk_at dksX0_gain_1 9 rfl rfl)
theorem dX0_gain_36 : decode cX0_gain 36 = .ok (.getfield 173, 3) := dk_180 0 173 (dk_at dksX0_gain_1 12 rfl rfl)
theorem dX0_gain_39 : decode cX0_gain 39 = .ok (.iload_n 1, 1) := dk_27 (dk_at dksX0_gain_1 15 rfl rfl)
theorem dX0_gain_40 : decode cX0_gain 40 = .ok (.iaload, 1) := dk_46 (dk_at dksX0_gain_1 16 rfl rfl)
theorem dX0_gain_41 : decode cX0_gain 41 = .ok (.iload_n 2, 1) := dk_28 (dk_at dksX0_gain_1 17 rfl rfl)
theorem dX0_gain_42 : decode cX0_gain 42 = .ok (.if_icmp .ne 7, 3) := dk_160 0 7 (dk_at dksX0_gain_1 18 rfl rfl)
theorem dX0_gain_45 : decode cX0_gain 45 = .ok (.iconst 1, 1) := dk_4 (dk_at dksX0_gain_1 21 rfl rfl)
theorem dX0_gain_46 : decode cX0_gain 46 = .ok (.goto 4, 3) := dk_167 0 4 (dk_at dksX0_gain_2 0 rfl rfl)
theorem dX0_gain_49 : decode cX0_gain 49 = .ok (.iconst 0, 1) := dk_3 (dk_at dksX0_gain_2 3 rfl rfl)
theorem dX0_gain_50 : decode cX0_gain 50 = .ok (.iload_n 2, 1) := dk_28 (dk_at dksX0_gain_2 4 rfl rfl)
theorem dX0_gain_51 : decode cX0_gain 51 = .ok (.aload_n 0, 1) := dk_42 (dk_at dksX0_gain_2 5 rfl rfl)
theorem dX0_gain_52 : decode cX0_gain 52 = .ok (.getfield 25, 3) := dk_180 0 25 (dk_at dksX0_gain_2 6 rfl rfl)
theorem dX0_gain_55 : decode cX0_gain 55 = .ok (.getfield 253, 3) := dk_180 0 253 (dk_at dksX0_gain_2 9 rfl rfl)
theorem dX0_gain_58 : decode cX0_gain 58 = .ok (.aload_n 0, 1) := dk_42 (dk_at dksX0_gain_2 12 rfl rfl)
theorem dX0_gain_59 : decode cX0_gain 59 = .ok (.getfield 25, 3) := dk_180 0 25 (dk_at dksX0_gain_2 13 rfl rfl)
theorem dX0_gain_62 : decode cX0_gain 62 = .ok (.getfield 256, 3) := dk_180 1 0 (dk_at dksX0_gain_2 16 rfl rfl)
theorem dX0_gain_65 : decode cX0_gain 65 = .ok (.invokevirtual 326, 3) := dk_182 1 70 (dk_at dksX0_gain_2 19 rfl rfl)
theorem dX0_gain_68 : decode cX0_gain 68 = .ok (.i2l, 1) := dk_133 (dk_at dksX0_gain_2 22 rfl rfl)
theorem dX0_gain_69 : decode cX0_gain 69 = .ok (.aload_n 0, 1) := dk_42 (dk_at dksX0_gain_2 23 rfl rfl)
theorem dX0_gain_70 : decode cX0_gain 70 = .ok (.getfield 25, 3) := dk_180 0 25 (dk_at dksX0_gain_3 0 rfl rfl)
theorem dX0_gain_73 : decode cX0_gain 73 = .ok (.iload_n 2, 1) := dk_28 (dk_at dksX0_gain_3 3 rfl rfl)
theorem dX0_gain_74 : decode cX0_gain 74 = .ok (.invokevirtual 183, 3) := dk_182 0 183 (dk_at dksX0_gain_3 4 rfl rfl)
theorem dX0_gain_77 : decode cX0_gain 77 = .ok (.i2l, 1) := dk_133 (dk_at dksX0_gain_3 7 rfl rfl)
theorem dX0_gain_78 : decode cX0_gain 78 = .ok (.lsub, 1) := dk_101 (dk_at dksX0_gain_3 8 rfl rfl)
theorem dX0_gain_79 : decode cX0_gain 79 = .ok (.lreturn, 1) := dk_173 (dk_at dksX0_gain_3 9 rfl rfl)
abbrev cX0_mostFrom : ByteArray := prog_1_method_55_code
def yX0_mostFrom : MethodName := ⟨RX0, "mostFrom", "(II)J"⟩
def dkwX0_mostFrom_2 : List UInt8 := [167, 255, 218, 33, 173]
abbrev dktX0_mostFrom_2 : List UInt8 := dkwX0_mostFrom_2 ++ []
def dkwX0_mostFrom_1 : List UInt8 := [20, 1, 86, 148, 158, 0, 16, 33, 42, 27, 28, 21, 5, 182, 1, 106, 184, 1, 109, 66, 132, 5, 1]
abbrev dktX0_mostFrom_1 : List UInt8 := dkwX0_mostFrom_1 ++ dktX0_mostFrom_2
def dkwX0_mostFrom_0 : List UInt8 := [20, 1, 86, 66, 3, 54, 5, 21, 5, 16, 9, 162, 0, 37, 42, 27, 28, 21, 5, 182, 1, 102]
abbrev dktX0_mostFrom_0 : List UInt8 := dkwX0_mostFrom_0 ++ dktX0_mostFrom_1
theorem dksX0_mostFrom_0 : cX0_mostFrom.data.toList.drop 0 = dktX0_mostFrom_0 := by decide +kernel
theorem dksX0_mostFrom_1 : cX0_mostFrom.data.toList.drop 22 = dktX0_mostFrom_1 := dk_seg dksX0_mostFrom_0 22 rfl rfl
theorem dksX0_mostFrom_2 : cX0_mostFrom.data.toList.drop 45 = dktX0_mostFrom_2 := dk_seg dksX0_mostFrom_1 23 rfl rfl
theorem dX0_mostFrom_0 : decode cX0_mostFrom 0 = .ok (.ldc2_w 342, 3) := dk_20 1 86 (dk_at dksX0_mostFrom_0 0 rfl rfl)
theorem dX0_mostFrom_3 : decode cX0_mostFrom 3 = .ok (.lstore_n 3, 1) := dk_66 (dk_at dksX0_mostFrom_0 3 rfl rfl)
theorem dX0_mostFrom_4 : decode cX0_mostFrom 4 = .ok (.iconst 0, 1) := dk_3 (dk_at dksX0_mostFrom_0 4 rfl rfl)
theorem dX0_mostFrom_5 : decode cX0_mostFrom 5 = .ok (.istore 5, 2) := dk_54 5 (dk_at dksX0_mostFrom_0 5 rfl rfl)
theorem dX0_mostFrom_7 : decode cX0_mostFrom 7 = .ok (.iload 5, 2) := dk_21 5 (dk_at dksX0_mostFrom_0 7 rfl rfl)
theorem dX0_mostFrom_9 : decode cX0_mostFrom 9 = .ok (.bipush 9, 2) := dk_16 9 (dk_at dksX0_mostFrom_0 9 rfl rfl)
theorem dX0_mostFrom_11 : decode cX0_mostFrom 11 = .ok (.if_icmp .ge 37, 3) := dk_162 0 37 (dk_at dksX0_mostFrom_0 11 rfl rfl)
theorem dX0_mostFrom_14 : decode cX0_mostFrom 14 = .ok (.aload_n 0, 1) := dk_42 (dk_at dksX0_mostFrom_0 14 rfl rfl)
theorem dX0_mostFrom_15 : decode cX0_mostFrom 15 = .ok (.iload_n 1, 1) := dk_27 (dk_at dksX0_mostFrom_0 15 rfl rfl)
theorem dX0_mostFrom_16 : decode cX0_mostFrom 16 = .ok (.iload_n 2, 1) := dk_28 (dk_at dksX0_mostFrom_0 16 rfl rfl)
theorem dX0_mostFrom_17 : decode cX0_mostFrom 17 = .ok (.iload 5, 2) := dk_21 5 (dk_at dksX0_mostFrom_0 17 rfl rfl)
theorem dX0_mostFrom_19 : decode cX0_mostFrom 19 = .ok (.invokevirtual 358, 3) := dk_182 1 102 (dk_at dksX0_mostFrom_0 19 rfl rfl)
theorem dX0_mostFrom_22 : decode cX0_mostFrom 22 = .ok (.ldc2_w 342, 3) := dk_20 1 86 (dk_at dksX0_mostFrom_1 0 rfl rfl)
theorem dX0_mostFrom_25 : decode cX0_mostFrom 25 = .ok (.lcmp, 1) := dk_148 (dk_at dksX0_mostFrom_1 3 rfl rfl)
theorem dX0_mostFrom_26 : decode cX0_mostFrom 26 = .ok (.ifCond .le 16, 3) := dk_158 0 16 (dk_at dksX0_mostFrom_1 4 rfl rfl)
theorem dX0_mostFrom_29 : decode cX0_mostFrom 29 = .ok (.lload_n 3, 1) := dk_33 (dk_at dksX0_mostFrom_1 7 rfl rfl)
theorem dX0_mostFrom_30 : decode cX0_mostFrom 30 = .ok (.aload_n 0, 1) := dk_42 (dk_at dksX0_mostFrom_1 8 rfl rfl)
theorem dX0_mostFrom_31 : decode cX0_mostFrom 31 = .ok (.iload_n 1, 1) := dk_27 (dk_at dksX0_mostFrom_1 9 rfl rfl)
theorem dX0_mostFrom_32 : decode cX0_mostFrom 32 = .ok (.iload_n 2, 1) := dk_28 (dk_at dksX0_mostFrom_1 10 rfl rfl)
theorem dX0_mostFrom_33 : decode cX0_mostFrom 33 = .ok (.iload 5, 2) := dk_21 5 (dk_at dksX0_mostFrom_1 11 rfl rfl)
theorem dX0_mostFrom_35 : decode cX0_mostFrom 35 = .ok (.invokevirtual 362, 3) := dk_182 1 106 (dk_at dksX0_mostFrom_1 13 rfl rfl)
theorem dX0_mostFrom_38 : decode cX0_mostFrom 38 = .ok (.invokestatic 365, 3) := dk_184 1 109 (dk_at dksX0_mostFrom_1 16 rfl rfl)
theorem dX0_mostFrom_41 : decode cX0_mostFrom 41 = .ok (.lstore_n 3, 1) := dk_66 (dk_at dksX0_mostFrom_1 19 rfl rfl)
theorem dX0_mostFrom_42 : decode cX0_mostFrom 42 = .ok (.iinc 5 1, 3) := dk_132 5 1 (dk_at dksX0_mostFrom_1 20 rfl rfl)
theorem dX0_mostFrom_45 : decode cX0_mostFrom 45 = .ok (.goto (-38), 3) := dk_167 255 218 (dk_at dksX0_mostFrom_2 0 rfl rfl)
theorem dX0_mostFrom_48 : decode cX0_mostFrom 48 = .ok (.lload_n 3, 1) := dk_33 (dk_at dksX0_mostFrom_2 3 rfl rfl)
theorem dX0_mostFrom_49 : decode cX0_mostFrom 49 = .ok (.lreturn, 1) := dk_173 (dk_at dksX0_mostFrom_2 4 rfl rfl)
abbrev cX0_moving : ByteArray := prog_1_method_52_code
def yX0_moving : MethodName := ⟨RX0, "moving", "(III)J"⟩
def dkwX0_moving_1 : List UInt8 := [184, 1, 15, 153, 0, 15, 42, 180, 0, 12, 180, 1, 83, 116, 133, 167, 0, 6, 20, 1, 86, 173]
abbrev dktX0_moving_1 : List UInt8 := dkwX0_moving_1 ++ []
def dkwX0_moving_0 : List UInt8 := [28, 29, 160, 0, 7, 9, 167, 0, 37, 29, 16, 8, 162, 0, 28, 42, 180, 0, 54, 27, 46, 29]
abbrev dktX0_moving_0 : List UInt8 := dkwX0_moving_0 ++ dktX0_moving_1
theorem dksX0_moving_0 : cX0_moving.data.toList.drop 0 = dktX0_moving_0 := by decide +kernel
theorem dksX0_moving_1 : cX0_moving.data.toList.drop 22 = dktX0_moving_1 := dk_seg dksX0_moving_0 22 rfl rfl
theorem dX0_moving_0 : decode cX0_moving 0 = .ok (.iload_n 2, 1) := dk_28 (dk_at dksX0_moving_0 0 rfl rfl)
theorem dX0_moving_1 : decode cX0_moving 1 = .ok (.iload_n 3, 1) := dk_29 (dk_at dksX0_moving_0 1 rfl rfl)
theorem dX0_moving_2 : decode cX0_moving 2 = .ok (.if_icmp .ne 7, 3) := dk_160 0 7 (dk_at dksX0_moving_0 2 rfl rfl)
theorem dX0_moving_5 : decode cX0_moving 5 = .ok (.lconst 0, 1) := dk_9 (dk_at dksX0_moving_0 5 rfl rfl)
theorem dX0_moving_6 : decode cX0_moving 6 = .ok (.goto 37, 3) := dk_167 0 37 (dk_at dksX0_moving_0 6 rfl rfl)
theorem dX0_moving_9 : decode cX0_moving 9 = .ok (.iload_n 3, 1) := dk_29 (dk_at dksX0_moving_0 9 rfl rfl)
theorem dX0_moving_10 : decode cX0_moving 10 = .ok (.bipush 8, 2) := dk_16 8 (dk_at dksX0_moving_0 10 rfl rfl)
theorem dX0_moving_12 : decode cX0_moving 12 = .ok (.if_icmp .ge 28, 3) := dk_162 0 28 (dk_at dksX0_moving_0 12 rfl rfl)
theorem dX0_moving_15 : decode cX0_moving 15 = .ok (.aload_n 0, 1) := dk_42 (dk_at dksX0_moving_0 15 rfl rfl)
theorem dX0_moving_16 : decode cX0_moving 16 = .ok (.getfield 54, 3) := dk_180 0 54 (dk_at dksX0_moving_0 16 rfl rfl)
theorem dX0_moving_19 : decode cX0_moving 19 = .ok (.iload_n 1, 1) := dk_27 (dk_at dksX0_moving_0 19 rfl rfl)
theorem dX0_moving_20 : decode cX0_moving 20 = .ok (.iaload, 1) := dk_46 (dk_at dksX0_moving_0 20 rfl rfl)
theorem dX0_moving_21 : decode cX0_moving 21 = .ok (.iload_n 3, 1) := dk_29 (dk_at dksX0_moving_0 21 rfl rfl)
theorem dX0_moving_22 : decode cX0_moving 22 = .ok (.invokestatic 271, 3) := dk_184 1 15 (dk_at dksX0_moving_1 0 rfl rfl)
theorem dX0_moving_25 : decode cX0_moving 25 = .ok (.ifCond .eq 15, 3) := dk_153 0 15 (dk_at dksX0_moving_1 3 rfl rfl)
theorem dX0_moving_28 : decode cX0_moving 28 = .ok (.aload_n 0, 1) := dk_42 (dk_at dksX0_moving_1 6 rfl rfl)
theorem dX0_moving_29 : decode cX0_moving 29 = .ok (.getfield 12, 3) := dk_180 0 12 (dk_at dksX0_moving_1 7 rfl rfl)
theorem dX0_moving_32 : decode cX0_moving 32 = .ok (.getfield 339, 3) := dk_180 1 83 (dk_at dksX0_moving_1 10 rfl rfl)
theorem dX0_moving_35 : decode cX0_moving 35 = .ok (.ineg, 1) := dk_116 (dk_at dksX0_moving_1 13 rfl rfl)
theorem dX0_moving_36 : decode cX0_moving 36 = .ok (.i2l, 1) := dk_133 (dk_at dksX0_moving_1 14 rfl rfl)
theorem dX0_moving_37 : decode cX0_moving 37 = .ok (.goto 6, 3) := dk_167 0 6 (dk_at dksX0_moving_1 15 rfl rfl)
theorem dX0_moving_40 : decode cX0_moving 40 = .ok (.ldc2_w 342, 3) := dk_20 1 86 (dk_at dksX0_moving_1 18 rfl rfl)
theorem dX0_moving_43 : decode cX0_moving 43 = .ok (.lreturn, 1) := dk_173 (dk_at dksX0_moving_1 21 rfl rfl)
abbrev cX0_through : ByteArray := prog_1_method_54_code
def yX0_through : MethodName := ⟨RX0, "through", "(III)J"⟩
def dkwX0_through_1 : List UInt8 := [180, 0, 51, 16, 9, 27, 4, 96, 104, 29, 96, 47, 97, 173]
abbrev dktX0_through_1 : List UInt8 := dkwX0_through_1 ++ []
def dkwX0_through_0 : List UInt8 := [42, 27, 28, 29, 182, 1, 102, 42, 180, 0, 47, 16, 9, 27, 4, 96, 104, 29, 96, 47, 97, 42]
abbrev dktX0_through_0 : List UInt8 := dkwX0_through_0 ++ dktX0_through_1
theorem dksX0_through_0 : cX0_through.data.toList.drop 0 = dktX0_through_0 := by decide +kernel
theorem dksX0_through_1 : cX0_through.data.toList.drop 22 = dktX0_through_1 := dk_seg dksX0_through_0 22 rfl rfl
theorem dX0_through_0 : decode cX0_through 0 = .ok (.aload_n 0, 1) := dk_42 (dk_at dksX0_through_0 0 rfl rfl)
theorem dX0_through_1 : decode cX0_through 1 = .ok (.iload_n 1, 1) := dk_27 (dk_at dksX0_through_0 1 rfl rfl)
theorem dX0_through_2 : decode cX0_through 2 = .ok (.iload_n 2, 1) := dk_28 (dk_at dksX0_through_0 2 rfl rfl)
theorem dX0_through_3 : decode cX0_through 3 = .ok (.iload_n 3, 1) := dk_29 (dk_at dksX0_through_0 3 rfl rfl)
theorem dX0_through_4 : decode cX0_through 4 = .ok (.invokevirtual 358, 3) := dk_182 1 102 (dk_at dksX0_through_0 4 rfl rfl)
theorem dX0_through_7 : decode cX0_through 7 = .ok (.aload_n 0, 1) := dk_42 (dk_at dksX0_through_0 7 rfl rfl)
theorem dX0_through_8 : decode cX0_through 8 = .ok (.getfield 47, 3) := dk_180 0 47 (dk_at dksX0_through_0 8 rfl rfl)
theorem dX0_through_11 : decode cX0_through 11 = .ok (.bipush 9, 2) := dk_16 9 (dk_at dksX0_through_0 11 rfl rfl)
theorem dX0_through_13 : decode cX0_through 13 = .ok (.iload_n 1, 1) := dk_27 (dk_at dksX0_through_0 13 rfl rfl)
theorem dX0_through_14 : decode cX0_through 14 = .ok (.iconst 1, 1) := dk_4 (dk_at dksX0_through_0 14 rfl rfl)
theorem dX0_through_15 : decode cX0_through 15 = .ok (.iadd, 1) := dk_96 (dk_at dksX0_through_0 15 rfl rfl)
theorem dX0_through_16 : decode cX0_through 16 = .ok (.imul, 1) := dk_104 (dk_at dksX0_through_0 16 rfl rfl)
theorem dX0_through_17 : decode cX0_through 17 = .ok (.iload_n 3, 1) := dk_29 (dk_at dksX0_through_0 17 rfl rfl)
theorem dX0_through_18 : decode cX0_through 18 = .ok (.iadd, 1) := dk_96 (dk_at dksX0_through_0 18 rfl rfl)
theorem dX0_through_19 : decode cX0_through 19 = .ok (.laload, 1) := dk_47 (dk_at dksX0_through_0 19 rfl rfl)
theorem dX0_through_20 : decode cX0_through 20 = .ok (.ladd, 1) := dk_97 (dk_at dksX0_through_0 20 rfl rfl)
theorem dX0_through_21 : decode cX0_through 21 = .ok (.aload_n 0, 1) := dk_42 (dk_at dksX0_through_0 21 rfl rfl)
theorem dX0_through_22 : decode cX0_through 22 = .ok (.getfield 51, 3) := dk_180 0 51 (dk_at dksX0_through_1 0 rfl rfl)
theorem dX0_through_25 : decode cX0_through 25 = .ok (.bipush 9, 2) := dk_16 9 (dk_at dksX0_through_1 3 rfl rfl)
theorem dX0_through_27 : decode cX0_through 27 = .ok (.iload_n 1, 1) := dk_27 (dk_at dksX0_through_1 5 rfl rfl)
theorem dX0_through_28 : decode cX0_through 28 = .ok (.iconst 1, 1) := dk_4 (dk_at dksX0_through_1 6 rfl rfl)
theorem dX0_through_29 : decode cX0_through 29 = .ok (.iadd, 1) := dk_96 (dk_at dksX0_through_1 7 rfl rfl)
theorem dX0_through_30 : decode cX0_through 30 = .ok (.imul, 1) := dk_104 (dk_at dksX0_through_1 8 rfl rfl)
theorem dX0_through_31 : decode cX0_through 31 = .ok (.iload_n 3, 1) := dk_29 (dk_at dksX0_through_1 9 rfl rfl)
theorem dX0_through_32 : decode cX0_through 32 = .ok (.iadd, 1) := dk_96 (dk_at dksX0_through_1 10 rfl rfl)
theorem dX0_through_33 : decode cX0_through 33 = .ok (.laload, 1) := dk_47 (dk_at dksX0_through_1 11 rfl rfl)
theorem dX0_through_34 : decode cX0_through 34 = .ok (.ladd, 1) := dk_97 (dk_at dksX0_through_1 12 rfl rfl)
theorem dX0_through_35 : decode cX0_through 35 = .ok (.lreturn, 1) := dk_173 (dk_at dksX0_through_1 13 rfl rfl)
abbrev cX0_isFirst : ByteArray := prog_1_method_56_code
def yX0_isFirst : MethodName := ⟨RX0, "isFirst", "(III)Z"⟩
def dkwX0_isFirst_1 : List UInt8 := [180, 0, 51, 16, 9, 27, 104, 28, 96, 47, 148, 154, 0, 7, 4, 167, 0, 4, 3, 172]
abbrev dktX0_isFirst_1 : List UInt8 := dkwX0_isFirst_1 ++ []
def dkwX0_isFirst_0 : List UInt8 := [42, 27, 28, 29, 182, 1, 102, 20, 1, 86, 148, 158, 0, 29, 42, 27, 28, 29, 182, 1, 106, 42]
abbrev dktX0_isFirst_0 : List UInt8 := dkwX0_isFirst_0 ++ dktX0_isFirst_1
theorem dksX0_isFirst_0 : cX0_isFirst.data.toList.drop 0 = dktX0_isFirst_0 := by decide +kernel
theorem dksX0_isFirst_1 : cX0_isFirst.data.toList.drop 22 = dktX0_isFirst_1 := dk_seg dksX0_isFirst_0 22 rfl rfl
theorem dX0_isFirst_0 : decode cX0_isFirst 0 = .ok (.aload_n 0, 1) := dk_42 (dk_at dksX0_isFirst_0 0 rfl rfl)
theorem dX0_isFirst_1 : decode cX0_isFirst 1 = .ok (.iload_n 1, 1) := dk_27 (dk_at dksX0_isFirst_0 1 rfl rfl)
theorem dX0_isFirst_2 : decode cX0_isFirst 2 = .ok (.iload_n 2, 1) := dk_28 (dk_at dksX0_isFirst_0 2 rfl rfl)
theorem dX0_isFirst_3 : decode cX0_isFirst 3 = .ok (.iload_n 3, 1) := dk_29 (dk_at dksX0_isFirst_0 3 rfl rfl)
theorem dX0_isFirst_4 : decode cX0_isFirst 4 = .ok (.invokevirtual 358, 3) := dk_182 1 102 (dk_at dksX0_isFirst_0 4 rfl rfl)
theorem dX0_isFirst_7 : decode cX0_isFirst 7 = .ok (.ldc2_w 342, 3) := dk_20 1 86 (dk_at dksX0_isFirst_0 7 rfl rfl)
theorem dX0_isFirst_10 : decode cX0_isFirst 10 = .ok (.lcmp, 1) := dk_148 (dk_at dksX0_isFirst_0 10 rfl rfl)
theorem dX0_isFirst_11 : decode cX0_isFirst 11 = .ok (.ifCond .le 29, 3) := dk_158 0 29 (dk_at dksX0_isFirst_0 11 rfl rfl)
theorem dX0_isFirst_14 : decode cX0_isFirst 14 = .ok (.aload_n 0, 1) := dk_42 (dk_at dksX0_isFirst_0 14 rfl rfl)
theorem dX0_isFirst_15 : decode cX0_isFirst 15 = .ok (.iload_n 1, 1) := dk_27 (dk_at dksX0_isFirst_0 15 rfl rfl)
theorem dX0_isFirst_16 : decode cX0_isFirst 16 = .ok (.iload_n 2, 1) := dk_28 (dk_at dksX0_isFirst_0 16 rfl rfl)
theorem dX0_isFirst_17 : decode cX0_isFirst 17 = .ok (.iload_n 3, 1) := dk_29 (dk_at dksX0_isFirst_0 17 rfl rfl)
theorem dX0_isFirst_18 : decode cX0_isFirst 18 = .ok (.invokevirtual 362, 3) := dk_182 1 106 (dk_at dksX0_isFirst_0 18 rfl rfl)
theorem dX0_isFirst_21 : decode cX0_isFirst 21 = .ok (.aload_n 0, 1) := dk_42 (dk_at dksX0_isFirst_0 21 rfl rfl)
theorem dX0_isFirst_22 : decode cX0_isFirst 22 = .ok (.getfield 51, 3) := dk_180 0 51 (dk_at dksX0_isFirst_1 0 rfl rfl)
theorem dX0_isFirst_25 : decode cX0_isFirst 25 = .ok (.bipush 9, 2) := dk_16 9 (dk_at dksX0_isFirst_1 3 rfl rfl)
theorem dX0_isFirst_27 : decode cX0_isFirst 27 = .ok (.iload_n 1, 1) := dk_27 (dk_at dksX0_isFirst_1 5 rfl rfl)
theorem dX0_isFirst_28 : decode cX0_isFirst 28 = .ok (.imul, 1) := dk_104 (dk_at dksX0_isFirst_1 6 rfl rfl)
theorem dX0_isFirst_29 : decode cX0_isFirst 29 = .ok (.iload_n 2, 1) := dk_28 (dk_at dksX0_isFirst_1 7 rfl rfl)
theorem dX0_isFirst_30 : decode cX0_isFirst 30 = .ok (.iadd, 1) := dk_96 (dk_at dksX0_isFirst_1 8 rfl rfl)
theorem dX0_isFirst_31 : decode cX0_isFirst 31 = .ok (.laload, 1) := dk_47 (dk_at dksX0_isFirst_1 9 rfl rfl)
theorem dX0_isFirst_32 : decode cX0_isFirst 32 = .ok (.lcmp, 1) := dk_148 (dk_at dksX0_isFirst_1 10 rfl rfl)
theorem dX0_isFirst_33 : decode cX0_isFirst 33 = .ok (.ifCond .ne 7, 3) := dk_154 0 7 (dk_at dksX0_isFirst_1 11 rfl rfl)
theorem dX0_isFirst_36 : decode cX0_isFirst 36 = .ok (.iconst 1, 1) := dk_4 (dk_at dksX0_isFirst_1 14 rfl rfl)
theorem dX0_isFirst_37 : decode cX0_isFirst 37 = .ok (.goto 4, 3) := dk_167 0 4 (dk_at dksX0_isFirst_1 15 rfl rfl)
theorem dX0_isFirst_40 : decode cX0_isFirst 40 = .ok (.iconst 0, 1) := dk_3 (dk_at dksX0_isFirst_1 18 rfl rfl)
theorem dX0_isFirst_41 : decode cX0_isFirst 41 = .ok (.ireturn, 1) := dk_172 (dk_at dksX0_isFirst_1 19 rfl rfl)
abbrev cX0_goesTo : ByteArray := prog_1_method_58_code
def yX0_goesTo : MethodName := ⟨RX0, "goesTo", "(III)I"⟩
def dkwX0_goesTo_2 : List UInt8 := [16, 8, 162, 0, 12, 42, 180, 0, 57, 29, 46, 167, 0, 4, 2, 172]
abbrev dktX0_goesTo_2 : List UInt8 := dkwX0_goesTo_2 ++ []
def dkwX0_goesTo_1 : List UInt8 := [156, 0, 6, 16, 253, 172, 42, 27, 28, 182, 1, 117, 88, 29, 28, 162, 0, 23, 42, 180, 0, 57, 29, 46]
abbrev dktX0_goesTo_1 : List UInt8 := dkwX0_goesTo_1 ++ dktX0_goesTo_2
def dkwX0_goesTo_0 : List UInt8 := [42, 27, 182, 0, 164, 154, 0, 6, 16, 254, 172, 28, 133, 10, 20, 1, 115, 184, 0, 108, 153, 0, 7, 29]
abbrev dktX0_goesTo_0 : List UInt8 := dkwX0_goesTo_0 ++ dktX0_goesTo_1
theorem dksX0_goesTo_0 : cX0_goesTo.data.toList.drop 0 = dktX0_goesTo_0 := by decide +kernel
theorem dksX0_goesTo_1 : cX0_goesTo.data.toList.drop 24 = dktX0_goesTo_1 := dk_seg dksX0_goesTo_0 24 rfl rfl
theorem dksX0_goesTo_2 : cX0_goesTo.data.toList.drop 48 = dktX0_goesTo_2 := dk_seg dksX0_goesTo_1 24 rfl rfl
theorem dX0_goesTo_0 : decode cX0_goesTo 0 = .ok (.aload_n 0, 1) := dk_42 (dk_at dksX0_goesTo_0 0 rfl rfl)
theorem dX0_goesTo_1 : decode cX0_goesTo 1 = .ok (.iload_n 1, 1) := dk_27 (dk_at dksX0_goesTo_0 1 rfl rfl)
theorem dX0_goesTo_2 : decode cX0_goesTo 2 = .ok (.invokevirtual 164, 3) := dk_182 0 164 (dk_at dksX0_goesTo_0 2 rfl rfl)
theorem dX0_goesTo_5 : decode cX0_goesTo 5 = .ok (.ifCond .ne 6, 3) := dk_154 0 6 (dk_at dksX0_goesTo_0 5 rfl rfl)
theorem dX0_goesTo_8 : decode cX0_goesTo 8 = .ok (.bipush (-2), 2) := dk_16 254 (dk_at dksX0_goesTo_0 8 rfl rfl)
theorem dX0_goesTo_10 : decode cX0_goesTo 10 = .ok (.ireturn, 1) := dk_172 (dk_at dksX0_goesTo_0 10 rfl rfl)
theorem dX0_goesTo_11 : decode cX0_goesTo 11 = .ok (.iload_n 2, 1) := dk_28 (dk_at dksX0_goesTo_0 11 rfl rfl)
theorem dX0_goesTo_12 : decode cX0_goesTo 12 = .ok (.i2l, 1) := dk_133 (dk_at dksX0_goesTo_0 12 rfl rfl)
theorem dX0_goesTo_13 : decode cX0_goesTo 13 = .ok (.lconst 1, 1) := dk_10 (dk_at dksX0_goesTo_0 13 rfl rfl)
theorem dX0_goesTo_14 : decode cX0_goesTo 14 = .ok (.ldc2_w 371, 3) := dk_20 1 115 (dk_at dksX0_goesTo_0 14 rfl rfl)
theorem dX0_goesTo_17 : decode cX0_goesTo 17 = .ok (.invokestatic 108, 3) := dk_184 0 108 (dk_at dksX0_goesTo_0 17 rfl rfl)
theorem dX0_goesTo_20 : decode cX0_goesTo 20 = .ok (.ifCond .eq 7, 3) := dk_153 0 7 (dk_at dksX0_goesTo_0 20 rfl rfl)
theorem dX0_goesTo_23 : decode cX0_goesTo 23 = .ok (.iload_n 3, 1) := dk_29 (dk_at dksX0_goesTo_0 23 rfl rfl)
theorem dX0_goesTo_24 : decode cX0_goesTo 24 = .ok (.ifCond .ge 6, 3) := dk_156 0 6 (dk_at dksX0_goesTo_1 0 rfl rfl)
theorem dX0_goesTo_27 : decode cX0_goesTo 27 = .ok (.bipush (-3), 2) := dk_16 253 (dk_at dksX0_goesTo_1 3 rfl rfl)
theorem dX0_goesTo_29 : decode cX0_goesTo 29 = .ok (.ireturn, 1) := dk_172 (dk_at dksX0_goesTo_1 5 rfl rfl)
theorem dX0_goesTo_30 : decode cX0_goesTo 30 = .ok (.aload_n 0, 1) := dk_42 (dk_at dksX0_goesTo_1 6 rfl rfl)
theorem dX0_goesTo_31 : decode cX0_goesTo 31 = .ok (.iload_n 1, 1) := dk_27 (dk_at dksX0_goesTo_1 7 rfl rfl)
theorem dX0_goesTo_32 : decode cX0_goesTo 32 = .ok (.iload_n 2, 1) := dk_28 (dk_at dksX0_goesTo_1 8 rfl rfl)
theorem dX0_goesTo_33 : decode cX0_goesTo 33 = .ok (.invokevirtual 373, 3) := dk_182 1 117 (dk_at dksX0_goesTo_1 9 rfl rfl)
theorem dX0_goesTo_36 : decode cX0_goesTo 36 = .ok (.pop2, 1) := dk_88 (dk_at dksX0_goesTo_1 12 rfl rfl)
theorem dX0_goesTo_37 : decode cX0_goesTo 37 = .ok (.iload_n 3, 1) := dk_29 (dk_at dksX0_goesTo_1 13 rfl rfl)
theorem dX0_goesTo_38 : decode cX0_goesTo 38 = .ok (.iload_n 2, 1) := dk_28 (dk_at dksX0_goesTo_1 14 rfl rfl)
theorem dX0_goesTo_39 : decode cX0_goesTo 39 = .ok (.if_icmp .ge 23, 3) := dk_162 0 23 (dk_at dksX0_goesTo_1 15 rfl rfl)
theorem dX0_goesTo_42 : decode cX0_goesTo 42 = .ok (.aload_n 0, 1) := dk_42 (dk_at dksX0_goesTo_1 18 rfl rfl)
theorem dX0_goesTo_43 : decode cX0_goesTo 43 = .ok (.getfield 57, 3) := dk_180 0 57 (dk_at dksX0_goesTo_1 19 rfl rfl)
theorem dX0_goesTo_46 : decode cX0_goesTo 46 = .ok (.iload_n 3, 1) := dk_29 (dk_at dksX0_goesTo_1 22 rfl rfl)
theorem dX0_goesTo_47 : decode cX0_goesTo 47 = .ok (.iaload, 1) := dk_46 (dk_at dksX0_goesTo_1 23 rfl rfl)
theorem dX0_goesTo_48 : decode cX0_goesTo 48 = .ok (.bipush 8, 2) := dk_16 8 (dk_at dksX0_goesTo_2 0 rfl rfl)
theorem dX0_goesTo_50 : decode cX0_goesTo 50 = .ok (.if_icmp .ge 12, 3) := dk_162 0 12 (dk_at dksX0_goesTo_2 2 rfl rfl)
theorem dX0_goesTo_53 : decode cX0_goesTo 53 = .ok (.aload_n 0, 1) := dk_42 (dk_at dksX0_goesTo_2 5 rfl rfl)
theorem dX0_goesTo_54 : decode cX0_goesTo 54 = .ok (.getfield 57, 3) := dk_180 0 57 (dk_at dksX0_goesTo_2 6 rfl rfl)
theorem dX0_goesTo_57 : decode cX0_goesTo 57 = .ok (.iload_n 3, 1) := dk_29 (dk_at dksX0_goesTo_2 9 rfl rfl)
theorem dX0_goesTo_58 : decode cX0_goesTo 58 = .ok (.iaload, 1) := dk_46 (dk_at dksX0_goesTo_2 10 rfl rfl)
theorem dX0_goesTo_59 : decode cX0_goesTo 59 = .ok (.goto 4, 3) := dk_167 0 4 (dk_at dksX0_goesTo_2 11 rfl rfl)
theorem dX0_goesTo_62 : decode cX0_goesTo 62 = .ok (.iconst (-1), 1) := dk_2 (dk_at dksX0_goesTo_2 14 rfl rfl)
theorem dX0_goesTo_63 : decode cX0_goesTo 63 = .ok (.ireturn, 1) := dk_172 (dk_at dksX0_goesTo_2 15 rfl rfl)
abbrev cX0_movesMany : ByteArray := prog_1_method_59_code
def yX0_movesMany : MethodName := ⟨RX0, "movesMany", "(II)I"⟩
def dkwX0_movesMany_1 : List UInt8 := [16, 253, 172, 42, 27, 28, 182, 1, 117, 88, 42, 180, 1, 95, 172]
abbrev dktX0_movesMany_1 : List UInt8 := dkwX0_movesMany_1 ++ []
def dkwX0_movesMany_0 : List UInt8 := [42, 27, 182, 0, 164, 154, 0, 6, 16, 254, 172, 28, 133, 10, 20, 1, 115, 184, 0, 108, 154, 0, 6]
abbrev dktX0_movesMany_0 : List UInt8 := dkwX0_movesMany_0 ++ dktX0_movesMany_1
theorem dksX0_movesMany_0 : cX0_movesMany.data.toList.drop 0 = dktX0_movesMany_0 := by decide +kernel
theorem dksX0_movesMany_1 : cX0_movesMany.data.toList.drop 23 = dktX0_movesMany_1 := dk_seg dksX0_movesMany_0 23 rfl rfl
theorem dX0_movesMany_0 : decode cX0_movesMany 0 = .ok (.aload_n 0, 1) := dk_42 (dk_at dksX0_movesMany_0 0 rfl rfl)
theorem dX0_movesMany_1 : decode cX0_movesMany 1 = .ok (.iload_n 1, 1) := dk_27 (dk_at dksX0_movesMany_0 1 rfl rfl)
theorem dX0_movesMany_2 : decode cX0_movesMany 2 = .ok (.invokevirtual 164, 3) := dk_182 0 164 (dk_at dksX0_movesMany_0 2 rfl rfl)
theorem dX0_movesMany_5 : decode cX0_movesMany 5 = .ok (.ifCond .ne 6, 3) := dk_154 0 6 (dk_at dksX0_movesMany_0 5 rfl rfl)
theorem dX0_movesMany_8 : decode cX0_movesMany 8 = .ok (.bipush (-2), 2) := dk_16 254 (dk_at dksX0_movesMany_0 8 rfl rfl)
theorem dX0_movesMany_10 : decode cX0_movesMany 10 = .ok (.ireturn, 1) := dk_172 (dk_at dksX0_movesMany_0 10 rfl rfl)
theorem dX0_movesMany_11 : decode cX0_movesMany 11 = .ok (.iload_n 2, 1) := dk_28 (dk_at dksX0_movesMany_0 11 rfl rfl)
theorem dX0_movesMany_12 : decode cX0_movesMany 12 = .ok (.i2l, 1) := dk_133 (dk_at dksX0_movesMany_0 12 rfl rfl)
theorem dX0_movesMany_13 : decode cX0_movesMany 13 = .ok (.lconst 1, 1) := dk_10 (dk_at dksX0_movesMany_0 13 rfl rfl)
theorem dX0_movesMany_14 : decode cX0_movesMany 14 = .ok (.ldc2_w 371, 3) := dk_20 1 115 (dk_at dksX0_movesMany_0 14 rfl rfl)
theorem dX0_movesMany_17 : decode cX0_movesMany 17 = .ok (.invokestatic 108, 3) := dk_184 0 108 (dk_at dksX0_movesMany_0 17 rfl rfl)
theorem dX0_movesMany_20 : decode cX0_movesMany 20 = .ok (.ifCond .ne 6, 3) := dk_154 0 6 (dk_at dksX0_movesMany_0 20 rfl rfl)
theorem dX0_movesMany_23 : decode cX0_movesMany 23 = .ok (.bipush (-3), 2) := dk_16 253 (dk_at dksX0_movesMany_1 0 rfl rfl)
theorem dX0_movesMany_25 : decode cX0_movesMany 25 = .ok (.ireturn, 1) := dk_172 (dk_at dksX0_movesMany_1 2 rfl rfl)
theorem dX0_movesMany_26 : decode cX0_movesMany 26 = .ok (.aload_n 0, 1) := dk_42 (dk_at dksX0_movesMany_1 3 rfl rfl)
theorem dX0_movesMany_27 : decode cX0_movesMany 27 = .ok (.iload_n 1, 1) := dk_27 (dk_at dksX0_movesMany_1 4 rfl rfl)
theorem dX0_movesMany_28 : decode cX0_movesMany 28 = .ok (.iload_n 2, 1) := dk_28 (dk_at dksX0_movesMany_1 5 rfl rfl)
theorem dX0_movesMany_29 : decode cX0_movesMany 29 = .ok (.invokevirtual 373, 3) := dk_182 1 117 (dk_at dksX0_movesMany_1 6 rfl rfl)
theorem dX0_movesMany_32 : decode cX0_movesMany 32 = .ok (.pop2, 1) := dk_88 (dk_at dksX0_movesMany_1 9 rfl rfl)
theorem dX0_movesMany_33 : decode cX0_movesMany 33 = .ok (.aload_n 0, 1) := dk_42 (dk_at dksX0_movesMany_1 10 rfl rfl)
theorem dX0_movesMany_34 : decode cX0_movesMany 34 = .ok (.getfield 351, 3) := dk_180 1 95 (dk_at dksX0_movesMany_1 11 rfl rfl)
theorem dX0_movesMany_37 : decode cX0_movesMany 37 = .ok (.ireturn, 1) := dk_172 (dk_at dksX0_movesMany_1 14 rfl rfl)
abbrev cX0_best : ByteArray := prog_1_method_60_code
def yX0_best : MethodName := ⟨RX0, "best", "(I)I"⟩
def dkwX0_best_6 : List UInt8 := [132, 5, 1, 167, 255, 173, 28, 172]
abbrev dktX0_best_6 : List UInt8 := dkwX0_best_6 ++ []
def dkwX0_best_5 : List UInt8 := [182, 1, 79, 33, 148, 154, 0, 6, 167, 0, 14, 21, 5, 61, 42, 27, 21, 5, 182, 1, 79, 66]
abbrev dktX0_best_5 : List UInt8 := dkwX0_best_5 ++ dktX0_best_6
def dkwX0_best_4 : List UInt8 := [154, 0, 46, 42, 27, 21, 5, 182, 1, 79, 33, 148, 155, 0, 34, 28, 2, 160, 0, 18, 42, 27, 21, 5]
abbrev dktX0_best_4 : List UInt8 := dkwX0_best_4 ++ dktX0_best_5
def dkwX0_best_3 : List UInt8 := [42, 180, 0, 21, 21, 5, 182, 0, 153, 2, 160, 0, 58, 42, 180, 0, 21, 21, 5, 182, 0, 157]
abbrev dktX0_best_3 : List UInt8 := dkwX0_best_3 ++ dktX0_best_4
def dkwX0_best_2 : List UInt8 := [180, 0, 173, 27, 46, 182, 1, 79, 66, 3, 54, 5, 21, 5, 42, 180, 0, 21, 180, 0, 138, 162, 0, 77]
abbrev dktX0_best_2 : List UInt8 := dkwX0_best_2 ++ dktX0_best_3
def dkwX0_best_1 : List UInt8 := [61, 42, 180, 0, 21, 180, 0, 173, 27, 46, 2, 160, 0, 7, 9, 167, 0, 17, 42, 27, 42, 180, 0, 21]
abbrev dktX0_best_1 : List UInt8 := dkwX0_best_1 ++ dktX0_best_2
def dkwX0_best_0 : List UInt8 := [42, 27, 182, 0, 164, 154, 0, 6, 16, 254, 172, 42, 180, 0, 25, 42, 180, 0, 21, 182, 0, 194, 87, 2]
abbrev dktX0_best_0 : List UInt8 := dkwX0_best_0 ++ dktX0_best_1
theorem dksX0_best_0 : cX0_best.data.toList.drop 0 = dktX0_best_0 := by decide +kernel
theorem dksX0_best_1 : cX0_best.data.toList.drop 24 = dktX0_best_1 := dk_seg dksX0_best_0 24 rfl rfl
theorem dksX0_best_2 : cX0_best.data.toList.drop 48 = dktX0_best_2 := dk_seg dksX0_best_1 24 rfl rfl
theorem dksX0_best_3 : cX0_best.data.toList.drop 72 = dktX0_best_3 := dk_seg dksX0_best_2 24 rfl rfl
theorem dksX0_best_4 : cX0_best.data.toList.drop 94 = dktX0_best_4 := dk_seg dksX0_best_3 22 rfl rfl
theorem dksX0_best_5 : cX0_best.data.toList.drop 118 = dktX0_best_5 := dk_seg dksX0_best_4 24 rfl rfl
theorem dksX0_best_6 : cX0_best.data.toList.drop 140 = dktX0_best_6 := dk_seg dksX0_best_5 22 rfl rfl
theorem dX0_best_0 : decode cX0_best 0 = .ok (.aload_n 0, 1) := dk_42 (dk_at dksX0_best_0 0 rfl rfl)
theorem dX0_best_1 : decode cX0_best 1 = .ok (.iload_n 1, 1) := dk_27 (dk_at dksX0_best_0 1 rfl rfl)
theorem dX0_best_2 : decode cX0_best 2 = .ok (.invokevirtual 164, 3) := dk_182 0 164 (dk_at dksX0_best_0 2 rfl rfl)
theorem dX0_best_5 : decode cX0_best 5 = .ok (.ifCond .ne 6, 3) := dk_154 0 6 (dk_at dksX0_best_0 5 rfl rfl)
theorem dX0_best_8 : decode cX0_best 8 = .ok (.bipush (-2), 2) := dk_16 254 (dk_at dksX0_best_0 8 rfl rfl)
theorem dX0_best_10 : decode cX0_best 10 = .ok (.ireturn, 1) := dk_172 (dk_at dksX0_best_0 10 rfl rfl)
theorem dX0_best_11 : decode cX0_best 11 = .ok (.aload_n 0, 1) := dk_42 (dk_at dksX0_best_0 11 rfl rfl)
theorem dX0_best_12 : decode cX0_best 12 = .ok (.getfield 25, 3) := dk_180 0 25 (dk_at dksX0_best_0 12 rfl rfl)
theorem dX0_best_15 : decode cX0_best 15 = .ok (.aload_n 0, 1) := dk_42 (dk_at dksX0_best_0 15 rfl rfl)
theorem dX0_best_16 : decode cX0_best 16 = .ok (.getfield 21, 3) := dk_180 0 21 (dk_at dksX0_best_0 16 rfl rfl)
theorem dX0_best_19 : decode cX0_best 19 = .ok (.invokevirtual 194, 3) := dk_182 0 194 (dk_at dksX0_best_0 19 rfl rfl)
theorem dX0_best_22 : decode cX0_best 22 = .ok (.pop, 1) := dk_87 (dk_at dksX0_best_0 22 rfl rfl)
theorem dX0_best_23 : decode cX0_best 23 = .ok (.iconst (-1), 1) := dk_2 (dk_at dksX0_best_0 23 rfl rfl)
theorem dX0_best_24 : decode cX0_best 24 = .ok (.istore_n 2, 1) := dk_61 (dk_at dksX0_best_1 0 rfl rfl)
theorem dX0_best_25 : decode cX0_best 25 = .ok (.aload_n 0, 1) := dk_42 (dk_at dksX0_best_1 1 rfl rfl)
theorem dX0_best_26 : decode cX0_best 26 = .ok (.getfield 21, 3) := dk_180 0 21 (dk_at dksX0_best_1 2 rfl rfl)
theorem dX0_best_29 : decode cX0_best 29 = .ok (.getfield 173, 3) := dk_180 0 173 (dk_at dksX0_best_1 5 rfl rfl)
theorem dX0_best_32 : decode cX0_best 32 = .ok (.iload_n 1, 1) := dk_27 (dk_at dksX0_best_1 8 rfl rfl)
theorem dX0_best_33 : decode cX0_best 33 = .ok (.iaload, 1) := dk_46 (dk_at dksX0_best_1 9 rfl rfl)
theorem dX0_best_34 : decode cX0_best 34 = .ok (.iconst (-1), 1) := dk_2 (dk_at dksX0_best_1 10 rfl rfl)
theorem dX0_best_35 : decode cX0_best 35 = .ok (.if_icmp .ne 7, 3) := dk_160 0 7 (dk_at dksX0_best_1 11 rfl rfl)
theorem dX0_best_38 : decode cX0_best 38 = .ok (.lconst 0, 1) := dk_9 (dk_at dksX0_best_1 14 rfl rfl)
theorem dX0_best_39 : decode cX0_best 39 = .ok (.goto 17, 3) := dk_167 0 17 (dk_at dksX0_best_1 15 rfl rfl)
theorem dX0_best_42 : decode cX0_best 42 = .ok (.aload_n 0, 1) := dk_42 (dk_at dksX0_best_1 18 rfl rfl)
theorem dX0_best_43 : decode cX0_best 43 = .ok (.iload_n 1, 1) := dk_27 (dk_at dksX0_best_1 19 rfl rfl)
theorem dX0_best_44 : decode cX0_best 44 = .ok (.aload_n 0, 1) := dk_42 (dk_at dksX0_best_1 20 rfl rfl)
theorem dX0_best_45 : decode cX0_best 45 = .ok (.getfield 21, 3) := dk_180 0 21 (dk_at dksX0_best_1 21 rfl rfl)
theorem dX0_best_48 : decode cX0_best 48 = .ok (.getfield 173, 3) := dk_180 0 173 (dk_at dksX0_best_2 0 rfl rfl)
theorem dX0_best_51 : decode cX0_best 51 = .ok (.iload_n 1, 1) := dk_27 (dk_at dksX0_best_2 3 rfl rfl)
theorem dX0_best_52 : decode cX0_best 52 = .ok (.iaload, 1) := dk_46 (dk_at dksX0_best_2 4 rfl rfl)
theorem dX0_best_53 : decode cX0_best 53 = .ok (.invokevirtual 335, 3) := dk_182 1 79 (dk_at dksX0_best_2 5 rfl rfl)
theorem dX0_best_56 : decode cX0_best 56 = .ok (.lstore_n 3, 1) := dk_66 (dk_at dksX0_best_2 8 rfl rfl)
theorem dX0_best_57 : decode cX0_best 57 = .ok (.iconst 0, 1) := dk_3 (dk_at dksX0_best_2 9 rfl rfl)
theorem dX0_best_58 : decode cX0_best 58 = .ok (.istore 5, 2) := dk_54 5 (dk_at dksX0_best_2 10 rfl rfl)
theorem dX0_best_60 : decode cX0_best 60 = .ok (.iload 5, 2) := dk_21 5 (dk_at dksX0_best_2 12 rfl rfl)
theorem dX0_best_62 : decode cX0_best 62 = .ok (.aload_n 0, 1) := dk_42 (dk_at dksX0_best_2 14 rfl rfl)
theorem dX0_best_63 : decode cX0_best 63 = .ok (.getfield 21, 3) := dk_180 0 21 (dk_at dksX0_best_2 15 rfl rfl)
theorem dX0_best_66 : decode cX0_best 66 = .ok (.getfield 138, 3) := dk_180 0 138 (dk_at dksX0_best_2 18 rfl rfl)
theorem dX0_best_69 : decode cX0_best 69 = .ok (.if_icmp .ge 77, 3) := dk_162 0 77 (dk_at dksX0_best_2 21 rfl rfl)
theorem dX0_best_72 : decode cX0_best 72 = .ok (.aload_n 0, 1) := dk_42 (dk_at dksX0_best_3 0 rfl rfl)
theorem dX0_best_73 : decode cX0_best 73 = .ok (.getfield 21, 3) := dk_180 0 21 (dk_at dksX0_best_3 1 rfl rfl)
theorem dX0_best_76 : decode cX0_best 76 = .ok (.iload 5, 2) := dk_21 5 (dk_at dksX0_best_3 4 rfl rfl)
theorem dX0_best_78 : decode cX0_best 78 = .ok (.invokevirtual 153, 3) := dk_182 0 153 (dk_at dksX0_best_3 6 rfl rfl)
theorem dX0_best_81 : decode cX0_best 81 = .ok (.iconst (-1), 1) := dk_2 (dk_at dksX0_best_3 9 rfl rfl)
theorem dX0_best_82 : decode cX0_best 82 = .ok (.if_icmp .ne 58, 3) := dk_160 0 58 (dk_at dksX0_best_3 10 rfl rfl)
theorem dX0_best_85 : decode cX0_best 85 = .ok (.aload_n 0, 1) := dk_42 (dk_at dksX0_best_3 13 rfl rfl)
theorem dX0_best_86 : decode cX0_best 86 = .ok (.getfield 21, 3) := dk_180 0 21 (dk_at dksX0_best_3 14 rfl rfl)
theorem dX0_best_89 : decode cX0_best 89 = .ok (.iload 5, 2) := dk_21 5 (dk_at dksX0_best_3 17 rfl rfl)
theorem dX0_best_91 : decode cX0_best 91 = .ok (.invokevirtual 157, 3) := dk_182 0 157 (dk_at dksX0_best_3 19 rfl rfl)
theorem dX0_best_94 : decode cX0_best 94 = .ok (.ifCond .ne 46, 3) := dk_154 0 46 (dk_at dksX0_best_4 0 rfl rfl)
theorem dX0_best_97 : decode cX0_best 97 = .ok (.aload_n 0, 1) := dk_42 (dk_at dksX0_best_4 3 rfl rfl)
theorem dX0_best_98 : decode cX0_best 98 = .ok (.iload_n 1, 1) := dk_27 (dk_at dksX0_best_4 4 rfl rfl)
theorem dX0_best_99 : decode cX0_best 99 = .ok (.iload 5, 2) := dk_21 5 (dk_at dksX0_best_4 5 rfl rfl)
theorem dX0_best_101 : decode cX0_best 101 = .ok (.invokevirtual 335, 3) := dk_182 1 79 (dk_at dksX0_best_4 7 rfl rfl)
theorem dX0_best_104 : decode cX0_best 104 = .ok (.lload_n 3, 1) := dk_33 (dk_at dksX0_best_4 10 rfl rfl)
theorem dX0_best_105 : decode cX0_best 105 = .ok (.lcmp, 1) := dk_148 (dk_at dksX0_best_4 11 rfl rfl)
theorem dX0_best_106 : decode cX0_best 106 = .ok (.ifCond .lt 34, 3) := dk_155 0 34 (dk_at dksX0_best_4 12 rfl rfl)
theorem dX0_best_109 : decode cX0_best 109 = .ok (.iload_n 2, 1) := dk_28 (dk_at dksX0_best_4 15 rfl rfl)
theorem dX0_best_110 : decode cX0_best 110 = .ok (.iconst (-1), 1) := dk_2 (dk_at dksX0_best_4 16 rfl rfl)
theorem dX0_best_111 : decode cX0_best 111 = .ok (.if_icmp .ne 18, 3) := dk_160 0 18 (dk_at dksX0_best_4 17 rfl rfl)
theorem dX0_best_114 : decode cX0_best 114 = .ok (.aload_n 0, 1) := dk_42 (dk_at dksX0_best_4 20 rfl rfl)
theorem dX0_best_115 : decode cX0_best 115 = .ok (.iload_n 1, 1) := dk_27 (dk_at dksX0_best_4 21 rfl rfl)
theorem dX0_best_116 : decode cX0_best 116 = .ok (.iload 5, 2) := dk_21 5 (dk_at dksX0_best_4 22 rfl rfl)
theorem dX0_best_118 : decode cX0_best 118 = .ok (.invokevirtual 335, 3) := dk_182 1 79 (dk_at dksX0_best_5 0 rfl rfl)
theorem dX0_best_121 : decode cX0_best 121 = .ok (.lload_n 3, 1) := dk_33 (dk_at dksX0_best_5 3 rfl rfl)
theorem dX0_best_122 : decode cX0_best 122 = .ok (.lcmp, 1) := dk_148 (dk_at dksX0_best_5 4 rfl rfl)
theorem dX0_best_123 : decode cX0_best 123 = .ok (.ifCond .ne 6, 3) := dk_154 0 6 (dk_at dksX0_best_5 5 rfl rfl)
theorem dX0_best_126 : decode cX0_best 126 = .ok (.goto 14, 3) := dk_167 0 14 (dk_at dksX0_best_5 8 rfl rfl)
theorem dX0_best_129 : decode cX0_best 129 = .ok (.iload 5, 2) := dk_21 5 (dk_at dksX0_best_5 11 rfl rfl)
theorem dX0_best_131 : decode cX0_best 131 = .ok (.istore_n 2, 1) := dk_61 (dk_at dksX0_best_5 13 rfl rfl)
theorem dX0_best_132 : decode cX0_best 132 = .ok (.aload_n 0, 1) := dk_42 (dk_at dksX0_best_5 14 rfl rfl)
theorem dX0_best_133 : decode cX0_best 133 = .ok (.iload_n 1, 1) := dk_27 (dk_at dksX0_best_5 15 rfl rfl)
theorem dX0_best_134 : decode cX0_best 134 = .ok (.iload 5, 2) := dk_21 5 (dk_at dksX0_best_5 16 rfl rfl)
theorem dX0_best_136 : decode cX0_best 136 = .ok (.invokevirtual 335, 3) := dk_182 1 79 (dk_at dksX0_best_5 18 rfl rfl)
theorem dX0_best_139 : decode cX0_best 139 = .ok (.lstore_n 3, 1) := dk_66 (dk_at dksX0_best_5 21 rfl rfl)
theorem dX0_best_140 : decode cX0_best 140 = .ok (.iinc 5 1, 3) := dk_132 5 1 (dk_at dksX0_best_6 0 rfl rfl)
theorem dX0_best_143 : decode cX0_best 143 = .ok (.goto (-83), 3) := dk_167 255 173 (dk_at dksX0_best_6 3 rfl rfl)
theorem dX0_best_146 : decode cX0_best 146 = .ok (.iload_n 2, 1) := dk_28 (dk_at dksX0_best_6 6 rfl rfl)
theorem dX0_best_147 : decode cX0_best 147 = .ok (.ireturn, 1) := dk_172 (dk_at dksX0_best_6 7 rfl rfl)
abbrev cX0_building : ByteArray := prog_1_method_66_code
def yX0_building : MethodName := ⟨RX0, "building", "(III)J"⟩
def dkwX0_building_3 : List UInt8 := [42, 180, 1, 133, 162, 0, 16, 42, 180, 0, 63, 29, 16, 10, 100, 46, 133, 167, 0, 6, 20, 1, 161, 173]
abbrev dktX0_building_3 : List UInt8 := dkwX0_building_3 ++ []
def dkwX0_building_2 : List UInt8 := [162, 0, 20, 29, 154, 0, 10, 42, 180, 1, 126, 167, 0, 8, 42, 180, 1, 133, 133, 173, 29, 16, 10, 100]
abbrev dktX0_building_2 : List UInt8 := dkwX0_building_2 ++ dktX0_building_3
def dkwX0_building_1 : List UInt8 := [20, 1, 113, 173, 27, 28, 184, 1, 155, 154, 0, 7, 20, 1, 57, 173, 42, 27, 28, 182, 1, 158, 29, 5]
abbrev dktX0_building_1 : List UInt8 := dkwX0_building_1 ++ dktX0_building_2
def dkwX0_building_0 : List UInt8 := [29, 133, 9, 10, 184, 0, 108, 154, 0, 21, 29, 133, 20, 1, 151, 20, 1, 153, 184, 0, 108, 154, 0, 7]
abbrev dktX0_building_0 : List UInt8 := dkwX0_building_0 ++ dktX0_building_1
theorem dksX0_building_0 : cX0_building.data.toList.drop 0 = dktX0_building_0 := by decide +kernel
theorem dksX0_building_1 : cX0_building.data.toList.drop 24 = dktX0_building_1 := dk_seg dksX0_building_0 24 rfl rfl
theorem dksX0_building_2 : cX0_building.data.toList.drop 48 = dktX0_building_2 := dk_seg dksX0_building_1 24 rfl rfl
theorem dksX0_building_3 : cX0_building.data.toList.drop 72 = dktX0_building_3 := dk_seg dksX0_building_2 24 rfl rfl
theorem dX0_building_0 : decode cX0_building 0 = .ok (.iload_n 3, 1) := dk_29 (dk_at dksX0_building_0 0 rfl rfl)
theorem dX0_building_1 : decode cX0_building 1 = .ok (.i2l, 1) := dk_133 (dk_at dksX0_building_0 1 rfl rfl)
theorem dX0_building_2 : decode cX0_building 2 = .ok (.lconst 0, 1) := dk_9 (dk_at dksX0_building_0 2 rfl rfl)
theorem dX0_building_3 : decode cX0_building 3 = .ok (.lconst 1, 1) := dk_10 (dk_at dksX0_building_0 3 rfl rfl)
theorem dX0_building_4 : decode cX0_building 4 = .ok (.invokestatic 108, 3) := dk_184 0 108 (dk_at dksX0_building_0 4 rfl rfl)
theorem dX0_building_7 : decode cX0_building 7 = .ok (.ifCond .ne 21, 3) := dk_154 0 21 (dk_at dksX0_building_0 7 rfl rfl)
theorem dX0_building_10 : decode cX0_building 10 = .ok (.iload_n 3, 1) := dk_29 (dk_at dksX0_building_0 10 rfl rfl)
theorem dX0_building_11 : decode cX0_building 11 = .ok (.i2l, 1) := dk_133 (dk_at dksX0_building_0 11 rfl rfl)
theorem dX0_building_12 : decode cX0_building 12 = .ok (.ldc2_w 407, 3) := dk_20 1 151 (dk_at dksX0_building_0 12 rfl rfl)
theorem dX0_building_15 : decode cX0_building 15 = .ok (.ldc2_w 409, 3) := dk_20 1 153 (dk_at dksX0_building_0 15 rfl rfl)
theorem dX0_building_18 : decode cX0_building 18 = .ok (.invokestatic 108, 3) := dk_184 0 108 (dk_at dksX0_building_0 18 rfl rfl)
theorem dX0_building_21 : decode cX0_building 21 = .ok (.ifCond .ne 7, 3) := dk_154 0 7 (dk_at dksX0_building_0 21 rfl rfl)
theorem dX0_building_24 : decode cX0_building 24 = .ok (.ldc2_w 369, 3) := dk_20 1 113 (dk_at dksX0_building_1 0 rfl rfl)
theorem dX0_building_27 : decode cX0_building 27 = .ok (.lreturn, 1) := dk_173 (dk_at dksX0_building_1 3 rfl rfl)
theorem dX0_building_28 : decode cX0_building 28 = .ok (.iload_n 1, 1) := dk_27 (dk_at dksX0_building_1 4 rfl rfl)
theorem dX0_building_29 : decode cX0_building 29 = .ok (.iload_n 2, 1) := dk_28 (dk_at dksX0_building_1 5 rfl rfl)
theorem dX0_building_30 : decode cX0_building 30 = .ok (.invokestatic 411, 3) := dk_184 1 155 (dk_at dksX0_building_1 6 rfl rfl)
theorem dX0_building_33 : decode cX0_building 33 = .ok (.ifCond .ne 7, 3) := dk_154 0 7 (dk_at dksX0_building_1 9 rfl rfl)
theorem dX0_building_36 : decode cX0_building 36 = .ok (.ldc2_w 313, 3) := dk_20 1 57 (dk_at dksX0_building_1 12 rfl rfl)
theorem dX0_building_39 : decode cX0_building 39 = .ok (.lreturn, 1) := dk_173 (dk_at dksX0_building_1 15 rfl rfl)
theorem dX0_building_40 : decode cX0_building 40 = .ok (.aload_n 0, 1) := dk_42 (dk_at dksX0_building_1 16 rfl rfl)
theorem dX0_building_41 : decode cX0_building 41 = .ok (.iload_n 1, 1) := dk_27 (dk_at dksX0_building_1 17 rfl rfl)
theorem dX0_building_42 : decode cX0_building 42 = .ok (.iload_n 2, 1) := dk_28 (dk_at dksX0_building_1 18 rfl rfl)
theorem dX0_building_43 : decode cX0_building 43 = .ok (.invokevirtual 414, 3) := dk_182 1 158 (dk_at dksX0_building_1 19 rfl rfl)
theorem dX0_building_46 : decode cX0_building 46 = .ok (.iload_n 3, 1) := dk_29 (dk_at dksX0_building_1 22 rfl rfl)
theorem dX0_building_47 : decode cX0_building 47 = .ok (.iconst 2, 1) := dk_5 (dk_at dksX0_building_1 23 rfl rfl)
theorem dX0_building_48 : decode cX0_building 48 = .ok (.if_icmp .ge 20, 3) := dk_162 0 20 (dk_at dksX0_building_2 0 rfl rfl)
theorem dX0_building_51 : decode cX0_building 51 = .ok (.iload_n 3, 1) := dk_29 (dk_at dksX0_building_2 3 rfl rfl)
theorem dX0_building_52 : decode cX0_building 52 = .ok (.ifCond .ne 10, 3) := dk_154 0 10 (dk_at dksX0_building_2 4 rfl rfl)
theorem dX0_building_55 : decode cX0_building 55 = .ok (.aload_n 0, 1) := dk_42 (dk_at dksX0_building_2 7 rfl rfl)
theorem dX0_building_56 : decode cX0_building 56 = .ok (.getfield 382, 3) := dk_180 1 126 (dk_at dksX0_building_2 8 rfl rfl)
theorem dX0_building_59 : decode cX0_building 59 = .ok (.goto 8, 3) := dk_167 0 8 (dk_at dksX0_building_2 11 rfl rfl)
theorem dX0_building_62 : decode cX0_building 62 = .ok (.aload_n 0, 1) := dk_42 (dk_at dksX0_building_2 14 rfl rfl)
theorem dX0_building_63 : decode cX0_building 63 = .ok (.getfield 389, 3) := dk_180 1 133 (dk_at dksX0_building_2 15 rfl rfl)
theorem dX0_building_66 : decode cX0_building 66 = .ok (.i2l, 1) := dk_133 (dk_at dksX0_building_2 18 rfl rfl)
theorem dX0_building_67 : decode cX0_building 67 = .ok (.lreturn, 1) := dk_173 (dk_at dksX0_building_2 19 rfl rfl)
theorem dX0_building_68 : decode cX0_building 68 = .ok (.iload_n 3, 1) := dk_29 (dk_at dksX0_building_2 20 rfl rfl)
theorem dX0_building_69 : decode cX0_building 69 = .ok (.bipush 10, 2) := dk_16 10 (dk_at dksX0_building_2 21 rfl rfl)
theorem dX0_building_71 : decode cX0_building 71 = .ok (.isub, 1) := dk_100 (dk_at dksX0_building_2 23 rfl rfl)
theorem dX0_building_72 : decode cX0_building 72 = .ok (.aload_n 0, 1) := dk_42 (dk_at dksX0_building_3 0 rfl rfl)
theorem dX0_building_73 : decode cX0_building 73 = .ok (.getfield 389, 3) := dk_180 1 133 (dk_at dksX0_building_3 1 rfl rfl)
theorem dX0_building_76 : decode cX0_building 76 = .ok (.if_icmp .ge 16, 3) := dk_162 0 16 (dk_at dksX0_building_3 4 rfl rfl)
theorem dX0_building_79 : decode cX0_building 79 = .ok (.aload_n 0, 1) := dk_42 (dk_at dksX0_building_3 7 rfl rfl)
theorem dX0_building_80 : decode cX0_building 80 = .ok (.getfield 63, 3) := dk_180 0 63 (dk_at dksX0_building_3 8 rfl rfl)
theorem dX0_building_83 : decode cX0_building 83 = .ok (.iload_n 3, 1) := dk_29 (dk_at dksX0_building_3 11 rfl rfl)
theorem dX0_building_84 : decode cX0_building 84 = .ok (.bipush 10, 2) := dk_16 10 (dk_at dksX0_building_3 12 rfl rfl)
theorem dX0_building_86 : decode cX0_building 86 = .ok (.isub, 1) := dk_100 (dk_at dksX0_building_3 14 rfl rfl)
theorem dX0_building_87 : decode cX0_building 87 = .ok (.iaload, 1) := dk_46 (dk_at dksX0_building_3 15 rfl rfl)
theorem dX0_building_88 : decode cX0_building 88 = .ok (.i2l, 1) := dk_133 (dk_at dksX0_building_3 16 rfl rfl)
theorem dX0_building_89 : decode cX0_building 89 = .ok (.goto 6, 3) := dk_167 0 6 (dk_at dksX0_building_3 17 rfl rfl)
theorem dX0_building_92 : decode cX0_building 92 = .ok (.ldc2_w 417, 3) := dk_20 1 161 (dk_at dksX0_building_3 20 rfl rfl)
theorem dX0_building_95 : decode cX0_building 95 = .ok (.lreturn, 1) := dk_173 (dk_at dksX0_building_3 23 rfl rfl)
abbrev cX0_isBuilding : ByteArray := prog_1_method_65_code
def yX0_isBuilding : MethodName := ⟨RX0, "isBuilding", "(II)Z"⟩
def dkwX0_isBuilding_1 : List UInt8 := [4, 167, 0, 4, 3, 172]
abbrev dktX0_isBuilding_1 : List UInt8 := dkwX0_isBuilding_1 ++ []
def dkwX0_isBuilding_0 : List UInt8 := [26, 133, 10, 20, 1, 149, 184, 0, 108, 153, 0, 19, 27, 133, 9, 20, 0, 243, 184, 0, 108, 153, 0, 7]
abbrev dktX0_isBuilding_0 : List UInt8 := dkwX0_isBuilding_0 ++ dktX0_isBuilding_1
theorem dksX0_isBuilding_0 : cX0_isBuilding.data.toList.drop 0 = dktX0_isBuilding_0 := by decide +kernel
theorem dksX0_isBuilding_1 : cX0_isBuilding.data.toList.drop 24 = dktX0_isBuilding_1 := dk_seg dksX0_isBuilding_0 24 rfl rfl
theorem dX0_isBuilding_0 : decode cX0_isBuilding 0 = .ok (.iload_n 0, 1) := dk_26 (dk_at dksX0_isBuilding_0 0 rfl rfl)
theorem dX0_isBuilding_1 : decode cX0_isBuilding 1 = .ok (.i2l, 1) := dk_133 (dk_at dksX0_isBuilding_0 1 rfl rfl)
theorem dX0_isBuilding_2 : decode cX0_isBuilding 2 = .ok (.lconst 1, 1) := dk_10 (dk_at dksX0_isBuilding_0 2 rfl rfl)
theorem dX0_isBuilding_3 : decode cX0_isBuilding 3 = .ok (.ldc2_w 405, 3) := dk_20 1 149 (dk_at dksX0_isBuilding_0 3 rfl rfl)
theorem dX0_isBuilding_6 : decode cX0_isBuilding 6 = .ok (.invokestatic 108, 3) := dk_184 0 108 (dk_at dksX0_isBuilding_0 6 rfl rfl)
theorem dX0_isBuilding_9 : decode cX0_isBuilding 9 = .ok (.ifCond .eq 19, 3) := dk_153 0 19 (dk_at dksX0_isBuilding_0 9 rfl rfl)
theorem dX0_isBuilding_12 : decode cX0_isBuilding 12 = .ok (.iload_n 1, 1) := dk_27 (dk_at dksX0_isBuilding_0 12 rfl rfl)
theorem dX0_isBuilding_13 : decode cX0_isBuilding 13 = .ok (.i2l, 1) := dk_133 (dk_at dksX0_isBuilding_0 13 rfl rfl)
theorem dX0_isBuilding_14 : decode cX0_isBuilding 14 = .ok (.lconst 0, 1) := dk_9 (dk_at dksX0_isBuilding_0 14 rfl rfl)
theorem dX0_isBuilding_15 : decode cX0_isBuilding 15 = .ok (.ldc2_w 243, 3) := dk_20 0 243 (dk_at dksX0_isBuilding_0 15 rfl rfl)
theorem dX0_isBuilding_18 : decode cX0_isBuilding 18 = .ok (.invokestatic 108, 3) := dk_184 0 108 (dk_at dksX0_isBuilding_0 18 rfl rfl)
theorem dX0_isBuilding_21 : decode cX0_isBuilding 21 = .ok (.ifCond .eq 7, 3) := dk_153 0 7 (dk_at dksX0_isBuilding_0 21 rfl rfl)
theorem dX0_isBuilding_24 : decode cX0_isBuilding 24 = .ok (.iconst 1, 1) := dk_4 (dk_at dksX0_isBuilding_1 0 rfl rfl)
theorem dX0_isBuilding_25 : decode cX0_isBuilding 25 = .ok (.goto 4, 3) := dk_167 0 4 (dk_at dksX0_isBuilding_1 1 rfl rfl)
theorem dX0_isBuilding_28 : decode cX0_isBuilding 28 = .ok (.iconst 0, 1) := dk_3 (dk_at dksX0_isBuilding_1 4 rfl rfl)
theorem dX0_isBuilding_29 : decode cX0_isBuilding 29 = .ok (.ireturn, 1) := dk_172 (dk_at dksX0_isBuilding_1 5 rfl rfl)
abbrev cX0_laysBuilding : ByteArray := prog_1_method_64_code
def yX0_laysBuilding : MethodName := ⟨RX0, "laysBuilding", "(II)V"⟩
def dkwX0_laysBuilding_2 : List UInt8 := [167, 255, 227, 177]
abbrev dktX0_laysBuilding_2 : List UInt8 := dkwX0_laysBuilding_2 ++ []
def dkwX0_laysBuilding_1 : List UInt8 := [180, 0, 21, 180, 0, 138, 100, 184, 0, 198, 163, 0, 17, 42, 3, 29, 3, 27, 182, 1, 145, 132, 3, 1]
abbrev dktX0_laysBuilding_1 : List UInt8 := dkwX0_laysBuilding_1 ++ dktX0_laysBuilding_2
def dkwX0_laysBuilding_0 : List UInt8 := [42, 20, 1, 86, 181, 1, 126, 42, 3, 181, 1, 133, 42, 3, 181, 1, 130, 3, 62, 29, 28, 16, 8, 42]
abbrev dktX0_laysBuilding_0 : List UInt8 := dkwX0_laysBuilding_0 ++ dktX0_laysBuilding_1
theorem dksX0_laysBuilding_0 : cX0_laysBuilding.data.toList.drop 0 = dktX0_laysBuilding_0 := by decide +kernel
theorem dksX0_laysBuilding_1 : cX0_laysBuilding.data.toList.drop 24 = dktX0_laysBuilding_1 := dk_seg dksX0_laysBuilding_0 24 rfl rfl
theorem dksX0_laysBuilding_2 : cX0_laysBuilding.data.toList.drop 48 = dktX0_laysBuilding_2 := dk_seg dksX0_laysBuilding_1 24 rfl rfl
theorem dX0_laysBuilding_0 : decode cX0_laysBuilding 0 = .ok (.aload_n 0, 1) := dk_42 (dk_at dksX0_laysBuilding_0 0 rfl rfl)
theorem dX0_laysBuilding_1 : decode cX0_laysBuilding 1 = .ok (.ldc2_w 342, 3) := dk_20 1 86 (dk_at dksX0_laysBuilding_0 1 rfl rfl)
theorem dX0_laysBuilding_4 : decode cX0_laysBuilding 4 = .ok (.putfield 382, 3) := dk_181 1 126 (dk_at dksX0_laysBuilding_0 4 rfl rfl)
theorem dX0_laysBuilding_7 : decode cX0_laysBuilding 7 = .ok (.aload_n 0, 1) := dk_42 (dk_at dksX0_laysBuilding_0 7 rfl rfl)
theorem dX0_laysBuilding_8 : decode cX0_laysBuilding 8 = .ok (.iconst 0, 1) := dk_3 (dk_at dksX0_laysBuilding_0 8 rfl rfl)
theorem dX0_laysBuilding_9 : decode cX0_laysBuilding 9 = .ok (.putfield 389, 3) := dk_181 1 133 (dk_at dksX0_laysBuilding_0 9 rfl rfl)
theorem dX0_laysBuilding_12 : decode cX0_laysBuilding 12 = .ok (.aload_n 0, 1) := dk_42 (dk_at dksX0_laysBuilding_0 12 rfl rfl)
theorem dX0_laysBuilding_13 : decode cX0_laysBuilding 13 = .ok (.iconst 0, 1) := dk_3 (dk_at dksX0_laysBuilding_0 13 rfl rfl)
theorem dX0_laysBuilding_14 : decode cX0_laysBuilding 14 = .ok (.putfield 386, 3) := dk_181 1 130 (dk_at dksX0_laysBuilding_0 14 rfl rfl)
theorem dX0_laysBuilding_17 : decode cX0_laysBuilding 17 = .ok (.iconst 0, 1) := dk_3 (dk_at dksX0_laysBuilding_0 17 rfl rfl)
theorem dX0_laysBuilding_18 : decode cX0_laysBuilding 18 = .ok (.istore_n 3, 1) := dk_62 (dk_at dksX0_laysBuilding_0 18 rfl rfl)
theorem dX0_laysBuilding_19 : decode cX0_laysBuilding 19 = .ok (.iload_n 3, 1) := dk_29 (dk_at dksX0_laysBuilding_0 19 rfl rfl)
theorem dX0_laysBuilding_20 : decode cX0_laysBuilding 20 = .ok (.iload_n 2, 1) := dk_28 (dk_at dksX0_laysBuilding_0 20 rfl rfl)
theorem dX0_laysBuilding_21 : decode cX0_laysBuilding 21 = .ok (.bipush 8, 2) := dk_16 8 (dk_at dksX0_laysBuilding_0 21 rfl rfl)
theorem dX0_laysBuilding_23 : decode cX0_laysBuilding 23 = .ok (.aload_n 0, 1) := dk_42 (dk_at dksX0_laysBuilding_0 23 rfl rfl)
theorem dX0_laysBuilding_24 : decode cX0_laysBuilding 24 = .ok (.getfield 21, 3) := dk_180 0 21 (dk_at dksX0_laysBuilding_1 0 rfl rfl)
theorem dX0_laysBuilding_27 : decode cX0_laysBuilding 27 = .ok (.getfield 138, 3) := dk_180 0 138 (dk_at dksX0_laysBuilding_1 3 rfl rfl)
theorem dX0_laysBuilding_30 : decode cX0_laysBuilding 30 = .ok (.isub, 1) := dk_100 (dk_at dksX0_laysBuilding_1 6 rfl rfl)
theorem dX0_laysBuilding_31 : decode cX0_laysBuilding 31 = .ok (.invokestatic 198, 3) := dk_184 0 198 (dk_at dksX0_laysBuilding_1 7 rfl rfl)
theorem dX0_laysBuilding_34 : decode cX0_laysBuilding 34 = .ok (.if_icmp .gt 17, 3) := dk_163 0 17 (dk_at dksX0_laysBuilding_1 10 rfl rfl)
theorem dX0_laysBuilding_37 : decode cX0_laysBuilding 37 = .ok (.aload_n 0, 1) := dk_42 (dk_at dksX0_laysBuilding_1 13 rfl rfl)
theorem dX0_laysBuilding_38 : decode cX0_laysBuilding 38 = .ok (.iconst 0, 1) := dk_3 (dk_at dksX0_laysBuilding_1 14 rfl rfl)
theorem dX0_laysBuilding_39 : decode cX0_laysBuilding 39 = .ok (.iload_n 3, 1) := dk_29 (dk_at dksX0_laysBuilding_1 15 rfl rfl)
theorem dX0_laysBuilding_40 : decode cX0_laysBuilding 40 = .ok (.iconst 0, 1) := dk_3 (dk_at dksX0_laysBuilding_1 16 rfl rfl)
theorem dX0_laysBuilding_41 : decode cX0_laysBuilding 41 = .ok (.iload_n 1, 1) := dk_27 (dk_at dksX0_laysBuilding_1 17 rfl rfl)
theorem dX0_laysBuilding_42 : decode cX0_laysBuilding 42 = .ok (.invokevirtual 401, 3) := dk_182 1 145 (dk_at dksX0_laysBuilding_1 18 rfl rfl)
theorem dX0_laysBuilding_45 : decode cX0_laysBuilding 45 = .ok (.iinc 3 1, 3) := dk_132 3 1 (dk_at dksX0_laysBuilding_1 21 rfl rfl)
theorem dX0_laysBuilding_48 : decode cX0_laysBuilding 48 = .ok (.goto (-29), 3) := dk_167 255 227 (dk_at dksX0_laysBuilding_2 0 rfl rfl)
theorem dX0_laysBuilding_51 : decode cX0_laysBuilding 51 = .ok (.return_, 1) := dk_177 (dk_at dksX0_laysBuilding_2 3 rfl rfl)
abbrev cX0_goesBuilding : ByteArray := prog_1_method_63_code
def yX0_goesBuilding : MethodName := ⟨RX0, "goesBuilding", "(IIII)V"⟩
def dkwX0_goesBuilding_2 : List UInt8 := [167, 255, 224, 177]
abbrev dktX0_goesBuilding_2 : List UInt8 := dkwX0_goesBuilding_2 ++ []
def dkwX0_goesBuilding_1 : List UInt8 := [180, 0, 60, 27, 21, 5, 79, 42, 27, 4, 96, 28, 21, 5, 4, 96, 21, 4, 182, 1, 145, 132, 5, 1]
abbrev dktX0_goesBuilding_1 : List UInt8 := dkwX0_goesBuilding_1 ++ dktX0_goesBuilding_2
def dkwX0_goesBuilding_0 : List UInt8 := [27, 28, 160, 0, 11, 42, 28, 21, 4, 182, 1, 142, 177, 29, 54, 5, 21, 5, 21, 4, 162, 0, 31, 42]
abbrev dktX0_goesBuilding_0 : List UInt8 := dkwX0_goesBuilding_0 ++ dktX0_goesBuilding_1
theorem dksX0_goesBuilding_0 : cX0_goesBuilding.data.toList.drop 0 = dktX0_goesBuilding_0 := by decide +kernel
theorem dksX0_goesBuilding_1 : cX0_goesBuilding.data.toList.drop 24 = dktX0_goesBuilding_1 := dk_seg dksX0_goesBuilding_0 24 rfl rfl
theorem dksX0_goesBuilding_2 : cX0_goesBuilding.data.toList.drop 48 = dktX0_goesBuilding_2 := dk_seg dksX0_goesBuilding_1 24 rfl rfl
theorem dX0_goesBuilding_0 : decode cX0_goesBuilding 0 = .ok (.iload_n 1, 1) := dk_27 (dk_at dksX0_goesBuilding_0 0 rfl rfl)
theorem dX0_goesBuilding_1 : decode cX0_goesBuilding 1 = .ok (.iload_n 2, 1) := dk_28 (dk_at dksX0_goesBuilding_0 1 rfl rfl)
theorem dX0_goesBuilding_2 : decode cX0_goesBuilding 2 = .ok (.if_icmp .ne 11, 3) := dk_160 0 11 (dk_at dksX0_goesBuilding_0 2 rfl rfl)
theorem dX0_goesBuilding_5 : decode cX0_goesBuilding 5 = .ok (.aload_n 0, 1) := dk_42 (dk_at dksX0_goesBuilding_0 5 rfl rfl)
theorem dX0_goesBuilding_6 : decode cX0_goesBuilding 6 = .ok (.iload_n 2, 1) := dk_28 (dk_at dksX0_goesBuilding_0 6 rfl rfl)
theorem dX0_goesBuilding_7 : decode cX0_goesBuilding 7 = .ok (.iload 4, 2) := dk_21 4 (dk_at dksX0_goesBuilding_0 7 rfl rfl)
theorem dX0_goesBuilding_9 : decode cX0_goesBuilding 9 = .ok (.invokevirtual 398, 3) := dk_182 1 142 (dk_at dksX0_goesBuilding_0 9 rfl rfl)
theorem dX0_goesBuilding_12 : decode cX0_goesBuilding 12 = .ok (.return_, 1) := dk_177 (dk_at dksX0_goesBuilding_0 12 rfl rfl)
theorem dX0_goesBuilding_13 : decode cX0_goesBuilding 13 = .ok (.iload_n 3, 1) := dk_29 (dk_at dksX0_goesBuilding_0 13 rfl rfl)
theorem dX0_goesBuilding_14 : decode cX0_goesBuilding 14 = .ok (.istore 5, 2) := dk_54 5 (dk_at dksX0_goesBuilding_0 14 rfl rfl)
theorem dX0_goesBuilding_16 : decode cX0_goesBuilding 16 = .ok (.iload 5, 2) := dk_21 5 (dk_at dksX0_goesBuilding_0 16 rfl rfl)
theorem dX0_goesBuilding_18 : decode cX0_goesBuilding 18 = .ok (.iload 4, 2) := dk_21 4 (dk_at dksX0_goesBuilding_0 18 rfl rfl)
theorem dX0_goesBuilding_20 : decode cX0_goesBuilding 20 = .ok (.if_icmp .ge 31, 3) := dk_162 0 31 (dk_at dksX0_goesBuilding_0 20 rfl rfl)
theorem dX0_goesBuilding_23 : decode cX0_goesBuilding 23 = .ok (.aload_n 0, 1) := dk_42 (dk_at dksX0_goesBuilding_0 23 rfl rfl)
theorem dX0_goesBuilding_24 : decode cX0_goesBuilding 24 = .ok (.getfield 60, 3) := dk_180 0 60 (dk_at dksX0_goesBuilding_1 0 rfl rfl)
theorem dX0_goesBuilding_27 : decode cX0_goesBuilding 27 = .ok (.iload_n 1, 1) := dk_27 (dk_at dksX0_goesBuilding_1 3 rfl rfl)
theorem dX0_goesBuilding_28 : decode cX0_goesBuilding 28 = .ok (.iload 5, 2) := dk_21 5 (dk_at dksX0_goesBuilding_1 4 rfl rfl)
theorem dX0_goesBuilding_30 : decode cX0_goesBuilding 30 = .ok (.iastore, 1) := dk_79 (dk_at dksX0_goesBuilding_1 6 rfl rfl)
theorem dX0_goesBuilding_31 : decode cX0_goesBuilding 31 = .ok (.aload_n 0, 1) := dk_42 (dk_at dksX0_goesBuilding_1 7 rfl rfl)
theorem dX0_goesBuilding_32 : decode cX0_goesBuilding 32 = .ok (.iload_n 1, 1) := dk_27 (dk_at dksX0_goesBuilding_1 8 rfl rfl)
theorem dX0_goesBuilding_33 : decode cX0_goesBuilding 33 = .ok (.iconst 1, 1) := dk_4 (dk_at dksX0_goesBuilding_1 9 rfl rfl)
theorem dX0_goesBuilding_34 : decode cX0_goesBuilding 34 = .ok (.iadd, 1) := dk_96 (dk_at dksX0_goesBuilding_1 10 rfl rfl)
theorem dX0_goesBuilding_35 : decode cX0_goesBuilding 35 = .ok (.iload_n 2, 1) := dk_28 (dk_at dksX0_goesBuilding_1 11 rfl rfl)
theorem dX0_goesBuilding_36 : decode cX0_goesBuilding 36 = .ok (.iload 5, 2) := dk_21 5 (dk_at dksX0_goesBuilding_1 12 rfl rfl)
theorem dX0_goesBuilding_38 : decode cX0_goesBuilding 38 = .ok (.iconst 1, 1) := dk_4 (dk_at dksX0_goesBuilding_1 14 rfl rfl)
theorem dX0_goesBuilding_39 : decode cX0_goesBuilding 39 = .ok (.iadd, 1) := dk_96 (dk_at dksX0_goesBuilding_1 15 rfl rfl)
theorem dX0_goesBuilding_40 : decode cX0_goesBuilding 40 = .ok (.iload 4, 2) := dk_21 4 (dk_at dksX0_goesBuilding_1 16 rfl rfl)
theorem dX0_goesBuilding_42 : decode cX0_goesBuilding 42 = .ok (.invokevirtual 401, 3) := dk_182 1 145 (dk_at dksX0_goesBuilding_1 18 rfl rfl)
theorem dX0_goesBuilding_45 : decode cX0_goesBuilding 45 = .ok (.iinc 5 1, 3) := dk_132 5 1 (dk_at dksX0_goesBuilding_1 21 rfl rfl)
theorem dX0_goesBuilding_48 : decode cX0_goesBuilding 48 = .ok (.goto (-32), 3) := dk_167 255 224 (dk_at dksX0_goesBuilding_2 0 rfl rfl)
theorem dX0_goesBuilding_51 : decode cX0_goesBuilding 51 = .ok (.return_, 1) := dk_177 (dk_at dksX0_goesBuilding_2 3 rfl rfl)
abbrev cX0_tries : ByteArray := prog_1_method_62_code
def yX0_tries : MethodName := ⟨RX0, "tries", "(II)V"⟩
def dkwX0_tries_3 : List UInt8 := [180, 0, 60, 3, 42, 180, 0, 63, 3, 6, 184, 1, 136, 177]
abbrev dktX0_tries_3 : List UInt8 := dkwX0_tries_3 ++ []
def dkwX0_tries_2 : List UInt8 := [154, 0, 12, 42, 180, 1, 133, 27, 163, 0, 4, 177, 42, 33, 181, 1, 126, 42, 27, 181, 1, 133, 42]
abbrev dktX0_tries_2 : List UInt8 := dkwX0_tries_2 ++ dktX0_tries_3
def dkwX0_tries_1 : List UInt8 := [154, 0, 12, 42, 180, 1, 130, 4, 96, 167, 0, 4, 4, 181, 1, 130, 33, 42, 180, 1, 126, 148]
abbrev dktX0_tries_1 : List UInt8 := dkwX0_tries_1 ++ dktX0_tries_2
def dkwX0_tries_0 : List UInt8 := [42, 27, 28, 182, 1, 123, 66, 33, 42, 180, 1, 126, 148, 156, 0, 4, 177, 42, 33, 42, 180, 1, 126, 148]
abbrev dktX0_tries_0 : List UInt8 := dkwX0_tries_0 ++ dktX0_tries_1
theorem dksX0_tries_0 : cX0_tries.data.toList.drop 0 = dktX0_tries_0 := by decide +kernel
theorem dksX0_tries_1 : cX0_tries.data.toList.drop 24 = dktX0_tries_1 := dk_seg dksX0_tries_0 24 rfl rfl
theorem dksX0_tries_2 : cX0_tries.data.toList.drop 46 = dktX0_tries_2 := dk_seg dksX0_tries_1 22 rfl rfl
theorem dksX0_tries_3 : cX0_tries.data.toList.drop 69 = dktX0_tries_3 := dk_seg dksX0_tries_2 23 rfl rfl
theorem dX0_tries_0 : decode cX0_tries 0 = .ok (.aload_n 0, 1) := dk_42 (dk_at dksX0_tries_0 0 rfl rfl)
theorem dX0_tries_1 : decode cX0_tries 1 = .ok (.iload_n 1, 1) := dk_27 (dk_at dksX0_tries_0 1 rfl rfl)
theorem dX0_tries_2 : decode cX0_tries 2 = .ok (.iload_n 2, 1) := dk_28 (dk_at dksX0_tries_0 2 rfl rfl)
theorem dX0_tries_3 : decode cX0_tries 3 = .ok (.invokevirtual 379, 3) := dk_182 1 123 (dk_at dksX0_tries_0 3 rfl rfl)
theorem dX0_tries_6 : decode cX0_tries 6 = .ok (.lstore_n 3, 1) := dk_66 (dk_at dksX0_tries_0 6 rfl rfl)
theorem dX0_tries_7 : decode cX0_tries 7 = .ok (.lload_n 3, 1) := dk_33 (dk_at dksX0_tries_0 7 rfl rfl)
theorem dX0_tries_8 : decode cX0_tries 8 = .ok (.aload_n 0, 1) := dk_42 (dk_at dksX0_tries_0 8 rfl rfl)
theorem dX0_tries_9 : decode cX0_tries 9 = .ok (.getfield 382, 3) := dk_180 1 126 (dk_at dksX0_tries_0 9 rfl rfl)
theorem dX0_tries_12 : decode cX0_tries 12 = .ok (.lcmp, 1) := dk_148 (dk_at dksX0_tries_0 12 rfl rfl)
theorem dX0_tries_13 : decode cX0_tries 13 = .ok (.ifCond .ge 4, 3) := dk_156 0 4 (dk_at dksX0_tries_0 13 rfl rfl)
theorem dX0_tries_16 : decode cX0_tries 16 = .ok (.return_, 1) := dk_177 (dk_at dksX0_tries_0 16 rfl rfl)
theorem dX0_tries_17 : decode cX0_tries 17 = .ok (.aload_n 0, 1) := dk_42 (dk_at dksX0_tries_0 17 rfl rfl)
theorem dX0_tries_18 : decode cX0_tries 18 = .ok (.lload_n 3, 1) := dk_33 (dk_at dksX0_tries_0 18 rfl rfl)
theorem dX0_tries_19 : decode cX0_tries 19 = .ok (.aload_n 0, 1) := dk_42 (dk_at dksX0_tries_0 19 rfl rfl)
theorem dX0_tries_20 : decode cX0_tries 20 = .ok (.getfield 382, 3) := dk_180 1 126 (dk_at dksX0_tries_0 20 rfl rfl)
theorem dX0_tries_23 : decode cX0_tries 23 = .ok (.lcmp, 1) := dk_148 (dk_at dksX0_tries_0 23 rfl rfl)
theorem dX0_tries_24 : decode cX0_tries 24 = .ok (.ifCond .ne 12, 3) := dk_154 0 12 (dk_at dksX0_tries_1 0 rfl rfl)
theorem dX0_tries_27 : decode cX0_tries 27 = .ok (.aload_n 0, 1) := dk_42 (dk_at dksX0_tries_1 3 rfl rfl)
theorem dX0_tries_28 : decode cX0_tries 28 = .ok (.getfield 386, 3) := dk_180 1 130 (dk_at dksX0_tries_1 4 rfl rfl)
theorem dX0_tries_31 : decode cX0_tries 31 = .ok (.iconst 1, 1) := dk_4 (dk_at dksX0_tries_1 7 rfl rfl)
theorem dX0_tries_32 : decode cX0_tries 32 = .ok (.iadd, 1) := dk_96 (dk_at dksX0_tries_1 8 rfl rfl)
theorem dX0_tries_33 : decode cX0_tries 33 = .ok (.goto 4, 3) := dk_167 0 4 (dk_at dksX0_tries_1 9 rfl rfl)
theorem dX0_tries_36 : decode cX0_tries 36 = .ok (.iconst 1, 1) := dk_4 (dk_at dksX0_tries_1 12 rfl rfl)
theorem dX0_tries_37 : decode cX0_tries 37 = .ok (.putfield 386, 3) := dk_181 1 130 (dk_at dksX0_tries_1 13 rfl rfl)
theorem dX0_tries_40 : decode cX0_tries 40 = .ok (.lload_n 3, 1) := dk_33 (dk_at dksX0_tries_1 16 rfl rfl)
theorem dX0_tries_41 : decode cX0_tries 41 = .ok (.aload_n 0, 1) := dk_42 (dk_at dksX0_tries_1 17 rfl rfl)
theorem dX0_tries_42 : decode cX0_tries 42 = .ok (.getfield 382, 3) := dk_180 1 126 (dk_at dksX0_tries_1 18 rfl rfl)
theorem dX0_tries_45 : decode cX0_tries 45 = .ok (.lcmp, 1) := dk_148 (dk_at dksX0_tries_1 21 rfl rfl)
theorem dX0_tries_46 : decode cX0_tries 46 = .ok (.ifCond .ne 12, 3) := dk_154 0 12 (dk_at dksX0_tries_2 0 rfl rfl)
theorem dX0_tries_49 : decode cX0_tries 49 = .ok (.aload_n 0, 1) := dk_42 (dk_at dksX0_tries_2 3 rfl rfl)
theorem dX0_tries_50 : decode cX0_tries 50 = .ok (.getfield 389, 3) := dk_180 1 133 (dk_at dksX0_tries_2 4 rfl rfl)
theorem dX0_tries_53 : decode cX0_tries 53 = .ok (.iload_n 1, 1) := dk_27 (dk_at dksX0_tries_2 7 rfl rfl)
theorem dX0_tries_54 : decode cX0_tries 54 = .ok (.if_icmp .gt 4, 3) := dk_163 0 4 (dk_at dksX0_tries_2 8 rfl rfl)
theorem dX0_tries_57 : decode cX0_tries 57 = .ok (.return_, 1) := dk_177 (dk_at dksX0_tries_2 11 rfl rfl)
theorem dX0_tries_58 : decode cX0_tries 58 = .ok (.aload_n 0, 1) := dk_42 (dk_at dksX0_tries_2 12 rfl rfl)
theorem dX0_tries_59 : decode cX0_tries 59 = .ok (.lload_n 3, 1) := dk_33 (dk_at dksX0_tries_2 13 rfl rfl)
theorem dX0_tries_60 : decode cX0_tries 60 = .ok (.putfield 382, 3) := dk_181 1 126 (dk_at dksX0_tries_2 14 rfl rfl)
theorem dX0_tries_63 : decode cX0_tries 63 = .ok (.aload_n 0, 1) := dk_42 (dk_at dksX0_tries_2 17 rfl rfl)
theorem dX0_tries_64 : decode cX0_tries 64 = .ok (.iload_n 1, 1) := dk_27 (dk_at dksX0_tries_2 18 rfl rfl)
theorem dX0_tries_65 : decode cX0_tries 65 = .ok (.putfield 389, 3) := dk_181 1 133 (dk_at dksX0_tries_2 19 rfl rfl)
theorem dX0_tries_68 : decode cX0_tries 68 = .ok (.aload_n 0, 1) := dk_42 (dk_at dksX0_tries_2 22 rfl rfl)
theorem dX0_tries_69 : decode cX0_tries 69 = .ok (.getfield 60, 3) := dk_180 0 60 (dk_at dksX0_tries_3 0 rfl rfl)
theorem dX0_tries_72 : decode cX0_tries 72 = .ok (.iconst 0, 1) := dk_3 (dk_at dksX0_tries_3 3 rfl rfl)
theorem dX0_tries_73 : decode cX0_tries 73 = .ok (.aload_n 0, 1) := dk_42 (dk_at dksX0_tries_3 4 rfl rfl)
theorem dX0_tries_74 : decode cX0_tries 74 = .ok (.getfield 63, 3) := dk_180 0 63 (dk_at dksX0_tries_3 5 rfl rfl)
theorem dX0_tries_77 : decode cX0_tries 77 = .ok (.iconst 0, 1) := dk_3 (dk_at dksX0_tries_3 8 rfl rfl)
theorem dX0_tries_78 : decode cX0_tries 78 = .ok (.iconst 3, 1) := dk_6 (dk_at dksX0_tries_3 9 rfl rfl)
theorem dX0_tries_79 : decode cX0_tries 79 = .ok (.invokestatic 392, 3) := dk_184 1 136 (dk_at dksX0_tries_3 10 rfl rfl)
theorem dX0_tries_82 : decode cX0_tries 82 = .ok (.return_, 1) := dk_177 (dk_at dksX0_tries_3 13 rfl rfl)
abbrev cX0_leftOf : ByteArray := prog_1_method_61_code
def yX0_leftOf : MethodName := ⟨RX0, "leftOf", "(II)J"⟩
def dkwX0_leftOf_4 : List UInt8 := [33, 173]
abbrev dktX0_leftOf_4 : List UInt8 := dkwX0_leftOf_4 ++ []
def dkwX0_leftOf_3 : List UInt8 := [180, 0, 25, 3, 182, 1, 59, 133, 97, 66, 42, 180, 0, 25, 182, 1, 51, 87, 132, 6, 1, 167, 255, 188]
abbrev dktX0_leftOf_3 : List UInt8 := dkwX0_leftOf_3 ++ dktX0_leftOf_4
def dkwX0_leftOf_2 : List UInt8 := [180, 0, 25, 182, 0, 211, 132, 5, 1, 33, 42, 180, 0, 12, 180, 1, 120, 133, 101, 66, 33, 42]
abbrev dktX0_leftOf_2 : List UInt8 := dkwX0_leftOf_2 ++ dktX0_leftOf_3
def dkwX0_leftOf_1 : List UInt8 := [162, 0, 68, 21, 5, 27, 162, 0, 36, 42, 180, 0, 60, 21, 5, 46, 21, 6, 160, 0, 24, 42]
abbrev dktX0_leftOf_1 : List UInt8 := dkwX0_leftOf_1 ++ dktX0_leftOf_2
def dkwX0_leftOf_0 : List UInt8 := [42, 180, 0, 25, 42, 180, 0, 21, 182, 0, 194, 87, 9, 66, 3, 54, 5, 3, 54, 6, 21, 6, 28]
abbrev dktX0_leftOf_0 : List UInt8 := dkwX0_leftOf_0 ++ dktX0_leftOf_1
theorem dksX0_leftOf_0 : cX0_leftOf.data.toList.drop 0 = dktX0_leftOf_0 := by decide +kernel
theorem dksX0_leftOf_1 : cX0_leftOf.data.toList.drop 23 = dktX0_leftOf_1 := dk_seg dksX0_leftOf_0 23 rfl rfl
theorem dksX0_leftOf_2 : cX0_leftOf.data.toList.drop 45 = dktX0_leftOf_2 := dk_seg dksX0_leftOf_1 22 rfl rfl
theorem dksX0_leftOf_3 : cX0_leftOf.data.toList.drop 67 = dktX0_leftOf_3 := dk_seg dksX0_leftOf_2 22 rfl rfl
theorem dksX0_leftOf_4 : cX0_leftOf.data.toList.drop 91 = dktX0_leftOf_4 := dk_seg dksX0_leftOf_3 24 rfl rfl
theorem dX0_leftOf_0 : decode cX0_leftOf 0 = .ok (.aload_n 0, 1) := dk_42 (dk_at dksX0_leftOf_0 0 rfl rfl)
theorem dX0_leftOf_1 : decode cX0_leftOf 1 = .ok (.getfield 25, 3) := dk_180 0 25 (dk_at dksX0_leftOf_0 1 rfl rfl)
theorem dX0_leftOf_4 : decode cX0_leftOf 4 = .ok (.aload_n 0, 1) := dk_42 (dk_at dksX0_leftOf_0 4 rfl rfl)
theorem dX0_leftOf_5 : decode cX0_leftOf 5 = .ok (.getfield 21, 3) := dk_180 0 21 (dk_at dksX0_leftOf_0 5 rfl rfl)
theorem dX0_leftOf_8 : decode cX0_leftOf 8 = .ok (.invokevirtual 194, 3) := dk_182 0 194 (dk_at dksX0_leftOf_0 8 rfl rfl)
theorem dX0_leftOf_11 : decode cX0_leftOf 11 = .ok (.pop, 1) := dk_87 (dk_at dksX0_leftOf_0 11 rfl rfl)
theorem dX0_leftOf_12 : decode cX0_leftOf 12 = .ok (.lconst 0, 1) := dk_9 (dk_at dksX0_leftOf_0 12 rfl rfl)
theorem dX0_leftOf_13 : decode cX0_leftOf 13 = .ok (.lstore_n 3, 1) := dk_66 (dk_at dksX0_leftOf_0 13 rfl rfl)
theorem dX0_leftOf_14 : decode cX0_leftOf 14 = .ok (.iconst 0, 1) := dk_3 (dk_at dksX0_leftOf_0 14 rfl rfl)
theorem dX0_leftOf_15 : decode cX0_leftOf 15 = .ok (.istore 5, 2) := dk_54 5 (dk_at dksX0_leftOf_0 15 rfl rfl)
theorem dX0_leftOf_17 : decode cX0_leftOf 17 = .ok (.iconst 0, 1) := dk_3 (dk_at dksX0_leftOf_0 17 rfl rfl)
theorem dX0_leftOf_18 : decode cX0_leftOf 18 = .ok (.istore 6, 2) := dk_54 6 (dk_at dksX0_leftOf_0 18 rfl rfl)
theorem dX0_leftOf_20 : decode cX0_leftOf 20 = .ok (.iload 6, 2) := dk_21 6 (dk_at dksX0_leftOf_0 20 rfl rfl)
theorem dX0_leftOf_22 : decode cX0_leftOf 22 = .ok (.iload_n 2, 1) := dk_28 (dk_at dksX0_leftOf_0 22 rfl rfl)
theorem dX0_leftOf_23 : decode cX0_leftOf 23 = .ok (.if_icmp .ge 68, 3) := dk_162 0 68 (dk_at dksX0_leftOf_1 0 rfl rfl)
theorem dX0_leftOf_26 : decode cX0_leftOf 26 = .ok (.iload 5, 2) := dk_21 5 (dk_at dksX0_leftOf_1 3 rfl rfl)
theorem dX0_leftOf_28 : decode cX0_leftOf 28 = .ok (.iload_n 1, 1) := dk_27 (dk_at dksX0_leftOf_1 5 rfl rfl)
theorem dX0_leftOf_29 : decode cX0_leftOf 29 = .ok (.if_icmp .ge 36, 3) := dk_162 0 36 (dk_at dksX0_leftOf_1 6 rfl rfl)
theorem dX0_leftOf_32 : decode cX0_leftOf 32 = .ok (.aload_n 0, 1) := dk_42 (dk_at dksX0_leftOf_1 9 rfl rfl)
theorem dX0_leftOf_33 : decode cX0_leftOf 33 = .ok (.getfield 60, 3) := dk_180 0 60 (dk_at dksX0_leftOf_1 10 rfl rfl)
theorem dX0_leftOf_36 : decode cX0_leftOf 36 = .ok (.iload 5, 2) := dk_21 5 (dk_at dksX0_leftOf_1 13 rfl rfl)
theorem dX0_leftOf_38 : decode cX0_leftOf 38 = .ok (.iaload, 1) := dk_46 (dk_at dksX0_leftOf_1 15 rfl rfl)
theorem dX0_leftOf_39 : decode cX0_leftOf 39 = .ok (.iload 6, 2) := dk_21 6 (dk_at dksX0_leftOf_1 16 rfl rfl)
theorem dX0_leftOf_41 : decode cX0_leftOf 41 = .ok (.if_icmp .ne 24, 3) := dk_160 0 24 (dk_at dksX0_leftOf_1 18 rfl rfl)
theorem dX0_leftOf_44 : decode cX0_leftOf 44 = .ok (.aload_n 0, 1) := dk_42 (dk_at dksX0_leftOf_1 21 rfl rfl)
theorem dX0_leftOf_45 : decode cX0_leftOf 45 = .ok (.getfield 25, 3) := dk_180 0 25 (dk_at dksX0_leftOf_2 0 rfl rfl)
theorem dX0_leftOf_48 : decode cX0_leftOf 48 = .ok (.invokevirtual 211, 3) := dk_182 0 211 (dk_at dksX0_leftOf_2 3 rfl rfl)
theorem dX0_leftOf_51 : decode cX0_leftOf 51 = .ok (.iinc 5 1, 3) := dk_132 5 1 (dk_at dksX0_leftOf_2 6 rfl rfl)
theorem dX0_leftOf_54 : decode cX0_leftOf 54 = .ok (.lload_n 3, 1) := dk_33 (dk_at dksX0_leftOf_2 9 rfl rfl)
theorem dX0_leftOf_55 : decode cX0_leftOf 55 = .ok (.aload_n 0, 1) := dk_42 (dk_at dksX0_leftOf_2 10 rfl rfl)
theorem dX0_leftOf_56 : decode cX0_leftOf 56 = .ok (.getfield 12, 3) := dk_180 0 12 (dk_at dksX0_leftOf_2 11 rfl rfl)
theorem dX0_leftOf_59 : decode cX0_leftOf 59 = .ok (.getfield 376, 3) := dk_180 1 120 (dk_at dksX0_leftOf_2 14 rfl rfl)
theorem dX0_leftOf_62 : decode cX0_leftOf 62 = .ok (.i2l, 1) := dk_133 (dk_at dksX0_leftOf_2 17 rfl rfl)
theorem dX0_leftOf_63 : decode cX0_leftOf 63 = .ok (.lsub, 1) := dk_101 (dk_at dksX0_leftOf_2 18 rfl rfl)
theorem dX0_leftOf_64 : decode cX0_leftOf 64 = .ok (.lstore_n 3, 1) := dk_66 (dk_at dksX0_leftOf_2 19 rfl rfl)
theorem dX0_leftOf_65 : decode cX0_leftOf 65 = .ok (.lload_n 3, 1) := dk_33 (dk_at dksX0_leftOf_2 20 rfl rfl)
theorem dX0_leftOf_66 : decode cX0_leftOf 66 = .ok (.aload_n 0, 1) := dk_42 (dk_at dksX0_leftOf_2 21 rfl rfl)
theorem dX0_leftOf_67 : decode cX0_leftOf 67 = .ok (.getfield 25, 3) := dk_180 0 25 (dk_at dksX0_leftOf_3 0 rfl rfl)
theorem dX0_leftOf_70 : decode cX0_leftOf 70 = .ok (.iconst 0, 1) := dk_3 (dk_at dksX0_leftOf_3 3 rfl rfl)
theorem dX0_leftOf_71 : decode cX0_leftOf 71 = .ok (.invokevirtual 315, 3) := dk_182 1 59 (dk_at dksX0_leftOf_3 4 rfl rfl)
theorem dX0_leftOf_74 : decode cX0_leftOf 74 = .ok (.i2l, 1) := dk_133 (dk_at dksX0_leftOf_3 7 rfl rfl)
theorem dX0_leftOf_75 : decode cX0_leftOf 75 = .ok (.ladd, 1) := dk_97 (dk_at dksX0_leftOf_3 8 rfl rfl)
theorem dX0_leftOf_76 : decode cX0_leftOf 76 = .ok (.lstore_n 3, 1) := dk_66 (dk_at dksX0_leftOf_3 9 rfl rfl)
theorem dX0_leftOf_77 : decode cX0_leftOf 77 = .ok (.aload_n 0, 1) := dk_42 (dk_at dksX0_leftOf_3 10 rfl rfl)
theorem dX0_leftOf_78 : decode cX0_leftOf 78 = .ok (.getfield 25, 3) := dk_180 0 25 (dk_at dksX0_leftOf_3 11 rfl rfl)
theorem dX0_leftOf_81 : decode cX0_leftOf 81 = .ok (.invokevirtual 307, 3) := dk_182 1 51 (dk_at dksX0_leftOf_3 14 rfl rfl)
theorem dX0_leftOf_84 : decode cX0_leftOf 84 = .ok (.pop, 1) := dk_87 (dk_at dksX0_leftOf_3 17 rfl rfl)
theorem dX0_leftOf_85 : decode cX0_leftOf 85 = .ok (.iinc 6 1, 3) := dk_132 6 1 (dk_at dksX0_leftOf_3 18 rfl rfl)
theorem dX0_leftOf_88 : decode cX0_leftOf 88 = .ok (.goto (-68), 3) := dk_167 255 188 (dk_at dksX0_leftOf_3 21 rfl rfl)
theorem dX0_leftOf_91 : decode cX0_leftOf 91 = .ok (.lload_n 3, 1) := dk_33 (dk_at dksX0_leftOf_4 0 rfl rfl)
theorem dX0_leftOf_92 : decode cX0_leftOf 92 = .ok (.lreturn, 1) := dk_173 (dk_at dksX0_leftOf_4 1 rfl rfl)
abbrev cX0_buildings : ByteArray := prog_1_method_67_code
def yX0_buildings : MethodName := ⟨RX0, "buildings", "(II)I"⟩
def dkwX0_buildings_0 : List UInt8 := [27, 28, 184, 1, 155, 154, 0, 6, 16, 253, 172, 42, 27, 28, 182, 1, 158, 42, 180, 1, 130, 172]
abbrev dktX0_buildings_0 : List UInt8 := dkwX0_buildings_0 ++ []
theorem dksX0_buildings_0 : cX0_buildings.data.toList.drop 0 = dktX0_buildings_0 := by decide +kernel
theorem dX0_buildings_0 : decode cX0_buildings 0 = .ok (.iload_n 1, 1) := dk_27 (dk_at dksX0_buildings_0 0 rfl rfl)
theorem dX0_buildings_1 : decode cX0_buildings 1 = .ok (.iload_n 2, 1) := dk_28 (dk_at dksX0_buildings_0 1 rfl rfl)
theorem dX0_buildings_2 : decode cX0_buildings 2 = .ok (.invokestatic 411, 3) := dk_184 1 155 (dk_at dksX0_buildings_0 2 rfl rfl)
theorem dX0_buildings_5 : decode cX0_buildings 5 = .ok (.ifCond .ne 6, 3) := dk_154 0 6 (dk_at dksX0_buildings_0 5 rfl rfl)
theorem dX0_buildings_8 : decode cX0_buildings 8 = .ok (.bipush (-3), 2) := dk_16 253 (dk_at dksX0_buildings_0 8 rfl rfl)
theorem dX0_buildings_10 : decode cX0_buildings 10 = .ok (.ireturn, 1) := dk_172 (dk_at dksX0_buildings_0 10 rfl rfl)
theorem dX0_buildings_11 : decode cX0_buildings 11 = .ok (.aload_n 0, 1) := dk_42 (dk_at dksX0_buildings_0 11 rfl rfl)
theorem dX0_buildings_12 : decode cX0_buildings 12 = .ok (.iload_n 1, 1) := dk_27 (dk_at dksX0_buildings_0 12 rfl rfl)
theorem dX0_buildings_13 : decode cX0_buildings 13 = .ok (.iload_n 2, 1) := dk_28 (dk_at dksX0_buildings_0 13 rfl rfl)
theorem dX0_buildings_14 : decode cX0_buildings 14 = .ok (.invokevirtual 414, 3) := dk_182 1 158 (dk_at dksX0_buildings_0 14 rfl rfl)
theorem dX0_buildings_17 : decode cX0_buildings 17 = .ok (.aload_n 0, 1) := dk_42 (dk_at dksX0_buildings_0 17 rfl rfl)
theorem dX0_buildings_18 : decode cX0_buildings 18 = .ok (.getfield 386, 3) := dk_180 1 130 (dk_at dksX0_buildings_0 18 rfl rfl)
theorem dX0_buildings_21 : decode cX0_buildings 21 = .ok (.ireturn, 1) := dk_172 (dk_at dksX0_buildings_0 21 rfl rfl)
abbrev cX0_marks : ByteArray := prog_1_method_72_code
def yX0_marks : MethodName := ⟨RX0, "marks", "(I)I"⟩
def dkwX0_marks_1 : List UInt8 := [172]
abbrev dktX0_marks_1 : List UInt8 := dkwX0_marks_1 ++ []
def dkwX0_marks_0 : List UInt8 := [42, 27, 182, 1, 174, 61, 28, 153, 0, 7, 28, 167, 0, 13, 42, 42, 180, 0, 86, 27, 50, 182, 1, 177]
abbrev dktX0_marks_0 : List UInt8 := dkwX0_marks_0 ++ dktX0_marks_1
theorem dksX0_marks_0 : cX0_marks.data.toList.drop 0 = dktX0_marks_0 := by decide +kernel
theorem dksX0_marks_1 : cX0_marks.data.toList.drop 24 = dktX0_marks_1 := dk_seg dksX0_marks_0 24 rfl rfl
theorem dX0_marks_0 : decode cX0_marks 0 = .ok (.aload_n 0, 1) := dk_42 (dk_at dksX0_marks_0 0 rfl rfl)
theorem dX0_marks_1 : decode cX0_marks 1 = .ok (.iload_n 1, 1) := dk_27 (dk_at dksX0_marks_0 1 rfl rfl)
theorem dX0_marks_2 : decode cX0_marks 2 = .ok (.invokevirtual 430, 3) := dk_182 1 174 (dk_at dksX0_marks_0 2 rfl rfl)
theorem dX0_marks_5 : decode cX0_marks 5 = .ok (.istore_n 2, 1) := dk_61 (dk_at dksX0_marks_0 5 rfl rfl)
theorem dX0_marks_6 : decode cX0_marks 6 = .ok (.iload_n 2, 1) := dk_28 (dk_at dksX0_marks_0 6 rfl rfl)
theorem dX0_marks_7 : decode cX0_marks 7 = .ok (.ifCond .eq 7, 3) := dk_153 0 7 (dk_at dksX0_marks_0 7 rfl rfl)
theorem dX0_marks_10 : decode cX0_marks 10 = .ok (.iload_n 2, 1) := dk_28 (dk_at dksX0_marks_0 10 rfl rfl)
theorem dX0_marks_11 : decode cX0_marks 11 = .ok (.goto 13, 3) := dk_167 0 13 (dk_at dksX0_marks_0 11 rfl rfl)
theorem dX0_marks_14 : decode cX0_marks 14 = .ok (.aload_n 0, 1) := dk_42 (dk_at dksX0_marks_0 14 rfl rfl)
theorem dX0_marks_15 : decode cX0_marks 15 = .ok (.aload_n 0, 1) := dk_42 (dk_at dksX0_marks_0 15 rfl rfl)
theorem dX0_marks_16 : decode cX0_marks 16 = .ok (.getfield 86, 3) := dk_180 0 86 (dk_at dksX0_marks_0 16 rfl rfl)
theorem dX0_marks_19 : decode cX0_marks 19 = .ok (.iload_n 1, 1) := dk_27 (dk_at dksX0_marks_0 19 rfl rfl)
theorem dX0_marks_20 : decode cX0_marks 20 = .ok (.aaload, 1) := dk_50 (dk_at dksX0_marks_0 20 rfl rfl)
theorem dX0_marks_21 : decode cX0_marks 21 = .ok (.invokevirtual 433, 3) := dk_182 1 177 (dk_at dksX0_marks_0 21 rfl rfl)
theorem dX0_marks_24 : decode cX0_marks 24 = .ok (.ireturn, 1) := dk_172 (dk_at dksX0_marks_1 0 rfl rfl)
abbrev cX0_marksFault : ByteArray := prog_1_method_68_code
def yX0_marksFault : MethodName := ⟨RX0, "marksFault", "(I)I"⟩
def dkwX0_marksFault_4 : List UInt8 := [154, 0, 6, 16, 253, 172, 132, 3, 2, 167, 255, 210, 3, 172]
abbrev dktX0_marksFault_4 : List UInt8 := dkwX0_marksFault_4 ++ []
def dkwX0_marksFault_3 : List UInt8 := [10, 20, 1, 65, 184, 0, 108, 153, 0, 20, 44, 29, 4, 96, 182, 0, 230, 9, 20, 1, 165, 184, 0, 108]
abbrev dktX0_marksFault_3 : List UInt8 := dkwX0_marksFault_3 ++ dktX0_marksFault_4
def dkwX0_marksFault_2 : List UInt8 := [184, 0, 108, 154, 0, 6, 16, 252, 172, 3, 62, 29, 44, 182, 0, 227, 162, 0, 44, 44, 29, 182, 0, 230]
abbrev dktX0_marksFault_2 : List UInt8 := dkwX0_marksFault_2 ++ dktX0_marksFault_3
def dkwX0_marksFault_1 : List UInt8 := [16, 250, 172, 44, 182, 0, 227, 5, 112, 4, 159, 0, 20, 44, 182, 0, 227, 133, 20, 0, 148, 20, 1, 163]
abbrev dktX0_marksFault_1 : List UInt8 := dkwX0_marksFault_1 ++ dktX0_marksFault_2
def dkwX0_marksFault_0 : List UInt8 := [27, 184, 0, 240, 154, 0, 6, 16, 254, 172, 42, 180, 0, 86, 27, 50, 77, 44, 180, 0, 245, 199, 0, 6]
abbrev dktX0_marksFault_0 : List UInt8 := dkwX0_marksFault_0 ++ dktX0_marksFault_1
theorem dksX0_marksFault_0 : cX0_marksFault.data.toList.drop 0 = dktX0_marksFault_0 := by decide +kernel
theorem dksX0_marksFault_1 : cX0_marksFault.data.toList.drop 24 = dktX0_marksFault_1 := dk_seg dksX0_marksFault_0 24 rfl rfl
theorem dksX0_marksFault_2 : cX0_marksFault.data.toList.drop 48 = dktX0_marksFault_2 := dk_seg dksX0_marksFault_1 24 rfl rfl
theorem dksX0_marksFault_3 : cX0_marksFault.data.toList.drop 72 = dktX0_marksFault_3 := dk_seg dksX0_marksFault_2 24 rfl rfl
theorem dksX0_marksFault_4 : cX0_marksFault.data.toList.drop 96 = dktX0_marksFault_4 := dk_seg dksX0_marksFault_3 24 rfl rfl
theorem dX0_marksFault_0 : decode cX0_marksFault 0 = .ok (.iload_n 1, 1) := dk_27 (dk_at dksX0_marksFault_0 0 rfl rfl)
theorem dX0_marksFault_1 : decode cX0_marksFault 1 = .ok (.invokestatic 240, 3) := dk_184 0 240 (dk_at dksX0_marksFault_0 1 rfl rfl)
theorem dX0_marksFault_4 : decode cX0_marksFault 4 = .ok (.ifCond .ne 6, 3) := dk_154 0 6 (dk_at dksX0_marksFault_0 4 rfl rfl)
theorem dX0_marksFault_7 : decode cX0_marksFault 7 = .ok (.bipush (-2), 2) := dk_16 254 (dk_at dksX0_marksFault_0 7 rfl rfl)
theorem dX0_marksFault_9 : decode cX0_marksFault 9 = .ok (.ireturn, 1) := dk_172 (dk_at dksX0_marksFault_0 9 rfl rfl)
theorem dX0_marksFault_10 : decode cX0_marksFault 10 = .ok (.aload_n 0, 1) := dk_42 (dk_at dksX0_marksFault_0 10 rfl rfl)
theorem dX0_marksFault_11 : decode cX0_marksFault 11 = .ok (.getfield 86, 3) := dk_180 0 86 (dk_at dksX0_marksFault_0 11 rfl rfl)
theorem dX0_marksFault_14 : decode cX0_marksFault 14 = .ok (.iload_n 1, 1) := dk_27 (dk_at dksX0_marksFault_0 14 rfl rfl)
theorem dX0_marksFault_15 : decode cX0_marksFault 15 = .ok (.aaload, 1) := dk_50 (dk_at dksX0_marksFault_0 15 rfl rfl)
theorem dX0_marksFault_16 : decode cX0_marksFault 16 = .ok (.astore_n 2, 1) := dk_77 (dk_at dksX0_marksFault_0 16 rfl rfl)
theorem dX0_marksFault_17 : decode cX0_marksFault 17 = .ok (.aload_n 2, 1) := dk_44 (dk_at dksX0_marksFault_0 17 rfl rfl)
theorem dX0_marksFault_18 : decode cX0_marksFault 18 = .ok (.getfield 245, 3) := dk_180 0 245 (dk_at dksX0_marksFault_0 18 rfl rfl)
theorem dX0_marksFault_21 : decode cX0_marksFault 21 = .ok (.ifnonnull 6, 3) := dk_199 0 6 (dk_at dksX0_marksFault_0 21 rfl rfl)
theorem dX0_marksFault_24 : decode cX0_marksFault 24 = .ok (.bipush (-6), 2) := dk_16 250 (dk_at dksX0_marksFault_1 0 rfl rfl)
theorem dX0_marksFault_26 : decode cX0_marksFault 26 = .ok (.ireturn, 1) := dk_172 (dk_at dksX0_marksFault_1 2 rfl rfl)
theorem dX0_marksFault_27 : decode cX0_marksFault 27 = .ok (.aload_n 2, 1) := dk_44 (dk_at dksX0_marksFault_1 3 rfl rfl)
theorem dX0_marksFault_28 : decode cX0_marksFault 28 = .ok (.invokevirtual 227, 3) := dk_182 0 227 (dk_at dksX0_marksFault_1 4 rfl rfl)
theorem dX0_marksFault_31 : decode cX0_marksFault 31 = .ok (.iconst 2, 1) := dk_5 (dk_at dksX0_marksFault_1 7 rfl rfl)
theorem dX0_marksFault_32 : decode cX0_marksFault 32 = .ok (.irem, 1) := dk_112 (dk_at dksX0_marksFault_1 8 rfl rfl)
theorem dX0_marksFault_33 : decode cX0_marksFault 33 = .ok (.iconst 1, 1) := dk_4 (dk_at dksX0_marksFault_1 9 rfl rfl)
theorem dX0_marksFault_34 : decode cX0_marksFault 34 = .ok (.if_icmp .eq 20, 3) := dk_159 0 20 (dk_at dksX0_marksFault_1 10 rfl rfl)
theorem dX0_marksFault_37 : decode cX0_marksFault 37 = .ok (.aload_n 2, 1) := dk_44 (dk_at dksX0_marksFault_1 13 rfl rfl)
theorem dX0_marksFault_38 : decode cX0_marksFault 38 = .ok (.invokevirtual 227, 3) := dk_182 0 227 (dk_at dksX0_marksFault_1 14 rfl rfl)
theorem dX0_marksFault_41 : decode cX0_marksFault 41 = .ok (.i2l, 1) := dk_133 (dk_at dksX0_marksFault_1 17 rfl rfl)
theorem dX0_marksFault_42 : decode cX0_marksFault 42 = .ok (.ldc2_w 148, 3) := dk_20 0 148 (dk_at dksX0_marksFault_1 18 rfl rfl)
theorem dX0_marksFault_45 : decode cX0_marksFault 45 = .ok (.ldc2_w 419, 3) := dk_20 1 163 (dk_at dksX0_marksFault_1 21 rfl rfl)
theorem dX0_marksFault_48 : decode cX0_marksFault 48 = .ok (.invokestatic 108, 3) := dk_184 0 108 (dk_at dksX0_marksFault_2 0 rfl rfl)
theorem dX0_marksFault_51 : decode cX0_marksFault 51 = .ok (.ifCond .ne 6, 3) := dk_154 0 6 (dk_at dksX0_marksFault_2 3 rfl rfl)
theorem dX0_marksFault_54 : decode cX0_marksFault 54 = .ok (.bipush (-4), 2) := dk_16 252 (dk_at dksX0_marksFault_2 6 rfl rfl)
theorem dX0_marksFault_56 : decode cX0_marksFault 56 = .ok (.ireturn, 1) := dk_172 (dk_at dksX0_marksFault_2 8 rfl rfl)
theorem dX0_marksFault_57 : decode cX0_marksFault 57 = .ok (.iconst 0, 1) := dk_3 (dk_at dksX0_marksFault_2 9 rfl rfl)
theorem dX0_marksFault_58 : decode cX0_marksFault 58 = .ok (.istore_n 3, 1) := dk_62 (dk_at dksX0_marksFault_2 10 rfl rfl)
theorem dX0_marksFault_59 : decode cX0_marksFault 59 = .ok (.iload_n 3, 1) := dk_29 (dk_at dksX0_marksFault_2 11 rfl rfl)
theorem dX0_marksFault_60 : decode cX0_marksFault 60 = .ok (.aload_n 2, 1) := dk_44 (dk_at dksX0_marksFault_2 12 rfl rfl)
theorem dX0_marksFault_61 : decode cX0_marksFault 61 = .ok (.invokevirtual 227, 3) := dk_182 0 227 (dk_at dksX0_marksFault_2 13 rfl rfl)
theorem dX0_marksFault_64 : decode cX0_marksFault 64 = .ok (.if_icmp .ge 44, 3) := dk_162 0 44 (dk_at dksX0_marksFault_2 16 rfl rfl)
theorem dX0_marksFault_67 : decode cX0_marksFault 67 = .ok (.aload_n 2, 1) := dk_44 (dk_at dksX0_marksFault_2 19 rfl rfl)
theorem dX0_marksFault_68 : decode cX0_marksFault 68 = .ok (.iload_n 3, 1) := dk_29 (dk_at dksX0_marksFault_2 20 rfl rfl)
theorem dX0_marksFault_69 : decode cX0_marksFault 69 = .ok (.invokevirtual 230, 3) := dk_182 0 230 (dk_at dksX0_marksFault_2 21 rfl rfl)
theorem dX0_marksFault_72 : decode cX0_marksFault 72 = .ok (.lconst 1, 1) := dk_10 (dk_at dksX0_marksFault_3 0 rfl rfl)
theorem dX0_marksFault_73 : decode cX0_marksFault 73 = .ok (.ldc2_w 321, 3) := dk_20 1 65 (dk_at dksX0_marksFault_3 1 rfl rfl)
theorem dX0_marksFault_76 : decode cX0_marksFault 76 = .ok (.invokestatic 108, 3) := dk_184 0 108 (dk_at dksX0_marksFault_3 4 rfl rfl)
theorem dX0_marksFault_79 : decode cX0_marksFault 79 = .ok (.ifCond .eq 20, 3) := dk_153 0 20 (dk_at dksX0_marksFault_3 7 rfl rfl)
theorem dX0_marksFault_82 : decode cX0_marksFault 82 = .ok (.aload_n 2, 1) := dk_44 (dk_at dksX0_marksFault_3 10 rfl rfl)
theorem dX0_marksFault_83 : decode cX0_marksFault 83 = .ok (.iload_n 3, 1) := dk_29 (dk_at dksX0_marksFault_3 11 rfl rfl)
theorem dX0_marksFault_84 : decode cX0_marksFault 84 = .ok (.iconst 1, 1) := dk_4 (dk_at dksX0_marksFault_3 12 rfl rfl)
theorem dX0_marksFault_85 : decode cX0_marksFault 85 = .ok (.iadd, 1) := dk_96 (dk_at dksX0_marksFault_3 13 rfl rfl)
theorem dX0_marksFault_86 : decode cX0_marksFault 86 = .ok (.invokevirtual 230, 3) := dk_182 0 230 (dk_at dksX0_marksFault_3 14 rfl rfl)
theorem dX0_marksFault_89 : decode cX0_marksFault 89 = .ok (.lconst 0, 1) := dk_9 (dk_at dksX0_marksFault_3 17 rfl rfl)
theorem dX0_marksFault_90 : decode cX0_marksFault 90 = .ok (.ldc2_w 421, 3) := dk_20 1 165 (dk_at dksX0_marksFault_3 18 rfl rfl)
theorem dX0_marksFault_93 : decode cX0_marksFault 93 = .ok (.invokestatic 108, 3) := dk_184 0 108 (dk_at dksX0_marksFault_3 21 rfl rfl)
theorem dX0_marksFault_96 : decode cX0_marksFault 96 = .ok (.ifCond .ne 6, 3) := dk_154 0 6 (dk_at dksX0_marksFault_4 0 rfl rfl)
theorem dX0_marksFault_99 : decode cX0_marksFault 99 = .ok (.bipush (-3), 2) := dk_16 253 (dk_at dksX0_marksFault_4 3 rfl rfl)
theorem dX0_marksFault_101 : decode cX0_marksFault 101 = .ok (.ireturn, 1) := dk_172 (dk_at dksX0_marksFault_4 5 rfl rfl)
theorem dX0_marksFault_102 : decode cX0_marksFault 102 = .ok (.iinc 3 2, 3) := dk_132 3 2 (dk_at dksX0_marksFault_4 6 rfl rfl)
theorem dX0_marksFault_105 : decode cX0_marksFault 105 = .ok (.goto (-46), 3) := dk_167 255 210 (dk_at dksX0_marksFault_4 9 rfl rfl)
theorem dX0_marksFault_108 : decode cX0_marksFault 108 = .ok (.iconst 0, 1) := dk_3 (dk_at dksX0_marksFault_4 12 rfl rfl)
theorem dX0_marksFault_109 : decode cX0_marksFault 109 = .ok (.ireturn, 1) := dk_172 (dk_at dksX0_marksFault_4 13 rfl rfl)
abbrev cX0_laysHidden : ByteArray := prog_1_method_71_code
def yX0_laysHidden : MethodName := ⟨RX0, "laysHidden", "(LSunkTower$Numbers;)I"⟩
def dkwX0_laysHidden_3 : List UInt8 := [180, 0, 69, 28, 29, 79, 132, 2, 1, 132, 3, 1, 167, 255, 178, 28, 172]
abbrev dktX0_laysHidden_3 : List UInt8 := dkwX0_laysHidden_3 ++ []
def dkwX0_laysHidden_2 : List UInt8 := [4, 167, 0, 4, 3, 54, 4, 132, 5, 1, 167, 255, 220, 21, 4, 154, 0, 6, 167, 0, 13, 42]
abbrev dktX0_laysHidden_2 : List UInt8 := dkwX0_laysHidden_2 ++ dktX0_laysHidden_3
def dkwX0_laysHidden_1 : List UInt8 := [43, 182, 0, 227, 5, 108, 162, 0, 31, 21, 4, 153, 0, 17, 42, 43, 21, 5, 182, 1, 170, 153, 0, 7]
abbrev dktX0_laysHidden_1 : List UInt8 := dkwX0_laysHidden_1 ++ dktX0_laysHidden_2
def dkwX0_laysHidden_0 : List UInt8 := [3, 61, 3, 62, 29, 17, 3, 231, 163, 0, 77, 42, 29, 182, 1, 167, 4, 54, 4, 3, 54, 5, 21, 5]
abbrev dktX0_laysHidden_0 : List UInt8 := dkwX0_laysHidden_0 ++ dktX0_laysHidden_1
theorem dksX0_laysHidden_0 : cX0_laysHidden.data.toList.drop 0 = dktX0_laysHidden_0 := by decide +kernel
theorem dksX0_laysHidden_1 : cX0_laysHidden.data.toList.drop 24 = dktX0_laysHidden_1 := dk_seg dksX0_laysHidden_0 24 rfl rfl
theorem dksX0_laysHidden_2 : cX0_laysHidden.data.toList.drop 48 = dktX0_laysHidden_2 := dk_seg dksX0_laysHidden_1 24 rfl rfl
theorem dksX0_laysHidden_3 : cX0_laysHidden.data.toList.drop 70 = dktX0_laysHidden_3 := dk_seg dksX0_laysHidden_2 22 rfl rfl
theorem dX0_laysHidden_0 : decode cX0_laysHidden 0 = .ok (.iconst 0, 1) := dk_3 (dk_at dksX0_laysHidden_0 0 rfl rfl)
theorem dX0_laysHidden_1 : decode cX0_laysHidden 1 = .ok (.istore_n 2, 1) := dk_61 (dk_at dksX0_laysHidden_0 1 rfl rfl)
theorem dX0_laysHidden_2 : decode cX0_laysHidden 2 = .ok (.iconst 0, 1) := dk_3 (dk_at dksX0_laysHidden_0 2 rfl rfl)
theorem dX0_laysHidden_3 : decode cX0_laysHidden 3 = .ok (.istore_n 3, 1) := dk_62 (dk_at dksX0_laysHidden_0 3 rfl rfl)
theorem dX0_laysHidden_4 : decode cX0_laysHidden 4 = .ok (.iload_n 3, 1) := dk_29 (dk_at dksX0_laysHidden_0 4 rfl rfl)
theorem dX0_laysHidden_5 : decode cX0_laysHidden 5 = .ok (.sipush 999, 3) := dk_17 3 231 (dk_at dksX0_laysHidden_0 5 rfl rfl)
theorem dX0_laysHidden_8 : decode cX0_laysHidden 8 = .ok (.if_icmp .gt 77, 3) := dk_163 0 77 (dk_at dksX0_laysHidden_0 8 rfl rfl)
theorem dX0_laysHidden_11 : decode cX0_laysHidden 11 = .ok (.aload_n 0, 1) := dk_42 (dk_at dksX0_laysHidden_0 11 rfl rfl)
theorem dX0_laysHidden_12 : decode cX0_laysHidden 12 = .ok (.iload_n 3, 1) := dk_29 (dk_at dksX0_laysHidden_0 12 rfl rfl)
theorem dX0_laysHidden_13 : decode cX0_laysHidden 13 = .ok (.invokevirtual 423, 3) := dk_182 1 167 (dk_at dksX0_laysHidden_0 13 rfl rfl)
theorem dX0_laysHidden_16 : decode cX0_laysHidden 16 = .ok (.iconst 1, 1) := dk_4 (dk_at dksX0_laysHidden_0 16 rfl rfl)
theorem dX0_laysHidden_17 : decode cX0_laysHidden 17 = .ok (.istore 4, 2) := dk_54 4 (dk_at dksX0_laysHidden_0 17 rfl rfl)
theorem dX0_laysHidden_19 : decode cX0_laysHidden 19 = .ok (.iconst 0, 1) := dk_3 (dk_at dksX0_laysHidden_0 19 rfl rfl)
theorem dX0_laysHidden_20 : decode cX0_laysHidden 20 = .ok (.istore 5, 2) := dk_54 5 (dk_at dksX0_laysHidden_0 20 rfl rfl)
theorem dX0_laysHidden_22 : decode cX0_laysHidden 22 = .ok (.iload 5, 2) := dk_21 5 (dk_at dksX0_laysHidden_0 22 rfl rfl)
theorem dX0_laysHidden_24 : decode cX0_laysHidden 24 = .ok (.aload_n 1, 1) := dk_43 (dk_at dksX0_laysHidden_1 0 rfl rfl)
theorem dX0_laysHidden_25 : decode cX0_laysHidden 25 = .ok (.invokevirtual 227, 3) := dk_182 0 227 (dk_at dksX0_laysHidden_1 1 rfl rfl)
theorem dX0_laysHidden_28 : decode cX0_laysHidden 28 = .ok (.iconst 2, 1) := dk_5 (dk_at dksX0_laysHidden_1 4 rfl rfl)
theorem dX0_laysHidden_29 : decode cX0_laysHidden 29 = .ok (.idiv, 1) := dk_108 (dk_at dksX0_laysHidden_1 5 rfl rfl)
theorem dX0_laysHidden_30 : decode cX0_laysHidden 30 = .ok (.if_icmp .ge 31, 3) := dk_162 0 31 (dk_at dksX0_laysHidden_1 6 rfl rfl)
theorem dX0_laysHidden_33 : decode cX0_laysHidden 33 = .ok (.iload 4, 2) := dk_21 4 (dk_at dksX0_laysHidden_1 9 rfl rfl)
theorem dX0_laysHidden_35 : decode cX0_laysHidden 35 = .ok (.ifCond .eq 17, 3) := dk_153 0 17 (dk_at dksX0_laysHidden_1 11 rfl rfl)
theorem dX0_laysHidden_38 : decode cX0_laysHidden 38 = .ok (.aload_n 0, 1) := dk_42 (dk_at dksX0_laysHidden_1 14 rfl rfl)
theorem dX0_laysHidden_39 : decode cX0_laysHidden 39 = .ok (.aload_n 1, 1) := dk_43 (dk_at dksX0_laysHidden_1 15 rfl rfl)
theorem dX0_laysHidden_40 : decode cX0_laysHidden 40 = .ok (.iload 5, 2) := dk_21 5 (dk_at dksX0_laysHidden_1 16 rfl rfl)
theorem dX0_laysHidden_42 : decode cX0_laysHidden 42 = .ok (.invokevirtual 426, 3) := dk_182 1 170 (dk_at dksX0_laysHidden_1 18 rfl rfl)
theorem dX0_laysHidden_45 : decode cX0_laysHidden 45 = .ok (.ifCond .eq 7, 3) := dk_153 0 7 (dk_at dksX0_laysHidden_1 21 rfl rfl)
theorem dX0_laysHidden_48 : decode cX0_laysHidden 48 = .ok (.iconst 1, 1) := dk_4 (dk_at dksX0_laysHidden_2 0 rfl rfl)
theorem dX0_laysHidden_49 : decode cX0_laysHidden 49 = .ok (.goto 4, 3) := dk_167 0 4 (dk_at dksX0_laysHidden_2 1 rfl rfl)
theorem dX0_laysHidden_52 : decode cX0_laysHidden 52 = .ok (.iconst 0, 1) := dk_3 (dk_at dksX0_laysHidden_2 4 rfl rfl)
theorem dX0_laysHidden_53 : decode cX0_laysHidden 53 = .ok (.istore 4, 2) := dk_54 4 (dk_at dksX0_laysHidden_2 5 rfl rfl)
theorem dX0_laysHidden_55 : decode cX0_laysHidden 55 = .ok (.iinc 5 1, 3) := dk_132 5 1 (dk_at dksX0_laysHidden_2 7 rfl rfl)
theorem dX0_laysHidden_58 : decode cX0_laysHidden 58 = .ok (.goto (-36), 3) := dk_167 255 220 (dk_at dksX0_laysHidden_2 10 rfl rfl)
theorem dX0_laysHidden_61 : decode cX0_laysHidden 61 = .ok (.iload 4, 2) := dk_21 4 (dk_at dksX0_laysHidden_2 13 rfl rfl)
theorem dX0_laysHidden_63 : decode cX0_laysHidden 63 = .ok (.ifCond .ne 6, 3) := dk_154 0 6 (dk_at dksX0_laysHidden_2 15 rfl rfl)
theorem dX0_laysHidden_66 : decode cX0_laysHidden 66 = .ok (.goto 13, 3) := dk_167 0 13 (dk_at dksX0_laysHidden_2 18 rfl rfl)
theorem dX0_laysHidden_69 : decode cX0_laysHidden 69 = .ok (.aload_n 0, 1) := dk_42 (dk_at dksX0_laysHidden_2 21 rfl rfl)
theorem dX0_laysHidden_70 : decode cX0_laysHidden 70 = .ok (.getfield 69, 3) := dk_180 0 69 (dk_at dksX0_laysHidden_3 0 rfl rfl)
theorem dX0_laysHidden_73 : decode cX0_laysHidden 73 = .ok (.iload_n 2, 1) := dk_28 (dk_at dksX0_laysHidden_3 3 rfl rfl)
theorem dX0_laysHidden_74 : decode cX0_laysHidden 74 = .ok (.iload_n 3, 1) := dk_29 (dk_at dksX0_laysHidden_3 4 rfl rfl)
theorem dX0_laysHidden_75 : decode cX0_laysHidden 75 = .ok (.iastore, 1) := dk_79 (dk_at dksX0_laysHidden_3 5 rfl rfl)
theorem dX0_laysHidden_76 : decode cX0_laysHidden 76 = .ok (.iinc 2 1, 3) := dk_132 2 1 (dk_at dksX0_laysHidden_3 6 rfl rfl)
theorem dX0_laysHidden_79 : decode cX0_laysHidden 79 = .ok (.iinc 3 1, 3) := dk_132 3 1 (dk_at dksX0_laysHidden_3 9 rfl rfl)
theorem dX0_laysHidden_82 : decode cX0_laysHidden 82 = .ok (.goto (-78), 3) := dk_167 255 178 (dk_at dksX0_laysHidden_3 12 rfl rfl)
theorem dX0_laysHidden_85 : decode cX0_laysHidden 85 = .ok (.iload_n 2, 1) := dk_28 (dk_at dksX0_laysHidden_3 15 rfl rfl)
theorem dX0_laysHidden_86 : decode cX0_laysHidden 86 = .ok (.ireturn, 1) := dk_172 (dk_at dksX0_laysHidden_3 16 rfl rfl)
abbrev cX0_laysSunk : ByteArray := prog_1_method_69_code
def yX0_laysSunk : MethodName := ⟨RX0, "laysSunk", "(I)V"⟩
def dkwX0_laysSunk_1 : List UInt8 := [42, 180, 0, 25, 180, 0, 253, 79, 42, 180, 0, 25, 182, 1, 51, 87, 132, 2, 1, 167, 255, 226, 177]
abbrev dktX0_laysSunk_1 : List UInt8 := dkwX0_laysSunk_1 ++ []
def dkwX0_laysSunk_0 : List UInt8 := [42, 180, 0, 25, 182, 0, 97, 27, 181, 1, 67, 3, 61, 28, 16, 60, 163, 0, 30, 42, 180, 0, 66, 28]
abbrev dktX0_laysSunk_0 : List UInt8 := dkwX0_laysSunk_0 ++ dktX0_laysSunk_1
theorem dksX0_laysSunk_0 : cX0_laysSunk.data.toList.drop 0 = dktX0_laysSunk_0 := by decide +kernel
theorem dksX0_laysSunk_1 : cX0_laysSunk.data.toList.drop 24 = dktX0_laysSunk_1 := dk_seg dksX0_laysSunk_0 24 rfl rfl
theorem dX0_laysSunk_0 : decode cX0_laysSunk 0 = .ok (.aload_n 0, 1) := dk_42 (dk_at dksX0_laysSunk_0 0 rfl rfl)
theorem dX0_laysSunk_1 : decode cX0_laysSunk 1 = .ok (.getfield 25, 3) := dk_180 0 25 (dk_at dksX0_laysSunk_0 1 rfl rfl)
theorem dX0_laysSunk_4 : decode cX0_laysSunk 4 = .ok (.invokevirtual 97, 3) := dk_182 0 97 (dk_at dksX0_laysSunk_0 4 rfl rfl)
theorem dX0_laysSunk_7 : decode cX0_laysSunk 7 = .ok (.iload_n 1, 1) := dk_27 (dk_at dksX0_laysSunk_0 7 rfl rfl)
theorem dX0_laysSunk_8 : decode cX0_laysSunk 8 = .ok (.putfield 323, 3) := dk_181 1 67 (dk_at dksX0_laysSunk_0 8 rfl rfl)
theorem dX0_laysSunk_11 : decode cX0_laysSunk 11 = .ok (.iconst 0, 1) := dk_3 (dk_at dksX0_laysSunk_0 11 rfl rfl)
theorem dX0_laysSunk_12 : decode cX0_laysSunk 12 = .ok (.istore_n 2, 1) := dk_61 (dk_at dksX0_laysSunk_0 12 rfl rfl)
theorem dX0_laysSunk_13 : decode cX0_laysSunk 13 = .ok (.iload_n 2, 1) := dk_28 (dk_at dksX0_laysSunk_0 13 rfl rfl)
theorem dX0_laysSunk_14 : decode cX0_laysSunk 14 = .ok (.bipush 60, 2) := dk_16 60 (dk_at dksX0_laysSunk_0 14 rfl rfl)
theorem dX0_laysSunk_16 : decode cX0_laysSunk 16 = .ok (.if_icmp .gt 30, 3) := dk_163 0 30 (dk_at dksX0_laysSunk_0 16 rfl rfl)
theorem dX0_laysSunk_19 : decode cX0_laysSunk 19 = .ok (.aload_n 0, 1) := dk_42 (dk_at dksX0_laysSunk_0 19 rfl rfl)
theorem dX0_laysSunk_20 : decode cX0_laysSunk 20 = .ok (.getfield 66, 3) := dk_180 0 66 (dk_at dksX0_laysSunk_0 20 rfl rfl)
theorem dX0_laysSunk_23 : decode cX0_laysSunk 23 = .ok (.iload_n 2, 1) := dk_28 (dk_at dksX0_laysSunk_0 23 rfl rfl)
theorem dX0_laysSunk_24 : decode cX0_laysSunk 24 = .ok (.aload_n 0, 1) := dk_42 (dk_at dksX0_laysSunk_1 0 rfl rfl)
theorem dX0_laysSunk_25 : decode cX0_laysSunk 25 = .ok (.getfield 25, 3) := dk_180 0 25 (dk_at dksX0_laysSunk_1 1 rfl rfl)
theorem dX0_laysSunk_28 : decode cX0_laysSunk 28 = .ok (.getfield 253, 3) := dk_180 0 253 (dk_at dksX0_laysSunk_1 4 rfl rfl)
theorem dX0_laysSunk_31 : decode cX0_laysSunk 31 = .ok (.iastore, 1) := dk_79 (dk_at dksX0_laysSunk_1 7 rfl rfl)
theorem dX0_laysSunk_32 : decode cX0_laysSunk 32 = .ok (.aload_n 0, 1) := dk_42 (dk_at dksX0_laysSunk_1 8 rfl rfl)
theorem dX0_laysSunk_33 : decode cX0_laysSunk 33 = .ok (.getfield 25, 3) := dk_180 0 25 (dk_at dksX0_laysSunk_1 9 rfl rfl)
theorem dX0_laysSunk_36 : decode cX0_laysSunk 36 = .ok (.invokevirtual 307, 3) := dk_182 1 51 (dk_at dksX0_laysSunk_1 12 rfl rfl)
theorem dX0_laysSunk_39 : decode cX0_laysSunk 39 = .ok (.pop, 1) := dk_87 (dk_at dksX0_laysSunk_1 15 rfl rfl)
theorem dX0_laysSunk_40 : decode cX0_laysSunk 40 = .ok (.iinc 2 1, 3) := dk_132 2 1 (dk_at dksX0_laysSunk_1 16 rfl rfl)
theorem dX0_laysSunk_43 : decode cX0_laysSunk 43 = .ok (.goto (-30), 3) := dk_167 255 226 (dk_at dksX0_laysSunk_1 19 rfl rfl)
theorem dX0_laysSunk_46 : decode cX0_laysSunk 46 = .ok (.return_, 1) := dk_177 (dk_at dksX0_laysSunk_1 22 rfl rfl)
abbrev cX0_fitsMark : ByteArray := prog_1_method_70_code
def yX0_fitsMark : MethodName := ⟨RX0, "fitsMark", "(LSunkTower$Numbers;I)Z"⟩
def dkwX0_fitsMark_1 : List UInt8 := [154, 0, 7, 4, 167, 0, 4, 3, 172]
abbrev dktX0_fitsMark_1 : List UInt8 := dkwX0_fitsMark_1 ++ []
def dkwX0_fitsMark_0 : List UInt8 := [42, 180, 0, 66, 43, 5, 28, 104, 182, 0, 230, 136, 46, 133, 43, 5, 28, 104, 4, 96, 182, 0, 230, 148]
abbrev dktX0_fitsMark_0 : List UInt8 := dkwX0_fitsMark_0 ++ dktX0_fitsMark_1
theorem dksX0_fitsMark_0 : cX0_fitsMark.data.toList.drop 0 = dktX0_fitsMark_0 := by decide +kernel
theorem dksX0_fitsMark_1 : cX0_fitsMark.data.toList.drop 24 = dktX0_fitsMark_1 := dk_seg dksX0_fitsMark_0 24 rfl rfl
theorem dX0_fitsMark_0 : decode cX0_fitsMark 0 = .ok (.aload_n 0, 1) := dk_42 (dk_at dksX0_fitsMark_0 0 rfl rfl)
theorem dX0_fitsMark_1 : decode cX0_fitsMark 1 = .ok (.getfield 66, 3) := dk_180 0 66 (dk_at dksX0_fitsMark_0 1 rfl rfl)
theorem dX0_fitsMark_4 : decode cX0_fitsMark 4 = .ok (.aload_n 1, 1) := dk_43 (dk_at dksX0_fitsMark_0 4 rfl rfl)
theorem dX0_fitsMark_5 : decode cX0_fitsMark 5 = .ok (.iconst 2, 1) := dk_5 (dk_at dksX0_fitsMark_0 5 rfl rfl)
theorem dX0_fitsMark_6 : decode cX0_fitsMark 6 = .ok (.iload_n 2, 1) := dk_28 (dk_at dksX0_fitsMark_0 6 rfl rfl)
theorem dX0_fitsMark_7 : decode cX0_fitsMark 7 = .ok (.imul, 1) := dk_104 (dk_at dksX0_fitsMark_0 7 rfl rfl)
theorem dX0_fitsMark_8 : decode cX0_fitsMark 8 = .ok (.invokevirtual 230, 3) := dk_182 0 230 (dk_at dksX0_fitsMark_0 8 rfl rfl)
theorem dX0_fitsMark_11 : decode cX0_fitsMark 11 = .ok (.l2i, 1) := dk_136 (dk_at dksX0_fitsMark_0 11 rfl rfl)
theorem dX0_fitsMark_12 : decode cX0_fitsMark 12 = .ok (.iaload, 1) := dk_46 (dk_at dksX0_fitsMark_0 12 rfl rfl)
theorem dX0_fitsMark_13 : decode cX0_fitsMark 13 = .ok (.i2l, 1) := dk_133 (dk_at dksX0_fitsMark_0 13 rfl rfl)
theorem dX0_fitsMark_14 : decode cX0_fitsMark 14 = .ok (.aload_n 1, 1) := dk_43 (dk_at dksX0_fitsMark_0 14 rfl rfl)
theorem dX0_fitsMark_15 : decode cX0_fitsMark 15 = .ok (.iconst 2, 1) := dk_5 (dk_at dksX0_fitsMark_0 15 rfl rfl)
theorem dX0_fitsMark_16 : decode cX0_fitsMark 16 = .ok (.iload_n 2, 1) := dk_28 (dk_at dksX0_fitsMark_0 16 rfl rfl)
theorem dX0_fitsMark_17 : decode cX0_fitsMark 17 = .ok (.imul, 1) := dk_104 (dk_at dksX0_fitsMark_0 17 rfl rfl)
theorem dX0_fitsMark_18 : decode cX0_fitsMark 18 = .ok (.iconst 1, 1) := dk_4 (dk_at dksX0_fitsMark_0 18 rfl rfl)
theorem dX0_fitsMark_19 : decode cX0_fitsMark 19 = .ok (.iadd, 1) := dk_96 (dk_at dksX0_fitsMark_0 19 rfl rfl)
theorem dX0_fitsMark_20 : decode cX0_fitsMark 20 = .ok (.invokevirtual 230, 3) := dk_182 0 230 (dk_at dksX0_fitsMark_0 20 rfl rfl)
theorem dX0_fitsMark_23 : decode cX0_fitsMark 23 = .ok (.lcmp, 1) := dk_148 (dk_at dksX0_fitsMark_0 23 rfl rfl)
theorem dX0_fitsMark_24 : decode cX0_fitsMark 24 = .ok (.ifCond .ne 7, 3) := dk_154 0 7 (dk_at dksX0_fitsMark_1 0 rfl rfl)
theorem dX0_fitsMark_27 : decode cX0_fitsMark 27 = .ok (.iconst 1, 1) := dk_4 (dk_at dksX0_fitsMark_1 3 rfl rfl)
theorem dX0_fitsMark_28 : decode cX0_fitsMark 28 = .ok (.goto 4, 3) := dk_167 0 4 (dk_at dksX0_fitsMark_1 4 rfl rfl)
theorem dX0_fitsMark_31 : decode cX0_fitsMark 31 = .ok (.iconst 0, 1) := dk_3 (dk_at dksX0_fitsMark_1 7 rfl rfl)
theorem dX0_fitsMark_32 : decode cX0_fitsMark 32 = .ok (.ireturn, 1) := dk_172 (dk_at dksX0_fitsMark_1 8 rfl rfl)
abbrev cX0_hidden : ByteArray := prog_1_method_73_code
def yX0_hidden : MethodName := ⟨RX0, "hidden", "(II)I"⟩
def dkwX0_hidden_1 : List UInt8 := [42, 42, 180, 0, 86, 27, 50, 182, 1, 177, 162, 0, 12, 42, 180, 0, 69, 28, 46, 167, 0, 4, 2, 172]
abbrev dktX0_hidden_1 : List UInt8 := dkwX0_hidden_1 ++ []
def dkwX0_hidden_0 : List UInt8 := [42, 27, 182, 1, 174, 62, 29, 154, 0, 10, 28, 156, 0, 6, 16, 253, 62, 29, 153, 0, 5, 29, 172, 28]
abbrev dktX0_hidden_0 : List UInt8 := dkwX0_hidden_0 ++ dktX0_hidden_1
theorem dksX0_hidden_0 : cX0_hidden.data.toList.drop 0 = dktX0_hidden_0 := by decide +kernel
theorem dksX0_hidden_1 : cX0_hidden.data.toList.drop 24 = dktX0_hidden_1 := dk_seg dksX0_hidden_0 24 rfl rfl
theorem dX0_hidden_0 : decode cX0_hidden 0 = .ok (.aload_n 0, 1) := dk_42 (dk_at dksX0_hidden_0 0 rfl rfl)
theorem dX0_hidden_1 : decode cX0_hidden 1 = .ok (.iload_n 1, 1) := dk_27 (dk_at dksX0_hidden_0 1 rfl rfl)
theorem dX0_hidden_2 : decode cX0_hidden 2 = .ok (.invokevirtual 430, 3) := dk_182 1 174 (dk_at dksX0_hidden_0 2 rfl rfl)
theorem dX0_hidden_5 : decode cX0_hidden 5 = .ok (.istore_n 3, 1) := dk_62 (dk_at dksX0_hidden_0 5 rfl rfl)
theorem dX0_hidden_6 : decode cX0_hidden 6 = .ok (.iload_n 3, 1) := dk_29 (dk_at dksX0_hidden_0 6 rfl rfl)
theorem dX0_hidden_7 : decode cX0_hidden 7 = .ok (.ifCond .ne 10, 3) := dk_154 0 10 (dk_at dksX0_hidden_0 7 rfl rfl)
theorem dX0_hidden_10 : decode cX0_hidden 10 = .ok (.iload_n 2, 1) := dk_28 (dk_at dksX0_hidden_0 10 rfl rfl)
theorem dX0_hidden_11 : decode cX0_hidden 11 = .ok (.ifCond .ge 6, 3) := dk_156 0 6 (dk_at dksX0_hidden_0 11 rfl rfl)
theorem dX0_hidden_14 : decode cX0_hidden 14 = .ok (.bipush (-3), 2) := dk_16 253 (dk_at dksX0_hidden_0 14 rfl rfl)
theorem dX0_hidden_16 : decode cX0_hidden 16 = .ok (.istore_n 3, 1) := dk_62 (dk_at dksX0_hidden_0 16 rfl rfl)
theorem dX0_hidden_17 : decode cX0_hidden 17 = .ok (.iload_n 3, 1) := dk_29 (dk_at dksX0_hidden_0 17 rfl rfl)
theorem dX0_hidden_18 : decode cX0_hidden 18 = .ok (.ifCond .eq 5, 3) := dk_153 0 5 (dk_at dksX0_hidden_0 18 rfl rfl)
theorem dX0_hidden_21 : decode cX0_hidden 21 = .ok (.iload_n 3, 1) := dk_29 (dk_at dksX0_hidden_0 21 rfl rfl)
theorem dX0_hidden_22 : decode cX0_hidden 22 = .ok (.ireturn, 1) := dk_172 (dk_at dksX0_hidden_0 22 rfl rfl)
theorem dX0_hidden_23 : decode cX0_hidden 23 = .ok (.iload_n 2, 1) := dk_28 (dk_at dksX0_hidden_0 23 rfl rfl)
theorem dX0_hidden_24 : decode cX0_hidden 24 = .ok (.aload_n 0, 1) := dk_42 (dk_at dksX0_hidden_1 0 rfl rfl)
theorem dX0_hidden_25 : decode cX0_hidden 25 = .ok (.aload_n 0, 1) := dk_42 (dk_at dksX0_hidden_1 1 rfl rfl)
theorem dX0_hidden_26 : decode cX0_hidden 26 = .ok (.getfield 86, 3) := dk_180 0 86 (dk_at dksX0_hidden_1 2 rfl rfl)
theorem dX0_hidden_29 : decode cX0_hidden 29 = .ok (.iload_n 1, 1) := dk_27 (dk_at dksX0_hidden_1 5 rfl rfl)
theorem dX0_hidden_30 : decode cX0_hidden 30 = .ok (.aaload, 1) := dk_50 (dk_at dksX0_hidden_1 6 rfl rfl)
theorem dX0_hidden_31 : decode cX0_hidden 31 = .ok (.invokevirtual 433, 3) := dk_182 1 177 (dk_at dksX0_hidden_1 7 rfl rfl)
theorem dX0_hidden_34 : decode cX0_hidden 34 = .ok (.if_icmp .ge 12, 3) := dk_162 0 12 (dk_at dksX0_hidden_1 10 rfl rfl)
theorem dX0_hidden_37 : decode cX0_hidden 37 = .ok (.aload_n 0, 1) := dk_42 (dk_at dksX0_hidden_1 13 rfl rfl)
theorem dX0_hidden_38 : decode cX0_hidden 38 = .ok (.getfield 69, 3) := dk_180 0 69 (dk_at dksX0_hidden_1 14 rfl rfl)
theorem dX0_hidden_41 : decode cX0_hidden 41 = .ok (.iload_n 2, 1) := dk_28 (dk_at dksX0_hidden_1 17 rfl rfl)
theorem dX0_hidden_42 : decode cX0_hidden 42 = .ok (.iaload, 1) := dk_46 (dk_at dksX0_hidden_1 18 rfl rfl)
theorem dX0_hidden_43 : decode cX0_hidden 43 = .ok (.goto 4, 3) := dk_167 0 4 (dk_at dksX0_hidden_1 19 rfl rfl)
theorem dX0_hidden_46 : decode cX0_hidden 46 = .ok (.iconst (-1), 1) := dk_2 (dk_at dksX0_hidden_1 22 rfl rfl)
theorem dX0_hidden_47 : decode cX0_hidden 47 = .ok (.ireturn, 1) := dk_172 (dk_at dksX0_hidden_1 23 rfl rfl)
abbrev cX0_look : ByteArray := prog_1_method_76_code
def yX0_look : MethodName := ⟨RX0, "look", "(I)I"⟩
def dkwX0_look_5 : List UInt8 := [162, 0, 7, 21, 5, 54, 4, 132, 5, 1, 167, 255, 215, 21, 4, 172]
abbrev dktX0_look_5 : List UInt8 := dkwX0_look_5 ++ []
def dkwX0_look_4 : List UInt8 := [158, 0, 36, 21, 4, 2, 159, 0, 20, 42, 180, 0, 76, 21, 5, 46, 42, 180, 0, 76, 21, 4, 46]
abbrev dktX0_look_4 : List UInt8 := dkwX0_look_4 ++ dktX0_look_5
def dkwX0_look_3 : List UInt8 := [167, 255, 212, 42, 29, 182, 1, 185, 2, 54, 4, 4, 54, 5, 21, 5, 16, 60, 163, 0, 40, 29]
abbrev dktX0_look_3 : List UInt8 := dkwX0_look_3 ++ dktX0_look_4
def dkwX0_look_2 : List UInt8 := [42, 180, 0, 80, 16, 61, 42, 180, 0, 69, 21, 4, 46, 104, 16, 61, 184, 1, 136, 132, 4, 1]
abbrev dktX0_look_2 : List UInt8 := dkwX0_look_2 ++ dktX0_look_3
def dkwX0_look_1 : List UInt8 := [54, 4, 21, 4, 29, 162, 0, 44, 42, 42, 180, 0, 69, 21, 4, 46, 182, 1, 167, 42, 180, 0, 66, 3]
abbrev dktX0_look_1 : List UInt8 := dkwX0_look_1 ++ dktX0_look_2
def dkwX0_look_0 : List UInt8 := [42, 27, 182, 1, 174, 61, 28, 153, 0, 5, 28, 172, 42, 42, 180, 0, 86, 27, 50, 182, 1, 177, 62, 3]
abbrev dktX0_look_0 : List UInt8 := dkwX0_look_0 ++ dktX0_look_1
theorem dksX0_look_0 : cX0_look.data.toList.drop 0 = dktX0_look_0 := by decide +kernel
theorem dksX0_look_1 : cX0_look.data.toList.drop 24 = dktX0_look_1 := dk_seg dksX0_look_0 24 rfl rfl
theorem dksX0_look_2 : cX0_look.data.toList.drop 48 = dktX0_look_2 := dk_seg dksX0_look_1 24 rfl rfl
theorem dksX0_look_3 : cX0_look.data.toList.drop 70 = dktX0_look_3 := dk_seg dksX0_look_2 22 rfl rfl
theorem dksX0_look_4 : cX0_look.data.toList.drop 92 = dktX0_look_4 := dk_seg dksX0_look_3 22 rfl rfl
theorem dksX0_look_5 : cX0_look.data.toList.drop 115 = dktX0_look_5 := dk_seg dksX0_look_4 23 rfl rfl
theorem dX0_look_0 : decode cX0_look 0 = .ok (.aload_n 0, 1) := dk_42 (dk_at dksX0_look_0 0 rfl rfl)
theorem dX0_look_1 : decode cX0_look 1 = .ok (.iload_n 1, 1) := dk_27 (dk_at dksX0_look_0 1 rfl rfl)
theorem dX0_look_2 : decode cX0_look 2 = .ok (.invokevirtual 430, 3) := dk_182 1 174 (dk_at dksX0_look_0 2 rfl rfl)
theorem dX0_look_5 : decode cX0_look 5 = .ok (.istore_n 2, 1) := dk_61 (dk_at dksX0_look_0 5 rfl rfl)
theorem dX0_look_6 : decode cX0_look 6 = .ok (.iload_n 2, 1) := dk_28 (dk_at dksX0_look_0 6 rfl rfl)
theorem dX0_look_7 : decode cX0_look 7 = .ok (.ifCond .eq 5, 3) := dk_153 0 5 (dk_at dksX0_look_0 7 rfl rfl)
theorem dX0_look_10 : decode cX0_look 10 = .ok (.iload_n 2, 1) := dk_28 (dk_at dksX0_look_0 10 rfl rfl)
theorem dX0_look_11 : decode cX0_look 11 = .ok (.ireturn, 1) := dk_172 (dk_at dksX0_look_0 11 rfl rfl)
theorem dX0_look_12 : decode cX0_look 12 = .ok (.aload_n 0, 1) := dk_42 (dk_at dksX0_look_0 12 rfl rfl)
theorem dX0_look_13 : decode cX0_look 13 = .ok (.aload_n 0, 1) := dk_42 (dk_at dksX0_look_0 13 rfl rfl)
theorem dX0_look_14 : decode cX0_look 14 = .ok (.getfield 86, 3) := dk_180 0 86 (dk_at dksX0_look_0 14 rfl rfl)
theorem dX0_look_17 : decode cX0_look 17 = .ok (.iload_n 1, 1) := dk_27 (dk_at dksX0_look_0 17 rfl rfl)
theorem dX0_look_18 : decode cX0_look 18 = .ok (.aaload, 1) := dk_50 (dk_at dksX0_look_0 18 rfl rfl)
theorem dX0_look_19 : decode cX0_look 19 = .ok (.invokevirtual 433, 3) := dk_182 1 177 (dk_at dksX0_look_0 19 rfl rfl)
theorem dX0_look_22 : decode cX0_look 22 = .ok (.istore_n 3, 1) := dk_62 (dk_at dksX0_look_0 22 rfl rfl)
theorem dX0_look_23 : decode cX0_look 23 = .ok (.iconst 0, 1) := dk_3 (dk_at dksX0_look_0 23 rfl rfl)
theorem dX0_look_24 : decode cX0_look 24 = .ok (.istore 4, 2) := dk_54 4 (dk_at dksX0_look_1 0 rfl rfl)
theorem dX0_look_26 : decode cX0_look 26 = .ok (.iload 4, 2) := dk_21 4 (dk_at dksX0_look_1 2 rfl rfl)
theorem dX0_look_28 : decode cX0_look 28 = .ok (.iload_n 3, 1) := dk_29 (dk_at dksX0_look_1 4 rfl rfl)
theorem dX0_look_29 : decode cX0_look 29 = .ok (.if_icmp .ge 44, 3) := dk_162 0 44 (dk_at dksX0_look_1 5 rfl rfl)
theorem dX0_look_32 : decode cX0_look 32 = .ok (.aload_n 0, 1) := dk_42 (dk_at dksX0_look_1 8 rfl rfl)
theorem dX0_look_33 : decode cX0_look 33 = .ok (.aload_n 0, 1) := dk_42 (dk_at dksX0_look_1 9 rfl rfl)
theorem dX0_look_34 : decode cX0_look 34 = .ok (.getfield 69, 3) := dk_180 0 69 (dk_at dksX0_look_1 10 rfl rfl)
theorem dX0_look_37 : decode cX0_look 37 = .ok (.iload 4, 2) := dk_21 4 (dk_at dksX0_look_1 13 rfl rfl)
theorem dX0_look_39 : decode cX0_look 39 = .ok (.iaload, 1) := dk_46 (dk_at dksX0_look_1 15 rfl rfl)
theorem dX0_look_40 : decode cX0_look 40 = .ok (.invokevirtual 423, 3) := dk_182 1 167 (dk_at dksX0_look_1 16 rfl rfl)
theorem dX0_look_43 : decode cX0_look 43 = .ok (.aload_n 0, 1) := dk_42 (dk_at dksX0_look_1 19 rfl rfl)
theorem dX0_look_44 : decode cX0_look 44 = .ok (.getfield 66, 3) := dk_180 0 66 (dk_at dksX0_look_1 20 rfl rfl)
theorem dX0_look_47 : decode cX0_look 47 = .ok (.iconst 0, 1) := dk_3 (dk_at dksX0_look_1 23 rfl rfl)
theorem dX0_look_48 : decode cX0_look 48 = .ok (.aload_n 0, 1) := dk_42 (dk_at dksX0_look_2 0 rfl rfl)
theorem dX0_look_49 : decode cX0_look 49 = .ok (.getfield 80, 3) := dk_180 0 80 (dk_at dksX0_look_2 1 rfl rfl)
theorem dX0_look_52 : decode cX0_look 52 = .ok (.bipush 61, 2) := dk_16 61 (dk_at dksX0_look_2 4 rfl rfl)
theorem dX0_look_54 : decode cX0_look 54 = .ok (.aload_n 0, 1) := dk_42 (dk_at dksX0_look_2 6 rfl rfl)
theorem dX0_look_55 : decode cX0_look 55 = .ok (.getfield 69, 3) := dk_180 0 69 (dk_at dksX0_look_2 7 rfl rfl)
theorem dX0_look_58 : decode cX0_look 58 = .ok (.iload 4, 2) := dk_21 4 (dk_at dksX0_look_2 10 rfl rfl)
theorem dX0_look_60 : decode cX0_look 60 = .ok (.iaload, 1) := dk_46 (dk_at dksX0_look_2 12 rfl rfl)
theorem dX0_look_61 : decode cX0_look 61 = .ok (.imul, 1) := dk_104 (dk_at dksX0_look_2 13 rfl rfl)
theorem dX0_look_62 : decode cX0_look 62 = .ok (.bipush 61, 2) := dk_16 61 (dk_at dksX0_look_2 14 rfl rfl)
theorem dX0_look_64 : decode cX0_look 64 = .ok (.invokestatic 392, 3) := dk_184 1 136 (dk_at dksX0_look_2 16 rfl rfl)
theorem dX0_look_67 : decode cX0_look 67 = .ok (.iinc 4 1, 3) := dk_132 4 1 (dk_at dksX0_look_2 19 rfl rfl)
theorem dX0_look_70 : decode cX0_look 70 = .ok (.goto (-44), 3) := dk_167 255 212 (dk_at dksX0_look_3 0 rfl rfl)
theorem dX0_look_73 : decode cX0_look 73 = .ok (.aload_n 0, 1) := dk_42 (dk_at dksX0_look_3 3 rfl rfl)
theorem dX0_look_74 : decode cX0_look 74 = .ok (.iload_n 3, 1) := dk_29 (dk_at dksX0_look_3 4 rfl rfl)
theorem dX0_look_75 : decode cX0_look 75 = .ok (.invokevirtual 441, 3) := dk_182 1 185 (dk_at dksX0_look_3 5 rfl rfl)
theorem dX0_look_78 : decode cX0_look 78 = .ok (.iconst (-1), 1) := dk_2 (dk_at dksX0_look_3 8 rfl rfl)
theorem dX0_look_79 : decode cX0_look 79 = .ok (.istore 4, 2) := dk_54 4 (dk_at dksX0_look_3 9 rfl rfl)
theorem dX0_look_81 : decode cX0_look 81 = .ok (.iconst 1, 1) := dk_4 (dk_at dksX0_look_3 11 rfl rfl)
theorem dX0_look_82 : decode cX0_look 82 = .ok (.istore 5, 2) := dk_54 5 (dk_at dksX0_look_3 12 rfl rfl)
theorem dX0_look_84 : decode cX0_look 84 = .ok (.iload 5, 2) := dk_21 5 (dk_at dksX0_look_3 14 rfl rfl)
theorem dX0_look_86 : decode cX0_look 86 = .ok (.bipush 60, 2) := dk_16 60 (dk_at dksX0_look_3 16 rfl rfl)
theorem dX0_look_88 : decode cX0_look 88 = .ok (.if_icmp .gt 40, 3) := dk_163 0 40 (dk_at dksX0_look_3 18 rfl rfl)
theorem dX0_look_91 : decode cX0_look 91 = .ok (.iload_n 3, 1) := dk_29 (dk_at dksX0_look_3 21 rfl rfl)
theorem dX0_look_92 : decode cX0_look 92 = .ok (.ifCond .le 36, 3) := dk_158 0 36 (dk_at dksX0_look_4 0 rfl rfl)
theorem dX0_look_95 : decode cX0_look 95 = .ok (.iload 4, 2) := dk_21 4 (dk_at dksX0_look_4 3 rfl rfl)
theorem dX0_look_97 : decode cX0_look 97 = .ok (.iconst (-1), 1) := dk_2 (dk_at dksX0_look_4 5 rfl rfl)
theorem dX0_look_98 : decode cX0_look 98 = .ok (.if_icmp .eq 20, 3) := dk_159 0 20 (dk_at dksX0_look_4 6 rfl rfl)
theorem dX0_look_101 : decode cX0_look 101 = .ok (.aload_n 0, 1) := dk_42 (dk_at dksX0_look_4 9 rfl rfl)
theorem dX0_look_102 : decode cX0_look 102 = .ok (.getfield 76, 3) := dk_180 0 76 (dk_at dksX0_look_4 10 rfl rfl)
theorem dX0_look_105 : decode cX0_look 105 = .ok (.iload 5, 2) := dk_21 5 (dk_at dksX0_look_4 13 rfl rfl)
theorem dX0_look_107 : decode cX0_look 107 = .ok (.iaload, 1) := dk_46 (dk_at dksX0_look_4 15 rfl rfl)
theorem dX0_look_108 : decode cX0_look 108 = .ok (.aload_n 0, 1) := dk_42 (dk_at dksX0_look_4 16 rfl rfl)
theorem dX0_look_109 : decode cX0_look 109 = .ok (.getfield 76, 3) := dk_180 0 76 (dk_at dksX0_look_4 17 rfl rfl)
theorem dX0_look_112 : decode cX0_look 112 = .ok (.iload 4, 2) := dk_21 4 (dk_at dksX0_look_4 20 rfl rfl)
theorem dX0_look_114 : decode cX0_look 114 = .ok (.iaload, 1) := dk_46 (dk_at dksX0_look_4 22 rfl rfl)
theorem dX0_look_115 : decode cX0_look 115 = .ok (.if_icmp .ge 7, 3) := dk_162 0 7 (dk_at dksX0_look_5 0 rfl rfl)
theorem dX0_look_118 : decode cX0_look 118 = .ok (.iload 5, 2) := dk_21 5 (dk_at dksX0_look_5 3 rfl rfl)
theorem dX0_look_120 : decode cX0_look 120 = .ok (.istore 4, 2) := dk_54 4 (dk_at dksX0_look_5 5 rfl rfl)
theorem dX0_look_122 : decode cX0_look 122 = .ok (.iinc 5 1, 3) := dk_132 5 1 (dk_at dksX0_look_5 7 rfl rfl)
theorem dX0_look_125 : decode cX0_look 125 = .ok (.goto (-41), 3) := dk_167 255 215 (dk_at dksX0_look_5 10 rfl rfl)
theorem dX0_look_128 : decode cX0_look 128 = .ok (.iload 4, 2) := dk_21 4 (dk_at dksX0_look_5 13 rfl rfl)
theorem dX0_look_130 : decode cX0_look 130 = .ok (.ireturn, 1) := dk_172 (dk_at dksX0_look_5 15 rfl rfl)
abbrev cX0_laysAlike : ByteArray := prog_1_method_74_code
def yX0_laysAlike : MethodName := ⟨RX0, "laysAlike", "(I)V"⟩
def dkwX0_laysAlike_4 : List UInt8 := [182, 1, 180, 3, 79, 132, 3, 1, 167, 255, 231, 132, 2, 1, 167, 255, 151, 177]
abbrev dktX0_laysAlike_4 : List UInt8 := dkwX0_laysAlike_4 ++ []
def dkwX0_laysAlike_3 : List UInt8 := [167, 255, 202, 3, 62, 29, 27, 162, 0, 26, 42, 180, 0, 73, 42, 42, 180, 0, 69, 29, 46, 28]
abbrev dktX0_laysAlike_3 : List UInt8 := dkwX0_laysAlike_3 ++ dktX0_laysAlike_4
def dkwX0_laysAlike_2 : List UInt8 := [180, 0, 76, 28, 42, 180, 0, 76, 28, 46, 42, 180, 0, 73, 21, 4, 46, 184, 1, 183, 79, 132, 3, 1]
abbrev dktX0_laysAlike_2 : List UInt8 := dkwX0_laysAlike_2 ++ dktX0_laysAlike_3
def dkwX0_laysAlike_1 : List UInt8 := [180, 0, 69, 29, 46, 28, 182, 1, 180, 54, 4, 42, 180, 0, 73, 21, 4, 92, 46, 4, 96, 79, 42]
abbrev dktX0_laysAlike_1 : List UInt8 := dkwX0_laysAlike_1 ++ dktX0_laysAlike_2
def dkwX0_laysAlike_0 : List UInt8 := [4, 61, 28, 16, 60, 163, 0, 105, 42, 180, 0, 76, 28, 3, 79, 3, 62, 29, 27, 162, 0, 55, 42, 42]
abbrev dktX0_laysAlike_0 : List UInt8 := dkwX0_laysAlike_0 ++ dktX0_laysAlike_1
theorem dksX0_laysAlike_0 : cX0_laysAlike.data.toList.drop 0 = dktX0_laysAlike_0 := by decide +kernel
theorem dksX0_laysAlike_1 : cX0_laysAlike.data.toList.drop 24 = dktX0_laysAlike_1 := dk_seg dksX0_laysAlike_0 24 rfl rfl
theorem dksX0_laysAlike_2 : cX0_laysAlike.data.toList.drop 47 = dktX0_laysAlike_2 := dk_seg dksX0_laysAlike_1 23 rfl rfl
theorem dksX0_laysAlike_3 : cX0_laysAlike.data.toList.drop 71 = dktX0_laysAlike_3 := dk_seg dksX0_laysAlike_2 24 rfl rfl
theorem dksX0_laysAlike_4 : cX0_laysAlike.data.toList.drop 93 = dktX0_laysAlike_4 := dk_seg dksX0_laysAlike_3 22 rfl rfl
theorem dX0_laysAlike_0 : decode cX0_laysAlike 0 = .ok (.iconst 1, 1) := dk_4 (dk_at dksX0_laysAlike_0 0 rfl rfl)
theorem dX0_laysAlike_1 : decode cX0_laysAlike 1 = .ok (.istore_n 2, 1) := dk_61 (dk_at dksX0_laysAlike_0 1 rfl rfl)
theorem dX0_laysAlike_2 : decode cX0_laysAlike 2 = .ok (.iload_n 2, 1) := dk_28 (dk_at dksX0_laysAlike_0 2 rfl rfl)
theorem dX0_laysAlike_3 : decode cX0_laysAlike 3 = .ok (.bipush 60, 2) := dk_16 60 (dk_at dksX0_laysAlike_0 3 rfl rfl)
theorem dX0_laysAlike_5 : decode cX0_laysAlike 5 = .ok (.if_icmp .gt 105, 3) := dk_163 0 105 (dk_at dksX0_laysAlike_0 5 rfl rfl)
theorem dX0_laysAlike_8 : decode cX0_laysAlike 8 = .ok (.aload_n 0, 1) := dk_42 (dk_at dksX0_laysAlike_0 8 rfl rfl)
theorem dX0_laysAlike_9 : decode cX0_laysAlike 9 = .ok (.getfield 76, 3) := dk_180 0 76 (dk_at dksX0_laysAlike_0 9 rfl rfl)
theorem dX0_laysAlike_12 : decode cX0_laysAlike 12 = .ok (.iload_n 2, 1) := dk_28 (dk_at dksX0_laysAlike_0 12 rfl rfl)
theorem dX0_laysAlike_13 : decode cX0_laysAlike 13 = .ok (.iconst 0, 1) := dk_3 (dk_at dksX0_laysAlike_0 13 rfl rfl)
theorem dX0_laysAlike_14 : decode cX0_laysAlike 14 = .ok (.iastore, 1) := dk_79 (dk_at dksX0_laysAlike_0 14 rfl rfl)
theorem dX0_laysAlike_15 : decode cX0_laysAlike 15 = .ok (.iconst 0, 1) := dk_3 (dk_at dksX0_laysAlike_0 15 rfl rfl)
theorem dX0_laysAlike_16 : decode cX0_laysAlike 16 = .ok (.istore_n 3, 1) := dk_62 (dk_at dksX0_laysAlike_0 16 rfl rfl)
theorem dX0_laysAlike_17 : decode cX0_laysAlike 17 = .ok (.iload_n 3, 1) := dk_29 (dk_at dksX0_laysAlike_0 17 rfl rfl)
theorem dX0_laysAlike_18 : decode cX0_laysAlike 18 = .ok (.iload_n 1, 1) := dk_27 (dk_at dksX0_laysAlike_0 18 rfl rfl)
theorem dX0_laysAlike_19 : decode cX0_laysAlike 19 = .ok (.if_icmp .ge 55, 3) := dk_162 0 55 (dk_at dksX0_laysAlike_0 19 rfl rfl)
theorem dX0_laysAlike_22 : decode cX0_laysAlike 22 = .ok (.aload_n 0, 1) := dk_42 (dk_at dksX0_laysAlike_0 22 rfl rfl)
theorem dX0_laysAlike_23 : decode cX0_laysAlike 23 = .ok (.aload_n 0, 1) := dk_42 (dk_at dksX0_laysAlike_0 23 rfl rfl)
theorem dX0_laysAlike_24 : decode cX0_laysAlike 24 = .ok (.getfield 69, 3) := dk_180 0 69 (dk_at dksX0_laysAlike_1 0 rfl rfl)
theorem dX0_laysAlike_27 : decode cX0_laysAlike 27 = .ok (.iload_n 3, 1) := dk_29 (dk_at dksX0_laysAlike_1 3 rfl rfl)
theorem dX0_laysAlike_28 : decode cX0_laysAlike 28 = .ok (.iaload, 1) := dk_46 (dk_at dksX0_laysAlike_1 4 rfl rfl)
theorem dX0_laysAlike_29 : decode cX0_laysAlike 29 = .ok (.iload_n 2, 1) := dk_28 (dk_at dksX0_laysAlike_1 5 rfl rfl)
theorem dX0_laysAlike_30 : decode cX0_laysAlike 30 = .ok (.invokevirtual 436, 3) := dk_182 1 180 (dk_at dksX0_laysAlike_1 6 rfl rfl)
theorem dX0_laysAlike_33 : decode cX0_laysAlike 33 = .ok (.istore 4, 2) := dk_54 4 (dk_at dksX0_laysAlike_1 9 rfl rfl)
theorem dX0_laysAlike_35 : decode cX0_laysAlike 35 = .ok (.aload_n 0, 1) := dk_42 (dk_at dksX0_laysAlike_1 11 rfl rfl)
theorem dX0_laysAlike_36 : decode cX0_laysAlike 36 = .ok (.getfield 73, 3) := dk_180 0 73 (dk_at dksX0_laysAlike_1 12 rfl rfl)
theorem dX0_laysAlike_39 : decode cX0_laysAlike 39 = .ok (.iload 4, 2) := dk_21 4 (dk_at dksX0_laysAlike_1 15 rfl rfl)
theorem dX0_laysAlike_41 : decode cX0_laysAlike 41 = .ok (.dup2, 1) := dk_92 (dk_at dksX0_laysAlike_1 17 rfl rfl)
theorem dX0_laysAlike_42 : decode cX0_laysAlike 42 = .ok (.iaload, 1) := dk_46 (dk_at dksX0_laysAlike_1 18 rfl rfl)
theorem dX0_laysAlike_43 : decode cX0_laysAlike 43 = .ok (.iconst 1, 1) := dk_4 (dk_at dksX0_laysAlike_1 19 rfl rfl)
theorem dX0_laysAlike_44 : decode cX0_laysAlike 44 = .ok (.iadd, 1) := dk_96 (dk_at dksX0_laysAlike_1 20 rfl rfl)
theorem dX0_laysAlike_45 : decode cX0_laysAlike 45 = .ok (.iastore, 1) := dk_79 (dk_at dksX0_laysAlike_1 21 rfl rfl)
theorem dX0_laysAlike_46 : decode cX0_laysAlike 46 = .ok (.aload_n 0, 1) := dk_42 (dk_at dksX0_laysAlike_1 22 rfl rfl)
theorem dX0_laysAlike_47 : decode cX0_laysAlike 47 = .ok (.getfield 76, 3) := dk_180 0 76 (dk_at dksX0_laysAlike_2 0 rfl rfl)
theorem dX0_laysAlike_50 : decode cX0_laysAlike 50 = .ok (.iload_n 2, 1) := dk_28 (dk_at dksX0_laysAlike_2 3 rfl rfl)
theorem dX0_laysAlike_51 : decode cX0_laysAlike 51 = .ok (.aload_n 0, 1) := dk_42 (dk_at dksX0_laysAlike_2 4 rfl rfl)
theorem dX0_laysAlike_52 : decode cX0_laysAlike 52 = .ok (.getfield 76, 3) := dk_180 0 76 (dk_at dksX0_laysAlike_2 5 rfl rfl)
theorem dX0_laysAlike_55 : decode cX0_laysAlike 55 = .ok (.iload_n 2, 1) := dk_28 (dk_at dksX0_laysAlike_2 8 rfl rfl)
theorem dX0_laysAlike_56 : decode cX0_laysAlike 56 = .ok (.iaload, 1) := dk_46 (dk_at dksX0_laysAlike_2 9 rfl rfl)
theorem dX0_laysAlike_57 : decode cX0_laysAlike 57 = .ok (.aload_n 0, 1) := dk_42 (dk_at dksX0_laysAlike_2 10 rfl rfl)
theorem dX0_laysAlike_58 : decode cX0_laysAlike 58 = .ok (.getfield 73, 3) := dk_180 0 73 (dk_at dksX0_laysAlike_2 11 rfl rfl)
theorem dX0_laysAlike_61 : decode cX0_laysAlike 61 = .ok (.iload 4, 2) := dk_21 4 (dk_at dksX0_laysAlike_2 14 rfl rfl)
theorem dX0_laysAlike_63 : decode cX0_laysAlike 63 = .ok (.iaload, 1) := dk_46 (dk_at dksX0_laysAlike_2 16 rfl rfl)
theorem dX0_laysAlike_64 : decode cX0_laysAlike 64 = .ok (.invokestatic 439, 3) := dk_184 1 183 (dk_at dksX0_laysAlike_2 17 rfl rfl)
theorem dX0_laysAlike_67 : decode cX0_laysAlike 67 = .ok (.iastore, 1) := dk_79 (dk_at dksX0_laysAlike_2 20 rfl rfl)
theorem dX0_laysAlike_68 : decode cX0_laysAlike 68 = .ok (.iinc 3 1, 3) := dk_132 3 1 (dk_at dksX0_laysAlike_2 21 rfl rfl)
theorem dX0_laysAlike_71 : decode cX0_laysAlike 71 = .ok (.goto (-54), 3) := dk_167 255 202 (dk_at dksX0_laysAlike_3 0 rfl rfl)
theorem dX0_laysAlike_74 : decode cX0_laysAlike 74 = .ok (.iconst 0, 1) := dk_3 (dk_at dksX0_laysAlike_3 3 rfl rfl)
theorem dX0_laysAlike_75 : decode cX0_laysAlike 75 = .ok (.istore_n 3, 1) := dk_62 (dk_at dksX0_laysAlike_3 4 rfl rfl)
theorem dX0_laysAlike_76 : decode cX0_laysAlike 76 = .ok (.iload_n 3, 1) := dk_29 (dk_at dksX0_laysAlike_3 5 rfl rfl)
theorem dX0_laysAlike_77 : decode cX0_laysAlike 77 = .ok (.iload_n 1, 1) := dk_27 (dk_at dksX0_laysAlike_3 6 rfl rfl)
theorem dX0_laysAlike_78 : decode cX0_laysAlike 78 = .ok (.if_icmp .ge 26, 3) := dk_162 0 26 (dk_at dksX0_laysAlike_3 7 rfl rfl)
theorem dX0_laysAlike_81 : decode cX0_laysAlike 81 = .ok (.aload_n 0, 1) := dk_42 (dk_at dksX0_laysAlike_3 10 rfl rfl)
theorem dX0_laysAlike_82 : decode cX0_laysAlike 82 = .ok (.getfield 73, 3) := dk_180 0 73 (dk_at dksX0_laysAlike_3 11 rfl rfl)
theorem dX0_laysAlike_85 : decode cX0_laysAlike 85 = .ok (.aload_n 0, 1) := dk_42 (dk_at dksX0_laysAlike_3 14 rfl rfl)
theorem dX0_laysAlike_86 : decode cX0_laysAlike 86 = .ok (.aload_n 0, 1) := dk_42 (dk_at dksX0_laysAlike_3 15 rfl rfl)
theorem dX0_laysAlike_87 : decode cX0_laysAlike 87 = .ok (.getfield 69, 3) := dk_180 0 69 (dk_at dksX0_laysAlike_3 16 rfl rfl)
theorem dX0_laysAlike_90 : decode cX0_laysAlike 90 = .ok (.iload_n 3, 1) := dk_29 (dk_at dksX0_laysAlike_3 19 rfl rfl)
theorem dX0_laysAlike_91 : decode cX0_laysAlike 91 = .ok (.iaload, 1) := dk_46 (dk_at dksX0_laysAlike_3 20 rfl rfl)
theorem dX0_laysAlike_92 : decode cX0_laysAlike 92 = .ok (.iload_n 2, 1) := dk_28 (dk_at dksX0_laysAlike_3 21 rfl rfl)
theorem dX0_laysAlike_93 : decode cX0_laysAlike 93 = .ok (.invokevirtual 436, 3) := dk_182 1 180 (dk_at dksX0_laysAlike_4 0 rfl rfl)
theorem dX0_laysAlike_96 : decode cX0_laysAlike 96 = .ok (.iconst 0, 1) := dk_3 (dk_at dksX0_laysAlike_4 3 rfl rfl)
theorem dX0_laysAlike_97 : decode cX0_laysAlike 97 = .ok (.iastore, 1) := dk_79 (dk_at dksX0_laysAlike_4 4 rfl rfl)
theorem dX0_laysAlike_98 : decode cX0_laysAlike 98 = .ok (.iinc 3 1, 3) := dk_132 3 1 (dk_at dksX0_laysAlike_4 5 rfl rfl)
theorem dX0_laysAlike_101 : decode cX0_laysAlike 101 = .ok (.goto (-25), 3) := dk_167 255 231 (dk_at dksX0_laysAlike_4 8 rfl rfl)
theorem dX0_laysAlike_104 : decode cX0_laysAlike 104 = .ok (.iinc 2 1, 3) := dk_132 2 1 (dk_at dksX0_laysAlike_4 11 rfl rfl)
theorem dX0_laysAlike_107 : decode cX0_laysAlike 107 = .ok (.goto (-105), 3) := dk_167 255 151 (dk_at dksX0_laysAlike_4 14 rfl rfl)
theorem dX0_laysAlike_110 : decode cX0_laysAlike 110 = .ok (.return_, 1) := dk_177 (dk_at dksX0_laysAlike_4 17 rfl rfl)
abbrev cX0_sunkOf : ByteArray := prog_1_method_75_code
def yX0_sunkOf : MethodName := ⟨RX0, "sunkOf", "(II)I"⟩
def dkwX0_sunkOf_0 : List UInt8 := [42, 180, 0, 80, 16, 61, 27, 104, 28, 96, 46, 172]
abbrev dktX0_sunkOf_0 : List UInt8 := dkwX0_sunkOf_0 ++ []
theorem dksX0_sunkOf_0 : cX0_sunkOf.data.toList.drop 0 = dktX0_sunkOf_0 := by decide +kernel
theorem dX0_sunkOf_0 : decode cX0_sunkOf 0 = .ok (.aload_n 0, 1) := dk_42 (dk_at dksX0_sunkOf_0 0 rfl rfl)
theorem dX0_sunkOf_1 : decode cX0_sunkOf 1 = .ok (.getfield 80, 3) := dk_180 0 80 (dk_at dksX0_sunkOf_0 1 rfl rfl)
theorem dX0_sunkOf_4 : decode cX0_sunkOf 4 = .ok (.bipush 61, 2) := dk_16 61 (dk_at dksX0_sunkOf_0 4 rfl rfl)
theorem dX0_sunkOf_6 : decode cX0_sunkOf 6 = .ok (.iload_n 1, 1) := dk_27 (dk_at dksX0_sunkOf_0 6 rfl rfl)
theorem dX0_sunkOf_7 : decode cX0_sunkOf 7 = .ok (.imul, 1) := dk_104 (dk_at dksX0_sunkOf_0 7 rfl rfl)
theorem dX0_sunkOf_8 : decode cX0_sunkOf 8 = .ok (.iload_n 2, 1) := dk_28 (dk_at dksX0_sunkOf_0 8 rfl rfl)
theorem dX0_sunkOf_9 : decode cX0_sunkOf 9 = .ok (.iadd, 1) := dk_96 (dk_at dksX0_sunkOf_0 9 rfl rfl)
theorem dX0_sunkOf_10 : decode cX0_sunkOf 10 = .ok (.iaload, 1) := dk_46 (dk_at dksX0_sunkOf_0 10 rfl rfl)
theorem dX0_sunkOf_11 : decode cX0_sunkOf 11 = .ok (.ireturn, 1) := dk_172 (dk_at dksX0_sunkOf_0 11 rfl rfl)
abbrev cX0_falseMark : ByteArray := prog_1_method_77_code
def yX0_falseMark : MethodName := ⟨RX0, "falseMark", "(I)I"⟩
def dkwX0_falseMark_2 : List UInt8 := [132, 4, 1, 167, 255, 229, 2, 172]
abbrev dktX0_falseMark_2 : List UInt8 := dkwX0_falseMark_2 ++ []
def dkwX0_falseMark_1 : List UInt8 := [45, 182, 0, 227, 5, 108, 162, 0, 22, 42, 45, 21, 4, 182, 1, 188, 154, 0, 6, 21, 4, 172]
abbrev dktX0_falseMark_1 : List UInt8 := dkwX0_falseMark_1 ++ dktX0_falseMark_2
def dkwX0_falseMark_0 : List UInt8 := [42, 27, 182, 1, 174, 61, 28, 153, 0, 5, 28, 172, 42, 180, 0, 86, 27, 50, 78, 3, 54, 4, 21, 4]
abbrev dktX0_falseMark_0 : List UInt8 := dkwX0_falseMark_0 ++ dktX0_falseMark_1
theorem dksX0_falseMark_0 : cX0_falseMark.data.toList.drop 0 = dktX0_falseMark_0 := by decide +kernel
theorem dksX0_falseMark_1 : cX0_falseMark.data.toList.drop 24 = dktX0_falseMark_1 := dk_seg dksX0_falseMark_0 24 rfl rfl
theorem dksX0_falseMark_2 : cX0_falseMark.data.toList.drop 46 = dktX0_falseMark_2 := dk_seg dksX0_falseMark_1 22 rfl rfl
theorem dX0_falseMark_0 : decode cX0_falseMark 0 = .ok (.aload_n 0, 1) := dk_42 (dk_at dksX0_falseMark_0 0 rfl rfl)
theorem dX0_falseMark_1 : decode cX0_falseMark 1 = .ok (.iload_n 1, 1) := dk_27 (dk_at dksX0_falseMark_0 1 rfl rfl)
theorem dX0_falseMark_2 : decode cX0_falseMark 2 = .ok (.invokevirtual 430, 3) := dk_182 1 174 (dk_at dksX0_falseMark_0 2 rfl rfl)
theorem dX0_falseMark_5 : decode cX0_falseMark 5 = .ok (.istore_n 2, 1) := dk_61 (dk_at dksX0_falseMark_0 5 rfl rfl)
theorem dX0_falseMark_6 : decode cX0_falseMark 6 = .ok (.iload_n 2, 1) := dk_28 (dk_at dksX0_falseMark_0 6 rfl rfl)
theorem dX0_falseMark_7 : decode cX0_falseMark 7 = .ok (.ifCond .eq 5, 3) := dk_153 0 5 (dk_at dksX0_falseMark_0 7 rfl rfl)
theorem dX0_falseMark_10 : decode cX0_falseMark 10 = .ok (.iload_n 2, 1) := dk_28 (dk_at dksX0_falseMark_0 10 rfl rfl)
theorem dX0_falseMark_11 : decode cX0_falseMark 11 = .ok (.ireturn, 1) := dk_172 (dk_at dksX0_falseMark_0 11 rfl rfl)
theorem dX0_falseMark_12 : decode cX0_falseMark 12 = .ok (.aload_n 0, 1) := dk_42 (dk_at dksX0_falseMark_0 12 rfl rfl)
theorem dX0_falseMark_13 : decode cX0_falseMark 13 = .ok (.getfield 86, 3) := dk_180 0 86 (dk_at dksX0_falseMark_0 13 rfl rfl)
theorem dX0_falseMark_16 : decode cX0_falseMark 16 = .ok (.iload_n 1, 1) := dk_27 (dk_at dksX0_falseMark_0 16 rfl rfl)
theorem dX0_falseMark_17 : decode cX0_falseMark 17 = .ok (.aaload, 1) := dk_50 (dk_at dksX0_falseMark_0 17 rfl rfl)
theorem dX0_falseMark_18 : decode cX0_falseMark 18 = .ok (.astore_n 3, 1) := dk_78 (dk_at dksX0_falseMark_0 18 rfl rfl)
theorem dX0_falseMark_19 : decode cX0_falseMark 19 = .ok (.iconst 0, 1) := dk_3 (dk_at dksX0_falseMark_0 19 rfl rfl)
theorem dX0_falseMark_20 : decode cX0_falseMark 20 = .ok (.istore 4, 2) := dk_54 4 (dk_at dksX0_falseMark_0 20 rfl rfl)
theorem dX0_falseMark_22 : decode cX0_falseMark 22 = .ok (.iload 4, 2) := dk_21 4 (dk_at dksX0_falseMark_0 22 rfl rfl)
theorem dX0_falseMark_24 : decode cX0_falseMark 24 = .ok (.aload_n 3, 1) := dk_45 (dk_at dksX0_falseMark_1 0 rfl rfl)
theorem dX0_falseMark_25 : decode cX0_falseMark 25 = .ok (.invokevirtual 227, 3) := dk_182 0 227 (dk_at dksX0_falseMark_1 1 rfl rfl)
theorem dX0_falseMark_28 : decode cX0_falseMark 28 = .ok (.iconst 2, 1) := dk_5 (dk_at dksX0_falseMark_1 4 rfl rfl)
theorem dX0_falseMark_29 : decode cX0_falseMark 29 = .ok (.idiv, 1) := dk_108 (dk_at dksX0_falseMark_1 5 rfl rfl)
theorem dX0_falseMark_30 : decode cX0_falseMark 30 = .ok (.if_icmp .ge 22, 3) := dk_162 0 22 (dk_at dksX0_falseMark_1 6 rfl rfl)
theorem dX0_falseMark_33 : decode cX0_falseMark 33 = .ok (.aload_n 0, 1) := dk_42 (dk_at dksX0_falseMark_1 9 rfl rfl)
theorem dX0_falseMark_34 : decode cX0_falseMark 34 = .ok (.aload_n 3, 1) := dk_45 (dk_at dksX0_falseMark_1 10 rfl rfl)
theorem dX0_falseMark_35 : decode cX0_falseMark 35 = .ok (.iload 4, 2) := dk_21 4 (dk_at dksX0_falseMark_1 11 rfl rfl)
theorem dX0_falseMark_37 : decode cX0_falseMark 37 = .ok (.invokevirtual 444, 3) := dk_182 1 188 (dk_at dksX0_falseMark_1 13 rfl rfl)
theorem dX0_falseMark_40 : decode cX0_falseMark 40 = .ok (.ifCond .ne 6, 3) := dk_154 0 6 (dk_at dksX0_falseMark_1 16 rfl rfl)
theorem dX0_falseMark_43 : decode cX0_falseMark 43 = .ok (.iload 4, 2) := dk_21 4 (dk_at dksX0_falseMark_1 19 rfl rfl)
theorem dX0_falseMark_45 : decode cX0_falseMark 45 = .ok (.ireturn, 1) := dk_172 (dk_at dksX0_falseMark_1 21 rfl rfl)
theorem dX0_falseMark_46 : decode cX0_falseMark 46 = .ok (.iinc 4 1, 3) := dk_132 4 1 (dk_at dksX0_falseMark_2 0 rfl rfl)
theorem dX0_falseMark_49 : decode cX0_falseMark 49 = .ok (.goto (-27), 3) := dk_167 255 229 (dk_at dksX0_falseMark_2 3 rfl rfl)
theorem dX0_falseMark_52 : decode cX0_falseMark 52 = .ok (.iconst (-1), 1) := dk_2 (dk_at dksX0_falseMark_2 6 rfl rfl)
theorem dX0_falseMark_53 : decode cX0_falseMark 53 = .ok (.ireturn, 1) := dk_172 (dk_at dksX0_falseMark_2 7 rfl rfl)
abbrev cX0_fitsAny : ByteArray := prog_1_method_78_code
def yX0_fitsAny : MethodName := ⟨RX0, "fitsAny", "(LSunkTower$Numbers;I)Z"⟩
def dkwX0_fitsAny_1 : List UInt8 := [172, 132, 3, 1, 167, 255, 230, 3, 172]
abbrev dktX0_fitsAny_1 : List UInt8 := dkwX0_fitsAny_1 ++ []
def dkwX0_fitsAny_0 : List UInt8 := [3, 62, 29, 17, 3, 231, 163, 0, 25, 42, 29, 182, 1, 167, 42, 43, 28, 182, 1, 170, 153, 0, 5, 4]
abbrev dktX0_fitsAny_0 : List UInt8 := dkwX0_fitsAny_0 ++ dktX0_fitsAny_1
theorem dksX0_fitsAny_0 : cX0_fitsAny.data.toList.drop 0 = dktX0_fitsAny_0 := by decide +kernel
theorem dksX0_fitsAny_1 : cX0_fitsAny.data.toList.drop 24 = dktX0_fitsAny_1 := dk_seg dksX0_fitsAny_0 24 rfl rfl
theorem dX0_fitsAny_0 : decode cX0_fitsAny 0 = .ok (.iconst 0, 1) := dk_3 (dk_at dksX0_fitsAny_0 0 rfl rfl)
theorem dX0_fitsAny_1 : decode cX0_fitsAny 1 = .ok (.istore_n 3, 1) := dk_62 (dk_at dksX0_fitsAny_0 1 rfl rfl)
theorem dX0_fitsAny_2 : decode cX0_fitsAny 2 = .ok (.iload_n 3, 1) := dk_29 (dk_at dksX0_fitsAny_0 2 rfl rfl)
theorem dX0_fitsAny_3 : decode cX0_fitsAny 3 = .ok (.sipush 999, 3) := dk_17 3 231 (dk_at dksX0_fitsAny_0 3 rfl rfl)
theorem dX0_fitsAny_6 : decode cX0_fitsAny 6 = .ok (.if_icmp .gt 25, 3) := dk_163 0 25 (dk_at dksX0_fitsAny_0 6 rfl rfl)
theorem dX0_fitsAny_9 : decode cX0_fitsAny 9 = .ok (.aload_n 0, 1) := dk_42 (dk_at dksX0_fitsAny_0 9 rfl rfl)
theorem dX0_fitsAny_10 : decode cX0_fitsAny 10 = .ok (.iload_n 3, 1) := dk_29 (dk_at dksX0_fitsAny_0 10 rfl rfl)
theorem dX0_fitsAny_11 : decode cX0_fitsAny 11 = .ok (.invokevirtual 423, 3) := dk_182 1 167 (dk_at dksX0_fitsAny_0 11 rfl rfl)
theorem dX0_fitsAny_14 : decode cX0_fitsAny 14 = .ok (.aload_n 0, 1) := dk_42 (dk_at dksX0_fitsAny_0 14 rfl rfl)
theorem dX0_fitsAny_15 : decode cX0_fitsAny 15 = .ok (.aload_n 1, 1) := dk_43 (dk_at dksX0_fitsAny_0 15 rfl rfl)
theorem dX0_fitsAny_16 : decode cX0_fitsAny 16 = .ok (.iload_n 2, 1) := dk_28 (dk_at dksX0_fitsAny_0 16 rfl rfl)
theorem dX0_fitsAny_17 : decode cX0_fitsAny 17 = .ok (.invokevirtual 426, 3) := dk_182 1 170 (dk_at dksX0_fitsAny_0 17 rfl rfl)
theorem dX0_fitsAny_20 : decode cX0_fitsAny 20 = .ok (.ifCond .eq 5, 3) := dk_153 0 5 (dk_at dksX0_fitsAny_0 20 rfl rfl)
theorem dX0_fitsAny_23 : decode cX0_fitsAny 23 = .ok (.iconst 1, 1) := dk_4 (dk_at dksX0_fitsAny_0 23 rfl rfl)
theorem dX0_fitsAny_24 : decode cX0_fitsAny 24 = .ok (.ireturn, 1) := dk_172 (dk_at dksX0_fitsAny_1 0 rfl rfl)
theorem dX0_fitsAny_25 : decode cX0_fitsAny 25 = .ok (.iinc 3 1, 3) := dk_132 3 1 (dk_at dksX0_fitsAny_1 1 rfl rfl)
theorem dX0_fitsAny_28 : decode cX0_fitsAny 28 = .ok (.goto (-26), 3) := dk_167 255 230 (dk_at dksX0_fitsAny_1 4 rfl rfl)
theorem dX0_fitsAny_31 : decode cX0_fitsAny 31 = .ok (.iconst 0, 1) := dk_3 (dk_at dksX0_fitsAny_1 7 rfl rfl)
theorem dX0_fitsAny_32 : decode cX0_fitsAny 32 = .ok (.ireturn, 1) := dk_172 (dk_at dksX0_fitsAny_1 8 rfl rfl)
abbrev cX0_numbers : ByteArray := prog_1_method_80_code
def yX0_numbers : MethodName := ⟨RX0, "numbers", "(III)I"⟩
def dkwX0_numbers_2 : List UInt8 := [167, 0, 5, 16, 253, 172]
abbrev dktX0_numbers_2 : List UInt8 := dkwX0_numbers_2 ++ []
def dkwX0_numbers_1 : List UInt8 := [16, 40, 164, 0, 6, 16, 253, 172, 42, 180, 0, 86, 27, 50, 28, 29, 182, 1, 191, 153, 0, 7, 3]
abbrev dktX0_numbers_1 : List UInt8 := dkwX0_numbers_1 ++ dktX0_numbers_2
def dkwX0_numbers_0 : List UInt8 := [27, 184, 0, 240, 153, 0, 15, 28, 133, 9, 20, 0, 243, 184, 0, 108, 154, 0, 6, 16, 254, 172, 29]
abbrev dktX0_numbers_0 : List UInt8 := dkwX0_numbers_0 ++ dktX0_numbers_1
theorem dksX0_numbers_0 : cX0_numbers.data.toList.drop 0 = dktX0_numbers_0 := by decide +kernel
theorem dksX0_numbers_1 : cX0_numbers.data.toList.drop 23 = dktX0_numbers_1 := dk_seg dksX0_numbers_0 23 rfl rfl
theorem dksX0_numbers_2 : cX0_numbers.data.toList.drop 46 = dktX0_numbers_2 := dk_seg dksX0_numbers_1 23 rfl rfl
theorem dX0_numbers_0 : decode cX0_numbers 0 = .ok (.iload_n 1, 1) := dk_27 (dk_at dksX0_numbers_0 0 rfl rfl)
theorem dX0_numbers_1 : decode cX0_numbers 1 = .ok (.invokestatic 240, 3) := dk_184 0 240 (dk_at dksX0_numbers_0 1 rfl rfl)
theorem dX0_numbers_4 : decode cX0_numbers 4 = .ok (.ifCond .eq 15, 3) := dk_153 0 15 (dk_at dksX0_numbers_0 4 rfl rfl)
theorem dX0_numbers_7 : decode cX0_numbers 7 = .ok (.iload_n 2, 1) := dk_28 (dk_at dksX0_numbers_0 7 rfl rfl)
theorem dX0_numbers_8 : decode cX0_numbers 8 = .ok (.i2l, 1) := dk_133 (dk_at dksX0_numbers_0 8 rfl rfl)
theorem dX0_numbers_9 : decode cX0_numbers 9 = .ok (.lconst 0, 1) := dk_9 (dk_at dksX0_numbers_0 9 rfl rfl)
theorem dX0_numbers_10 : decode cX0_numbers 10 = .ok (.ldc2_w 243, 3) := dk_20 0 243 (dk_at dksX0_numbers_0 10 rfl rfl)
theorem dX0_numbers_13 : decode cX0_numbers 13 = .ok (.invokestatic 108, 3) := dk_184 0 108 (dk_at dksX0_numbers_0 13 rfl rfl)
theorem dX0_numbers_16 : decode cX0_numbers 16 = .ok (.ifCond .ne 6, 3) := dk_154 0 6 (dk_at dksX0_numbers_0 16 rfl rfl)
theorem dX0_numbers_19 : decode cX0_numbers 19 = .ok (.bipush (-2), 2) := dk_16 254 (dk_at dksX0_numbers_0 19 rfl rfl)
theorem dX0_numbers_21 : decode cX0_numbers 21 = .ok (.ireturn, 1) := dk_172 (dk_at dksX0_numbers_0 21 rfl rfl)
theorem dX0_numbers_22 : decode cX0_numbers 22 = .ok (.iload_n 3, 1) := dk_29 (dk_at dksX0_numbers_0 22 rfl rfl)
theorem dX0_numbers_23 : decode cX0_numbers 23 = .ok (.bipush 40, 2) := dk_16 40 (dk_at dksX0_numbers_1 0 rfl rfl)
theorem dX0_numbers_25 : decode cX0_numbers 25 = .ok (.if_icmp .le 6, 3) := dk_164 0 6 (dk_at dksX0_numbers_1 2 rfl rfl)
theorem dX0_numbers_28 : decode cX0_numbers 28 = .ok (.bipush (-3), 2) := dk_16 253 (dk_at dksX0_numbers_1 5 rfl rfl)
theorem dX0_numbers_30 : decode cX0_numbers 30 = .ok (.ireturn, 1) := dk_172 (dk_at dksX0_numbers_1 7 rfl rfl)
theorem dX0_numbers_31 : decode cX0_numbers 31 = .ok (.aload_n 0, 1) := dk_42 (dk_at dksX0_numbers_1 8 rfl rfl)
theorem dX0_numbers_32 : decode cX0_numbers 32 = .ok (.getfield 86, 3) := dk_180 0 86 (dk_at dksX0_numbers_1 9 rfl rfl)
theorem dX0_numbers_35 : decode cX0_numbers 35 = .ok (.iload_n 1, 1) := dk_27 (dk_at dksX0_numbers_1 12 rfl rfl)
theorem dX0_numbers_36 : decode cX0_numbers 36 = .ok (.aaload, 1) := dk_50 (dk_at dksX0_numbers_1 13 rfl rfl)
theorem dX0_numbers_37 : decode cX0_numbers 37 = .ok (.iload_n 2, 1) := dk_28 (dk_at dksX0_numbers_1 14 rfl rfl)
theorem dX0_numbers_38 : decode cX0_numbers 38 = .ok (.iload_n 3, 1) := dk_29 (dk_at dksX0_numbers_1 15 rfl rfl)
theorem dX0_numbers_39 : decode cX0_numbers 39 = .ok (.invokevirtual 447, 3) := dk_182 1 191 (dk_at dksX0_numbers_1 16 rfl rfl)
theorem dX0_numbers_42 : decode cX0_numbers 42 = .ok (.ifCond .eq 7, 3) := dk_153 0 7 (dk_at dksX0_numbers_1 19 rfl rfl)
theorem dX0_numbers_45 : decode cX0_numbers 45 = .ok (.iconst 0, 1) := dk_3 (dk_at dksX0_numbers_1 22 rfl rfl)
theorem dX0_numbers_46 : decode cX0_numbers 46 = .ok (.goto 5, 3) := dk_167 0 5 (dk_at dksX0_numbers_2 0 rfl rfl)
theorem dX0_numbers_49 : decode cX0_numbers 49 = .ok (.bipush (-3), 2) := dk_16 253 (dk_at dksX0_numbers_2 3 rfl rfl)
theorem dX0_numbers_51 : decode cX0_numbers 51 = .ok (.ireturn, 1) := dk_172 (dk_at dksX0_numbers_2 5 rfl rfl)
abbrev cX0_write : ByteArray := prog_1_method_81_code
def yX0_write : MethodName := ⟨RX0, "write", "(IIJ)J"⟩
def dkwX0_write_1 : List UInt8 := [180, 0, 86, 27, 50, 28, 182, 0, 230, 173, 58, 5, 20, 1, 201, 173, 58, 5, 20, 1, 205, 173]
abbrev dktX0_write_1 : List UInt8 := dkwX0_write_1 ++ []
def dkwX0_write_0 : List UInt8 := [27, 184, 0, 240, 154, 0, 7, 20, 1, 193, 173, 42, 180, 0, 86, 27, 50, 28, 33, 182, 1, 195, 42]
abbrev dktX0_write_0 : List UInt8 := dkwX0_write_0 ++ dktX0_write_1
theorem dksX0_write_0 : cX0_write.data.toList.drop 0 = dktX0_write_0 := by decide +kernel
theorem dksX0_write_1 : cX0_write.data.toList.drop 23 = dktX0_write_1 := dk_seg dksX0_write_0 23 rfl rfl
theorem dX0_write_0 : decode cX0_write 0 = .ok (.iload_n 1, 1) := dk_27 (dk_at dksX0_write_0 0 rfl rfl)
theorem dX0_write_1 : decode cX0_write 1 = .ok (.invokestatic 240, 3) := dk_184 0 240 (dk_at dksX0_write_0 1 rfl rfl)
theorem dX0_write_4 : decode cX0_write 4 = .ok (.ifCond .ne 7, 3) := dk_154 0 7 (dk_at dksX0_write_0 4 rfl rfl)
theorem dX0_write_7 : decode cX0_write 7 = .ok (.ldc2_w 449, 3) := dk_20 1 193 (dk_at dksX0_write_0 7 rfl rfl)
theorem dX0_write_10 : decode cX0_write 10 = .ok (.lreturn, 1) := dk_173 (dk_at dksX0_write_0 10 rfl rfl)
theorem dX0_write_11 : decode cX0_write 11 = .ok (.aload_n 0, 1) := dk_42 (dk_at dksX0_write_0 11 rfl rfl)
theorem dX0_write_12 : decode cX0_write 12 = .ok (.getfield 86, 3) := dk_180 0 86 (dk_at dksX0_write_0 12 rfl rfl)
theorem dX0_write_15 : decode cX0_write 15 = .ok (.iload_n 1, 1) := dk_27 (dk_at dksX0_write_0 15 rfl rfl)
theorem dX0_write_16 : decode cX0_write 16 = .ok (.aaload, 1) := dk_50 (dk_at dksX0_write_0 16 rfl rfl)
theorem dX0_write_17 : decode cX0_write 17 = .ok (.iload_n 2, 1) := dk_28 (dk_at dksX0_write_0 17 rfl rfl)
theorem dX0_write_18 : decode cX0_write 18 = .ok (.lload_n 3, 1) := dk_33 (dk_at dksX0_write_0 18 rfl rfl)
theorem dX0_write_19 : decode cX0_write 19 = .ok (.invokevirtual 451, 3) := dk_182 1 195 (dk_at dksX0_write_0 19 rfl rfl)
theorem dX0_write_22 : decode cX0_write 22 = .ok (.aload_n 0, 1) := dk_42 (dk_at dksX0_write_0 22 rfl rfl)
theorem dX0_write_23 : decode cX0_write 23 = .ok (.getfield 86, 3) := dk_180 0 86 (dk_at dksX0_write_1 0 rfl rfl)
theorem dX0_write_26 : decode cX0_write 26 = .ok (.iload_n 1, 1) := dk_27 (dk_at dksX0_write_1 3 rfl rfl)
theorem dX0_write_27 : decode cX0_write 27 = .ok (.aaload, 1) := dk_50 (dk_at dksX0_write_1 4 rfl rfl)
theorem dX0_write_28 : decode cX0_write 28 = .ok (.iload_n 2, 1) := dk_28 (dk_at dksX0_write_1 5 rfl rfl)
theorem dX0_write_29 : decode cX0_write 29 = .ok (.invokevirtual 230, 3) := dk_182 0 230 (dk_at dksX0_write_1 6 rfl rfl)
theorem dX0_write_32 : decode cX0_write 32 = .ok (.lreturn, 1) := dk_173 (dk_at dksX0_write_1 9 rfl rfl)
theorem dX0_write_33 : decode cX0_write 33 = .ok (.astore 5, 2) := dk_58 5 (dk_at dksX0_write_1 10 rfl rfl)
theorem dX0_write_35 : decode cX0_write 35 = .ok (.ldc2_w 457, 3) := dk_20 1 201 (dk_at dksX0_write_1 12 rfl rfl)
theorem dX0_write_38 : decode cX0_write 38 = .ok (.lreturn, 1) := dk_173 (dk_at dksX0_write_1 15 rfl rfl)
theorem dX0_write_39 : decode cX0_write 39 = .ok (.astore 5, 2) := dk_58 5 (dk_at dksX0_write_1 16 rfl rfl)
theorem dX0_write_41 : decode cX0_write 41 = .ok (.ldc2_w 461, 3) := dk_20 1 205 (dk_at dksX0_write_1 18 rfl rfl)
theorem dX0_write_44 : decode cX0_write 44 = .ok (.lreturn, 1) := dk_173 (dk_at dksX0_write_1 21 rfl rfl)
abbrev cX0_lists : ByteArray := prog_1_method_82_code
def yX0_lists : MethodName := ⟨RX0, "lists", "(I)I"⟩
def dkwX0_lists_3 : List UInt8 := [42, 180, 0, 25, 182, 1, 51, 87, 132, 2, 1, 167, 255, 214, 42, 180, 0, 86, 27, 50, 182, 0, 227, 172]
abbrev dktX0_lists_3 : List UInt8 := dkwX0_lists_3 ++ []
def dkwX0_lists_2 : List UInt8 := [182, 0, 227, 162, 0, 35, 42, 180, 0, 86, 27, 50, 28, 42, 180, 0, 25, 180, 0, 253, 133, 182, 1, 195]
abbrev dktX0_lists_2 : List UInt8 := dkwX0_lists_2 ++ dktX0_lists_3
def dkwX0_lists_1 : List UInt8 := [172, 42, 180, 0, 25, 42, 180, 0, 21, 182, 0, 194, 87, 3, 61, 28, 42, 180, 0, 86, 27, 50]
abbrev dktX0_lists_1 : List UInt8 := dkwX0_lists_1 ++ dktX0_lists_2
def dkwX0_lists_0 : List UInt8 := [27, 184, 0, 240, 154, 0, 6, 16, 254, 172, 42, 180, 0, 86, 27, 50, 180, 0, 245, 199, 0, 6, 16, 250]
abbrev dktX0_lists_0 : List UInt8 := dkwX0_lists_0 ++ dktX0_lists_1
theorem dksX0_lists_0 : cX0_lists.data.toList.drop 0 = dktX0_lists_0 := by decide +kernel
theorem dksX0_lists_1 : cX0_lists.data.toList.drop 24 = dktX0_lists_1 := dk_seg dksX0_lists_0 24 rfl rfl
theorem dksX0_lists_2 : cX0_lists.data.toList.drop 46 = dktX0_lists_2 := dk_seg dksX0_lists_1 22 rfl rfl
theorem dksX0_lists_3 : cX0_lists.data.toList.drop 70 = dktX0_lists_3 := dk_seg dksX0_lists_2 24 rfl rfl
theorem dX0_lists_0 : decode cX0_lists 0 = .ok (.iload_n 1, 1) := dk_27 (dk_at dksX0_lists_0 0 rfl rfl)
theorem dX0_lists_1 : decode cX0_lists 1 = .ok (.invokestatic 240, 3) := dk_184 0 240 (dk_at dksX0_lists_0 1 rfl rfl)
theorem dX0_lists_4 : decode cX0_lists 4 = .ok (.ifCond .ne 6, 3) := dk_154 0 6 (dk_at dksX0_lists_0 4 rfl rfl)
theorem dX0_lists_7 : decode cX0_lists 7 = .ok (.bipush (-2), 2) := dk_16 254 (dk_at dksX0_lists_0 7 rfl rfl)
theorem dX0_lists_9 : decode cX0_lists 9 = .ok (.ireturn, 1) := dk_172 (dk_at dksX0_lists_0 9 rfl rfl)
theorem dX0_lists_10 : decode cX0_lists 10 = .ok (.aload_n 0, 1) := dk_42 (dk_at dksX0_lists_0 10 rfl rfl)
theorem dX0_lists_11 : decode cX0_lists 11 = .ok (.getfield 86, 3) := dk_180 0 86 (dk_at dksX0_lists_0 11 rfl rfl)
theorem dX0_lists_14 : decode cX0_lists 14 = .ok (.iload_n 1, 1) := dk_27 (dk_at dksX0_lists_0 14 rfl rfl)
theorem dX0_lists_15 : decode cX0_lists 15 = .ok (.aaload, 1) := dk_50 (dk_at dksX0_lists_0 15 rfl rfl)
theorem dX0_lists_16 : decode cX0_lists 16 = .ok (.getfield 245, 3) := dk_180 0 245 (dk_at dksX0_lists_0 16 rfl rfl)
theorem dX0_lists_19 : decode cX0_lists 19 = .ok (.ifnonnull 6, 3) := dk_199 0 6 (dk_at dksX0_lists_0 19 rfl rfl)
theorem dX0_lists_22 : decode cX0_lists 22 = .ok (.bipush (-6), 2) := dk_16 250 (dk_at dksX0_lists_0 22 rfl rfl)
theorem dX0_lists_24 : decode cX0_lists 24 = .ok (.ireturn, 1) := dk_172 (dk_at dksX0_lists_1 0 rfl rfl)
theorem dX0_lists_25 : decode cX0_lists 25 = .ok (.aload_n 0, 1) := dk_42 (dk_at dksX0_lists_1 1 rfl rfl)
theorem dX0_lists_26 : decode cX0_lists 26 = .ok (.getfield 25, 3) := dk_180 0 25 (dk_at dksX0_lists_1 2 rfl rfl)
theorem dX0_lists_29 : decode cX0_lists 29 = .ok (.aload_n 0, 1) := dk_42 (dk_at dksX0_lists_1 5 rfl rfl)
theorem dX0_lists_30 : decode cX0_lists 30 = .ok (.getfield 21, 3) := dk_180 0 21 (dk_at dksX0_lists_1 6 rfl rfl)
theorem dX0_lists_33 : decode cX0_lists 33 = .ok (.invokevirtual 194, 3) := dk_182 0 194 (dk_at dksX0_lists_1 9 rfl rfl)
theorem dX0_lists_36 : decode cX0_lists 36 = .ok (.pop, 1) := dk_87 (dk_at dksX0_lists_1 12 rfl rfl)
theorem dX0_lists_37 : decode cX0_lists 37 = .ok (.iconst 0, 1) := dk_3 (dk_at dksX0_lists_1 13 rfl rfl)
theorem dX0_lists_38 : decode cX0_lists 38 = .ok (.istore_n 2, 1) := dk_61 (dk_at dksX0_lists_1 14 rfl rfl)
theorem dX0_lists_39 : decode cX0_lists 39 = .ok (.iload_n 2, 1) := dk_28 (dk_at dksX0_lists_1 15 rfl rfl)
theorem dX0_lists_40 : decode cX0_lists 40 = .ok (.aload_n 0, 1) := dk_42 (dk_at dksX0_lists_1 16 rfl rfl)
theorem dX0_lists_41 : decode cX0_lists 41 = .ok (.getfield 86, 3) := dk_180 0 86 (dk_at dksX0_lists_1 17 rfl rfl)
theorem dX0_lists_44 : decode cX0_lists 44 = .ok (.iload_n 1, 1) := dk_27 (dk_at dksX0_lists_1 20 rfl rfl)
theorem dX0_lists_45 : decode cX0_lists 45 = .ok (.aaload, 1) := dk_50 (dk_at dksX0_lists_1 21 rfl rfl)
theorem dX0_lists_46 : decode cX0_lists 46 = .ok (.invokevirtual 227, 3) := dk_182 0 227 (dk_at dksX0_lists_2 0 rfl rfl)
theorem dX0_lists_49 : decode cX0_lists 49 = .ok (.if_icmp .ge 35, 3) := dk_162 0 35 (dk_at dksX0_lists_2 3 rfl rfl)
theorem dX0_lists_52 : decode cX0_lists 52 = .ok (.aload_n 0, 1) := dk_42 (dk_at dksX0_lists_2 6 rfl rfl)
theorem dX0_lists_53 : decode cX0_lists 53 = .ok (.getfield 86, 3) := dk_180 0 86 (dk_at dksX0_lists_2 7 rfl rfl)
theorem dX0_lists_56 : decode cX0_lists 56 = .ok (.iload_n 1, 1) := dk_27 (dk_at dksX0_lists_2 10 rfl rfl)
theorem dX0_lists_57 : decode cX0_lists 57 = .ok (.aaload, 1) := dk_50 (dk_at dksX0_lists_2 11 rfl rfl)
theorem dX0_lists_58 : decode cX0_lists 58 = .ok (.iload_n 2, 1) := dk_28 (dk_at dksX0_lists_2 12 rfl rfl)
theorem dX0_lists_59 : decode cX0_lists 59 = .ok (.aload_n 0, 1) := dk_42 (dk_at dksX0_lists_2 13 rfl rfl)
theorem dX0_lists_60 : decode cX0_lists 60 = .ok (.getfield 25, 3) := dk_180 0 25 (dk_at dksX0_lists_2 14 rfl rfl)
theorem dX0_lists_63 : decode cX0_lists 63 = .ok (.getfield 253, 3) := dk_180 0 253 (dk_at dksX0_lists_2 17 rfl rfl)
theorem dX0_lists_66 : decode cX0_lists 66 = .ok (.i2l, 1) := dk_133 (dk_at dksX0_lists_2 20 rfl rfl)
theorem dX0_lists_67 : decode cX0_lists 67 = .ok (.invokevirtual 451, 3) := dk_182 1 195 (dk_at dksX0_lists_2 21 rfl rfl)
theorem dX0_lists_70 : decode cX0_lists 70 = .ok (.aload_n 0, 1) := dk_42 (dk_at dksX0_lists_3 0 rfl rfl)
theorem dX0_lists_71 : decode cX0_lists 71 = .ok (.getfield 25, 3) := dk_180 0 25 (dk_at dksX0_lists_3 1 rfl rfl)
theorem dX0_lists_74 : decode cX0_lists 74 = .ok (.invokevirtual 307, 3) := dk_182 1 51 (dk_at dksX0_lists_3 4 rfl rfl)
theorem dX0_lists_77 : decode cX0_lists 77 = .ok (.pop, 1) := dk_87 (dk_at dksX0_lists_3 7 rfl rfl)
theorem dX0_lists_78 : decode cX0_lists 78 = .ok (.iinc 2 1, 3) := dk_132 2 1 (dk_at dksX0_lists_3 8 rfl rfl)
theorem dX0_lists_81 : decode cX0_lists 81 = .ok (.goto (-42), 3) := dk_167 255 214 (dk_at dksX0_lists_3 11 rfl rfl)
theorem dX0_lists_84 : decode cX0_lists 84 = .ok (.aload_n 0, 1) := dk_42 (dk_at dksX0_lists_3 14 rfl rfl)
theorem dX0_lists_85 : decode cX0_lists 85 = .ok (.getfield 86, 3) := dk_180 0 86 (dk_at dksX0_lists_3 15 rfl rfl)
theorem dX0_lists_88 : decode cX0_lists 88 = .ok (.iload_n 1, 1) := dk_27 (dk_at dksX0_lists_3 18 rfl rfl)
theorem dX0_lists_89 : decode cX0_lists 89 = .ok (.aaload, 1) := dk_50 (dk_at dksX0_lists_3 19 rfl rfl)
theorem dX0_lists_90 : decode cX0_lists 90 = .ok (.invokevirtual 227, 3) := dk_182 0 227 (dk_at dksX0_lists_3 20 rfl rfl)
theorem dX0_lists_93 : decode cX0_lists 93 = .ok (.ireturn, 1) := dk_172 (dk_at dksX0_lists_3 23 rfl rfl)
abbrev cX0_image : ByteArray := prog_1_method_83_code
def yX0_image : MethodName := ⟨RX0, "image", "(I)I"⟩
def dkwX0_image_1 : List UInt8 := [180, 0, 94, 27, 50, 42, 180, 0, 21, 182, 0, 194, 87, 3, 172]
abbrev dktX0_image_1 : List UInt8 := dkwX0_image_1 ++ []
def dkwX0_image_0 : List UInt8 := [27, 133, 9, 10, 184, 0, 108, 154, 0, 6, 16, 254, 172, 42, 180, 0, 90, 27, 42, 180, 0, 12, 83, 42]
abbrev dktX0_image_0 : List UInt8 := dkwX0_image_0 ++ dktX0_image_1
theorem dksX0_image_0 : cX0_image.data.toList.drop 0 = dktX0_image_0 := by decide +kernel
theorem dksX0_image_1 : cX0_image.data.toList.drop 24 = dktX0_image_1 := dk_seg dksX0_image_0 24 rfl rfl
theorem dX0_image_0 : decode cX0_image 0 = .ok (.iload_n 1, 1) := dk_27 (dk_at dksX0_image_0 0 rfl rfl)
theorem dX0_image_1 : decode cX0_image 1 = .ok (.i2l, 1) := dk_133 (dk_at dksX0_image_0 1 rfl rfl)
theorem dX0_image_2 : decode cX0_image 2 = .ok (.lconst 0, 1) := dk_9 (dk_at dksX0_image_0 2 rfl rfl)
theorem dX0_image_3 : decode cX0_image 3 = .ok (.lconst 1, 1) := dk_10 (dk_at dksX0_image_0 3 rfl rfl)
theorem dX0_image_4 : decode cX0_image 4 = .ok (.invokestatic 108, 3) := dk_184 0 108 (dk_at dksX0_image_0 4 rfl rfl)
theorem dX0_image_7 : decode cX0_image 7 = .ok (.ifCond .ne 6, 3) := dk_154 0 6 (dk_at dksX0_image_0 7 rfl rfl)
theorem dX0_image_10 : decode cX0_image 10 = .ok (.bipush (-2), 2) := dk_16 254 (dk_at dksX0_image_0 10 rfl rfl)
theorem dX0_image_12 : decode cX0_image 12 = .ok (.ireturn, 1) := dk_172 (dk_at dksX0_image_0 12 rfl rfl)
theorem dX0_image_13 : decode cX0_image 13 = .ok (.aload_n 0, 1) := dk_42 (dk_at dksX0_image_0 13 rfl rfl)
theorem dX0_image_14 : decode cX0_image 14 = .ok (.getfield 90, 3) := dk_180 0 90 (dk_at dksX0_image_0 14 rfl rfl)
theorem dX0_image_17 : decode cX0_image 17 = .ok (.iload_n 1, 1) := dk_27 (dk_at dksX0_image_0 17 rfl rfl)
theorem dX0_image_18 : decode cX0_image 18 = .ok (.aload_n 0, 1) := dk_42 (dk_at dksX0_image_0 18 rfl rfl)
theorem dX0_image_19 : decode cX0_image 19 = .ok (.getfield 12, 3) := dk_180 0 12 (dk_at dksX0_image_0 19 rfl rfl)
theorem dX0_image_22 : decode cX0_image 22 = .ok (.aastore, 1) := dk_83 (dk_at dksX0_image_0 22 rfl rfl)
theorem dX0_image_23 : decode cX0_image 23 = .ok (.aload_n 0, 1) := dk_42 (dk_at dksX0_image_0 23 rfl rfl)
theorem dX0_image_24 : decode cX0_image 24 = .ok (.getfield 94, 3) := dk_180 0 94 (dk_at dksX0_image_1 0 rfl rfl)
theorem dX0_image_27 : decode cX0_image 27 = .ok (.iload_n 1, 1) := dk_27 (dk_at dksX0_image_1 3 rfl rfl)
theorem dX0_image_28 : decode cX0_image 28 = .ok (.aaload, 1) := dk_50 (dk_at dksX0_image_1 4 rfl rfl)
theorem dX0_image_29 : decode cX0_image 29 = .ok (.aload_n 0, 1) := dk_42 (dk_at dksX0_image_1 5 rfl rfl)
theorem dX0_image_30 : decode cX0_image 30 = .ok (.getfield 21, 3) := dk_180 0 21 (dk_at dksX0_image_1 6 rfl rfl)
theorem dX0_image_33 : decode cX0_image 33 = .ok (.invokevirtual 194, 3) := dk_182 0 194 (dk_at dksX0_image_1 9 rfl rfl)
theorem dX0_image_36 : decode cX0_image 36 = .ok (.pop, 1) := dk_87 (dk_at dksX0_image_1 12 rfl rfl)
theorem dX0_image_37 : decode cX0_image 37 = .ok (.iconst 0, 1) := dk_3 (dk_at dksX0_image_1 13 rfl rfl)
theorem dX0_image_38 : decode cX0_image 38 = .ok (.ireturn, 1) := dk_172 (dk_at dksX0_image_1 14 rfl rfl)
abbrev cX0_restore : ByteArray := prog_1_method_84_code
def yX0_restore : MethodName := ⟨RX0, "restore", "(I)I"⟩
def dkwX0_restore_2 : List UInt8 := [87, 42, 3, 181, 0, 132, 3, 172]
abbrev dktX0_restore_2 : List UInt8 := dkwX0_restore_2 ++ []
def dkwX0_restore_1 : List UInt8 := [172, 42, 42, 180, 0, 90, 27, 50, 181, 0, 12, 42, 180, 0, 21, 42, 180, 0, 94, 27, 50, 182, 0, 194]
abbrev dktX0_restore_1 : List UInt8 := dkwX0_restore_1 ++ dktX0_restore_2
def dkwX0_restore_0 : List UInt8 := [27, 133, 9, 10, 184, 0, 108, 154, 0, 6, 16, 254, 172, 42, 180, 0, 90, 27, 50, 199, 0, 6, 16, 251]
abbrev dktX0_restore_0 : List UInt8 := dkwX0_restore_0 ++ dktX0_restore_1
theorem dksX0_restore_0 : cX0_restore.data.toList.drop 0 = dktX0_restore_0 := by decide +kernel
theorem dksX0_restore_1 : cX0_restore.data.toList.drop 24 = dktX0_restore_1 := dk_seg dksX0_restore_0 24 rfl rfl
theorem dksX0_restore_2 : cX0_restore.data.toList.drop 48 = dktX0_restore_2 := dk_seg dksX0_restore_1 24 rfl rfl
theorem dX0_restore_0 : decode cX0_restore 0 = .ok (.iload_n 1, 1) := dk_27 (dk_at dksX0_restore_0 0 rfl rfl)
theorem dX0_restore_1 : decode cX0_restore 1 = .ok (.i2l, 1) := dk_133 (dk_at dksX0_restore_0 1 rfl rfl)
theorem dX0_restore_2 : decode cX0_restore 2 = .ok (.lconst 0, 1) := dk_9 (dk_at dksX0_restore_0 2 rfl rfl)
theorem dX0_restore_3 : decode cX0_restore 3 = .ok (.lconst 1, 1) := dk_10 (dk_at dksX0_restore_0 3 rfl rfl)
theorem dX0_restore_4 : decode cX0_restore 4 = .ok (.invokestatic 108, 3) := dk_184 0 108 (dk_at dksX0_restore_0 4 rfl rfl)
theorem dX0_restore_7 : decode cX0_restore 7 = .ok (.ifCond .ne 6, 3) := dk_154 0 6 (dk_at dksX0_restore_0 7 rfl rfl)
theorem dX0_restore_10 : decode cX0_restore 10 = .ok (.bipush (-2), 2) := dk_16 254 (dk_at dksX0_restore_0 10 rfl rfl)
theorem dX0_restore_12 : decode cX0_restore 12 = .ok (.ireturn, 1) := dk_172 (dk_at dksX0_restore_0 12 rfl rfl)
theorem dX0_restore_13 : decode cX0_restore 13 = .ok (.aload_n 0, 1) := dk_42 (dk_at dksX0_restore_0 13 rfl rfl)
theorem dX0_restore_14 : decode cX0_restore 14 = .ok (.getfield 90, 3) := dk_180 0 90 (dk_at dksX0_restore_0 14 rfl rfl)
theorem dX0_restore_17 : decode cX0_restore 17 = .ok (.iload_n 1, 1) := dk_27 (dk_at dksX0_restore_0 17 rfl rfl)
theorem dX0_restore_18 : decode cX0_restore 18 = .ok (.aaload, 1) := dk_50 (dk_at dksX0_restore_0 18 rfl rfl)
theorem dX0_restore_19 : decode cX0_restore 19 = .ok (.ifnonnull 6, 3) := dk_199 0 6 (dk_at dksX0_restore_0 19 rfl rfl)
theorem dX0_restore_22 : decode cX0_restore 22 = .ok (.bipush (-5), 2) := dk_16 251 (dk_at dksX0_restore_0 22 rfl rfl)
theorem dX0_restore_24 : decode cX0_restore 24 = .ok (.ireturn, 1) := dk_172 (dk_at dksX0_restore_1 0 rfl rfl)
theorem dX0_restore_25 : decode cX0_restore 25 = .ok (.aload_n 0, 1) := dk_42 (dk_at dksX0_restore_1 1 rfl rfl)
theorem dX0_restore_26 : decode cX0_restore 26 = .ok (.aload_n 0, 1) := dk_42 (dk_at dksX0_restore_1 2 rfl rfl)
theorem dX0_restore_27 : decode cX0_restore 27 = .ok (.getfield 90, 3) := dk_180 0 90 (dk_at dksX0_restore_1 3 rfl rfl)
theorem dX0_restore_30 : decode cX0_restore 30 = .ok (.iload_n 1, 1) := dk_27 (dk_at dksX0_restore_1 6 rfl rfl)
theorem dX0_restore_31 : decode cX0_restore 31 = .ok (.aaload, 1) := dk_50 (dk_at dksX0_restore_1 7 rfl rfl)
theorem dX0_restore_32 : decode cX0_restore 32 = .ok (.putfield 12, 3) := dk_181 0 12 (dk_at dksX0_restore_1 8 rfl rfl)
theorem dX0_restore_35 : decode cX0_restore 35 = .ok (.aload_n 0, 1) := dk_42 (dk_at dksX0_restore_1 11 rfl rfl)
theorem dX0_restore_36 : decode cX0_restore 36 = .ok (.getfield 21, 3) := dk_180 0 21 (dk_at dksX0_restore_1 12 rfl rfl)
theorem dX0_restore_39 : decode cX0_restore 39 = .ok (.aload_n 0, 1) := dk_42 (dk_at dksX0_restore_1 15 rfl rfl)
theorem dX0_restore_40 : decode cX0_restore 40 = .ok (.getfield 94, 3) := dk_180 0 94 (dk_at dksX0_restore_1 16 rfl rfl)
theorem dX0_restore_43 : decode cX0_restore 43 = .ok (.iload_n 1, 1) := dk_27 (dk_at dksX0_restore_1 19 rfl rfl)
theorem dX0_restore_44 : decode cX0_restore 44 = .ok (.aaload, 1) := dk_50 (dk_at dksX0_restore_1 20 rfl rfl)
theorem dX0_restore_45 : decode cX0_restore 45 = .ok (.invokevirtual 194, 3) := dk_182 0 194 (dk_at dksX0_restore_1 21 rfl rfl)
theorem dX0_restore_48 : decode cX0_restore 48 = .ok (.pop, 1) := dk_87 (dk_at dksX0_restore_2 0 rfl rfl)
theorem dX0_restore_49 : decode cX0_restore 49 = .ok (.aload_n 0, 1) := dk_42 (dk_at dksX0_restore_2 1 rfl rfl)
theorem dX0_restore_50 : decode cX0_restore 50 = .ok (.iconst 0, 1) := dk_3 (dk_at dksX0_restore_2 2 rfl rfl)
theorem dX0_restore_51 : decode cX0_restore 51 = .ok (.putfield 132, 3) := dk_181 0 132 (dk_at dksX0_restore_2 3 rfl rfl)
theorem dX0_restore_54 : decode cX0_restore 54 = .ok (.iconst 0, 1) := dk_3 (dk_at dksX0_restore_2 6 rfl rfl)
theorem dX0_restore_55 : decode cX0_restore 55 = .ok (.ireturn, 1) := dk_172 (dk_at dksX0_restore_2 7 rfl rfl)
abbrev cX0_count : ByteArray := prog_1_method_85_code
def yX0_count : MethodName := ⟨RX0, "count", "(I)I"⟩
def dkwX0_count_5 : List UInt8 := [42, 180, 0, 132, 172, 42, 180, 0, 101, 172, 42, 180, 0, 12, 180, 0, 135, 172, 2, 172]
abbrev dktX0_count_5 : List UInt8 := dkwX0_count_5 ++ []
def dkwX0_count_4 : List UInt8 := [42, 180, 0, 21, 180, 0, 138, 42, 180, 0, 12, 180, 0, 141, 100, 42, 180, 0, 21, 182, 1, 207, 96, 172]
abbrev dktX0_count_4 : List UInt8 := dkwX0_count_4 ++ dktX0_count_5
def dkwX0_count_3 : List UInt8 := [42, 180, 0, 21, 180, 0, 253, 172, 42, 180, 0, 21, 180, 1, 0, 172, 42, 180, 0, 21, 182, 1, 76, 172]
abbrev dktX0_count_3 : List UInt8 := dkwX0_count_3 ++ dktX0_count_4
def dkwX0_count_2 : List UInt8 := [42, 180, 0, 21, 180, 0, 138, 172, 42, 180, 0, 12, 180, 0, 141, 172, 42, 180, 0, 21, 182, 1, 207, 172]
abbrev dktX0_count_2 : List UInt8 := dkwX0_count_2 ++ dktX0_count_3
def dkwX0_count_1 : List UInt8 := [170, 0, 0, 0, 0, 0, 145, 0, 0, 0, 0, 0, 0, 0, 9, 0, 0, 0, 55, 0, 0, 0, 63, 0, 0, 0, 71, 0, 0, 0, 79, 0, 0, 0, 87, 0, 0, 0, 95, 0, 0, 0, 103, 0, 0, 0, 127, 0, 0, 0, 132, 0, 0, 0, 137]
abbrev dktX0_count_1 : List UInt8 := dkwX0_count_1 ++ dktX0_count_2
def dkwX0_count_0 : List UInt8 := [27]
abbrev dktX0_count_0 : List UInt8 := dkwX0_count_0 ++ dktX0_count_1
theorem dksX0_count_0 : cX0_count.data.toList.drop 0 = dktX0_count_0 := by decide +kernel
theorem dksX0_count_1 : cX0_count.data.toList.drop 1 = dktX0_count_1 := dk_seg dksX0_count_0 1 rfl rfl
theorem dksX0_count_2 : cX0_count.data.toList.drop 56 = dktX0_count_2 := dk_seg dksX0_count_1 55 rfl rfl
theorem dksX0_count_3 : cX0_count.data.toList.drop 80 = dktX0_count_3 := dk_seg dksX0_count_2 24 rfl rfl
theorem dksX0_count_4 : cX0_count.data.toList.drop 104 = dktX0_count_4 := dk_seg dksX0_count_3 24 rfl rfl
theorem dksX0_count_5 : cX0_count.data.toList.drop 128 = dktX0_count_5 := dk_seg dksX0_count_4 24 rfl rfl
theorem dX0_count_0 : decode cX0_count 0 = .ok (.iload_n 1, 1) := dk_27 (dk_at dksX0_count_0 0 rfl rfl)
theorem dX0_count_1 : decode cX0_count 1 = .ok (.tableswitch 145 0 9 #[55, 63, 71, 79, 87, 95, 103, 127, 132, 137], 55) := by decide +kernel
theorem dX0_count_56 : decode cX0_count 56 = .ok (.aload_n 0, 1) := dk_42 (dk_at dksX0_count_2 0 rfl rfl)
theorem dX0_count_57 : decode cX0_count 57 = .ok (.getfield 21, 3) := dk_180 0 21 (dk_at dksX0_count_2 1 rfl rfl)
theorem dX0_count_60 : decode cX0_count 60 = .ok (.getfield 138, 3) := dk_180 0 138 (dk_at dksX0_count_2 4 rfl rfl)
theorem dX0_count_63 : decode cX0_count 63 = .ok (.ireturn, 1) := dk_172 (dk_at dksX0_count_2 7 rfl rfl)
theorem dX0_count_64 : decode cX0_count 64 = .ok (.aload_n 0, 1) := dk_42 (dk_at dksX0_count_2 8 rfl rfl)
theorem dX0_count_65 : decode cX0_count 65 = .ok (.getfield 12, 3) := dk_180 0 12 (dk_at dksX0_count_2 9 rfl rfl)
theorem dX0_count_68 : decode cX0_count 68 = .ok (.getfield 141, 3) := dk_180 0 141 (dk_at dksX0_count_2 12 rfl rfl)
theorem dX0_count_71 : decode cX0_count 71 = .ok (.ireturn, 1) := dk_172 (dk_at dksX0_count_2 15 rfl rfl)
theorem dX0_count_72 : decode cX0_count 72 = .ok (.aload_n 0, 1) := dk_42 (dk_at dksX0_count_2 16 rfl rfl)
theorem dX0_count_73 : decode cX0_count 73 = .ok (.getfield 21, 3) := dk_180 0 21 (dk_at dksX0_count_2 17 rfl rfl)
theorem dX0_count_76 : decode cX0_count 76 = .ok (.invokevirtual 463, 3) := dk_182 1 207 (dk_at dksX0_count_2 20 rfl rfl)
theorem dX0_count_79 : decode cX0_count 79 = .ok (.ireturn, 1) := dk_172 (dk_at dksX0_count_2 23 rfl rfl)
theorem dX0_count_80 : decode cX0_count 80 = .ok (.aload_n 0, 1) := dk_42 (dk_at dksX0_count_3 0 rfl rfl)
theorem dX0_count_81 : decode cX0_count 81 = .ok (.getfield 21, 3) := dk_180 0 21 (dk_at dksX0_count_3 1 rfl rfl)
theorem dX0_count_84 : decode cX0_count 84 = .ok (.getfield 253, 3) := dk_180 0 253 (dk_at dksX0_count_3 4 rfl rfl)
theorem dX0_count_87 : decode cX0_count 87 = .ok (.ireturn, 1) := dk_172 (dk_at dksX0_count_3 7 rfl rfl)
theorem dX0_count_88 : decode cX0_count 88 = .ok (.aload_n 0, 1) := dk_42 (dk_at dksX0_count_3 8 rfl rfl)
theorem dX0_count_89 : decode cX0_count 89 = .ok (.getfield 21, 3) := dk_180 0 21 (dk_at dksX0_count_3 9 rfl rfl)
theorem dX0_count_92 : decode cX0_count 92 = .ok (.getfield 256, 3) := dk_180 1 0 (dk_at dksX0_count_3 12 rfl rfl)
theorem dX0_count_95 : decode cX0_count 95 = .ok (.ireturn, 1) := dk_172 (dk_at dksX0_count_3 15 rfl rfl)
theorem dX0_count_96 : decode cX0_count 96 = .ok (.aload_n 0, 1) := dk_42 (dk_at dksX0_count_3 16 rfl rfl)
theorem dX0_count_97 : decode cX0_count 97 = .ok (.getfield 21, 3) := dk_180 0 21 (dk_at dksX0_count_3 17 rfl rfl)
theorem dX0_count_100 : decode cX0_count 100 = .ok (.invokevirtual 332, 3) := dk_182 1 76 (dk_at dksX0_count_3 20 rfl rfl)
theorem dX0_count_103 : decode cX0_count 103 = .ok (.ireturn, 1) := dk_172 (dk_at dksX0_count_3 23 rfl rfl)
theorem dX0_count_104 : decode cX0_count 104 = .ok (.aload_n 0, 1) := dk_42 (dk_at dksX0_count_4 0 rfl rfl)
theorem dX0_count_105 : decode cX0_count 105 = .ok (.getfield 21, 3) := dk_180 0 21 (dk_at dksX0_count_4 1 rfl rfl)
theorem dX0_count_108 : decode cX0_count 108 = .ok (.getfield 138, 3) := dk_180 0 138 (dk_at dksX0_count_4 4 rfl rfl)
theorem dX0_count_111 : decode cX0_count 111 = .ok (.aload_n 0, 1) := dk_42 (dk_at dksX0_count_4 7 rfl rfl)
theorem dX0_count_112 : decode cX0_count 112 = .ok (.getfield 12, 3) := dk_180 0 12 (dk_at dksX0_count_4 8 rfl rfl)
theorem dX0_count_115 : decode cX0_count 115 = .ok (.getfield 141, 3) := dk_180 0 141 (dk_at dksX0_count_4 11 rfl rfl)
theorem dX0_count_118 : decode cX0_count 118 = .ok (.isub, 1) := dk_100 (dk_at dksX0_count_4 14 rfl rfl)
theorem dX0_count_119 : decode cX0_count 119 = .ok (.aload_n 0, 1) := dk_42 (dk_at dksX0_count_4 15 rfl rfl)
theorem dX0_count_120 : decode cX0_count 120 = .ok (.getfield 21, 3) := dk_180 0 21 (dk_at dksX0_count_4 16 rfl rfl)
theorem dX0_count_123 : decode cX0_count 123 = .ok (.invokevirtual 463, 3) := dk_182 1 207 (dk_at dksX0_count_4 19 rfl rfl)
theorem dX0_count_126 : decode cX0_count 126 = .ok (.iadd, 1) := dk_96 (dk_at dksX0_count_4 22 rfl rfl)
theorem dX0_count_127 : decode cX0_count 127 = .ok (.ireturn, 1) := dk_172 (dk_at dksX0_count_4 23 rfl rfl)
theorem dX0_count_128 : decode cX0_count 128 = .ok (.aload_n 0, 1) := dk_42 (dk_at dksX0_count_5 0 rfl rfl)
theorem dX0_count_129 : decode cX0_count 129 = .ok (.getfield 132, 3) := dk_180 0 132 (dk_at dksX0_count_5 1 rfl rfl)
theorem dX0_count_132 : decode cX0_count 132 = .ok (.ireturn, 1) := dk_172 (dk_at dksX0_count_5 4 rfl rfl)
theorem dX0_count_133 : decode cX0_count 133 = .ok (.aload_n 0, 1) := dk_42 (dk_at dksX0_count_5 5 rfl rfl)
theorem dX0_count_134 : decode cX0_count 134 = .ok (.getfield 101, 3) := dk_180 0 101 (dk_at dksX0_count_5 6 rfl rfl)
theorem dX0_count_137 : decode cX0_count 137 = .ok (.ireturn, 1) := dk_172 (dk_at dksX0_count_5 9 rfl rfl)
theorem dX0_count_138 : decode cX0_count 138 = .ok (.aload_n 0, 1) := dk_42 (dk_at dksX0_count_5 10 rfl rfl)
theorem dX0_count_139 : decode cX0_count 139 = .ok (.getfield 12, 3) := dk_180 0 12 (dk_at dksX0_count_5 11 rfl rfl)
theorem dX0_count_142 : decode cX0_count 142 = .ok (.getfield 135, 3) := dk_180 0 135 (dk_at dksX0_count_5 14 rfl rfl)
theorem dX0_count_145 : decode cX0_count 145 = .ok (.ireturn, 1) := dk_172 (dk_at dksX0_count_5 17 rfl rfl)
theorem dX0_count_146 : decode cX0_count 146 = .ok (.iconst (-1), 1) := dk_2 (dk_at dksX0_count_5 18 rfl rfl)
theorem dX0_count_147 : decode cX0_count 147 = .ok (.ireturn, 1) := dk_172 (dk_at dksX0_count_5 19 rfl rfl)
theorem q127 : (Jvm.Cond.initialized "SunkTower") ∈ lw_all := lw_g (lw_at lw_m1 1 rfl) rfl
theorem q153 : (Jvm.Cond.instantiable "SunkTower" (33 : Nat)) ∈ lw_all := lw_g (lw_at lw_m1 27 rfl) rfl
theorem q155 : (Jvm.Cond.instanceMethod ({ cls := "SunkTower", name := "<init>", desc := "()V" } : Jvm.MethodName)) ∈ lw_all := lw_g (lw_at lw_m1 29 rfl) rfl
theorem q156 : (Jvm.Cond.code ({ cls := "SunkTower", name := "<init>", desc := "()V" } : Jvm.MethodName) prog_1_method_3_code (1 : Nat) (Option.none : Option Jvm.ClassFile.FieldType)) ∈ lw_all := lw_g (lw_at lw_m1 30 rfl) rfl
theorem q157 : (Jvm.Cond.methodLink "SunkTower" (3 : Nat) ({ cls := "java/lang/Object", name := "<init>", desc := "()V" } : Jvm.MethodName)) ∈ lw_all := lw_g (lw_at lw_m1 31 rfl) rfl
theorem q160 : (Jvm.Cond.classLink "SunkTower" (9 : Nat) "SunkTower$Tower") ∈ lw_all := lw_g (lw_at lw_m1 34 rfl) rfl
theorem q162 : (Jvm.Cond.methodLink "SunkTower" (11 : Nat) ({ cls := "SunkTower$Tower", name := "<init>", desc := "()V" } : Jvm.MethodName)) ∈ lw_all := lw_g (lw_at lw_m1 36 rfl) rfl
theorem q173 : (Jvm.Cond.fieldLinkNest "SunkTower" (170 : Nat) "SunkTower$Tower" "wants" "[I" "SunkTower") ∈ lw_tbl := lw_at lw_m1 47 rfl
theorem q183 : (Jvm.Cond.fieldLinkNest "SunkTower" (141 : Nat) "SunkTower$Tower" "tenants" "I" "SunkTower") ∈ lw_tbl := lw_at lw_m1 57 rfl
theorem q194 : (Jvm.Cond.fieldLinkNest "SunkTower" (376 : Nat) "SunkTower$Tower" "dear" "I" "SunkTower") ∈ lw_tbl := lw_at lw_m1 68 rfl
theorem q197 : (Jvm.Cond.fieldLinkNest "SunkTower" (339 : Nat) "SunkTower$Tower" "move" "I" "SunkTower") ∈ lw_tbl := lw_at lw_m1 71 rfl
theorem q198 : (Jvm.Cond.fieldLinkNest "SunkTower" (135 : Nat) "SunkTower$Tower" "lines" "I" "SunkTower") ∈ lw_tbl := lw_at lw_m1 72 rfl
theorem q240 : (Jvm.Cond.classLink "SunkTower" (16 : Nat) "SunkTower$State") ∈ lw_all := lw_g (lw_at lw_m1 114 rfl) rfl
theorem q242 : (Jvm.Cond.methodLinkNest "SunkTower" (18 : Nat) ({ cls := "SunkTower$State", name := "<init>", desc := "(LSunkTower;)V" } : Jvm.MethodName) "SunkTower") ∈ lw_tbl := lw_at lw_m1 116 rfl
theorem q247 : (Jvm.Cond.fieldLinkNest "SunkTower" (173 : Nat) "SunkTower$State" "on" "[I" "SunkTower") ∈ lw_tbl := lw_at lw_m1 121 rfl
theorem q249 : (Jvm.Cond.fieldLinkNest "SunkTower" (167 : Nat) "SunkTower$State" "goods" "[I" "SunkTower") ∈ lw_tbl := lw_at lw_m1 123 rfl
theorem q251 : (Jvm.Cond.fieldLinkNest "SunkTower" (150 : Nat) "SunkTower$State" "weight" "[I" "SunkTower") ∈ lw_tbl := lw_at lw_m1 125 rfl
theorem q253 : (Jvm.Cond.fieldLinkNest "SunkTower" (138 : Nat) "SunkTower$State" "storeys" "I" "SunkTower") ∈ lw_tbl := lw_at lw_m1 127 rfl
theorem q255 : (Jvm.Cond.fieldLinkNest "SunkTower" (253 : Nat) "SunkTower$State" "sunk" "I" "SunkTower") ∈ lw_tbl := lw_at lw_m1 129 rfl
theorem q257 : (Jvm.Cond.fieldLinkNest "SunkTower" (256 : Nat) "SunkTower$State" "month" "I" "SunkTower") ∈ lw_tbl := lw_at lw_m1 131 rfl
theorem q259 : (Jvm.Cond.fieldLinkNest "SunkTower" (323 : Nat) "SunkTower$State" "besides" "I" "SunkTower") ∈ lw_tbl := lw_at lw_m1 133 rfl
theorem q279 : (Jvm.Cond.constant "SunkTower" (72 : Nat) (100000 : Int32)) ∈ lw_all := lw_g (lw_at lw_m1 153 rfl) rfl
theorem q280 : (Jvm.Cond.constant "SunkTower" (79 : Nat) (61000 : Int32)) ∈ lw_all := lw_g (lw_at lw_m1 154 rfl) rfl
theorem q281 : (Jvm.Cond.classLink "SunkTower" (83 : Nat) "SunkTower$Numbers") ∈ lw_all := lw_g (lw_at lw_m1 155 rfl) rfl
theorem q284 : (Jvm.Cond.methodLinkNest "SunkTower" (85 : Nat) ({ cls := "SunkTower$Numbers", name := "<init>", desc := "()V" } : Jvm.MethodName) "SunkTower") ∈ lw_tbl := lw_at lw_m1 158 rfl
theorem q289 : (Jvm.Cond.fieldLinkNest "SunkTower" (245 : Nat) "SunkTower$Numbers" "held" "Ljava/lang/Object;" "SunkTower") ∈ lw_tbl := lw_at lw_m1 163 rfl
theorem q296 : (Jvm.Cond.methodLink "SunkTower" (97 : Nat) ({ cls := "SunkTower$State", name := "begins", desc := "()LSunkTower$State;" } : Jvm.MethodName)) ∈ lw_all := lw_g (lw_at lw_m1 170 rfl) rfl
theorem q304 : (Jvm.Cond.fieldLink "SunkTower" (12 : Nat) "SunkTower" "its" "LSunkTower$Tower;") ∈ lw_all := lw_g (lw_at lw_m1 178 rfl) rfl
theorem q305 : (Jvm.Cond.fieldLink "SunkTower" (21 : Nat) "SunkTower" "now" "LSunkTower$State;") ∈ lw_all := lw_g (lw_at lw_m1 179 rfl) rfl
theorem q306 : (Jvm.Cond.fieldLink "SunkTower" (25 : Nat) "SunkTower" "thought" "LSunkTower$State;") ∈ lw_all := lw_g (lw_at lw_m1 180 rfl) rfl
theorem q308 : (Jvm.Cond.fieldLink "SunkTower" (28 : Nat) "SunkTower" "tape" "[B") ∈ lw_all := lw_g (lw_at lw_m1 182 rfl) rfl
theorem q309 : (Jvm.Cond.fieldLink "SunkTower" (101 : Nat) "SunkTower" "taped" "I") ∈ lw_all := lw_g (lw_at lw_m1 183 rfl) rfl
theorem q310 : (Jvm.Cond.fieldLink "SunkTower" (123 : Nat) "SunkTower" "faultKind" "I") ∈ lw_all := lw_g (lw_at lw_m1 184 rfl) rfl
theorem q311 : (Jvm.Cond.fieldLink "SunkTower" (32 : Nat) "SunkTower" "faultPlace" "I") ∈ lw_all := lw_g (lw_at lw_m1 185 rfl) rfl
theorem q312 : (Jvm.Cond.fieldLink "SunkTower" (36 : Nat) "SunkTower" "undos" "[LSunkTower$State;") ∈ lw_all := lw_g (lw_at lw_m1 186 rfl) rfl
theorem q313 : (Jvm.Cond.fieldLink "SunkTower" (132 : Nat) "SunkTower" "undoMany" "I") ∈ lw_all := lw_g (lw_at lw_m1 187 rfl) rfl
theorem q314 : (Jvm.Cond.fieldLink "SunkTower" (191 : Nat) "SunkTower" "undoAt" "I") ∈ lw_all := lw_g (lw_at lw_m1 188 rfl) rfl
theorem q315 : (Jvm.Cond.fieldLink "SunkTower" (260 : Nat) "SunkTower" "x" "I") ∈ lw_all := lw_g (lw_at lw_m1 189 rfl) rfl
theorem q316 : (Jvm.Cond.fieldLink "SunkTower" (40 : Nat) "SunkTower" "ringTo" "[I") ∈ lw_all := lw_g (lw_at lw_m1 190 rfl) rfl
theorem q318 : (Jvm.Cond.fieldLink "SunkTower" (44 : Nat) "SunkTower" "points" "[I") ∈ lw_all := lw_g (lw_at lw_m1 192 rfl) rfl
theorem q319 : (Jvm.Cond.fieldLink "SunkTower" (275 : Nat) "SunkTower" "ringMany" "I") ∈ lw_all := lw_g (lw_at lw_m1 193 rfl) rfl
theorem q320 : (Jvm.Cond.fieldLink "SunkTower" (47 : Nat) "SunkTower" "stay" "[J") ∈ lw_all := lw_g (lw_at lw_m1 194 rfl) rfl
theorem q321 : (Jvm.Cond.fieldLink "SunkTower" (51 : Nat) "SunkTower" "most" "[J") ∈ lw_all := lw_g (lw_at lw_m1 195 rfl) rfl
theorem q322 : (Jvm.Cond.fieldLink "SunkTower" (54 : Nat) "SunkTower" "openIn" "[I") ∈ lw_all := lw_g (lw_at lw_m1 196 rfl) rfl
theorem q323 : (Jvm.Cond.fieldLink "SunkTower" (57 : Nat) "SunkTower" "movesTo" "[I") ∈ lw_all := lw_g (lw_at lw_m1 197 rfl) rfl
theorem q324 : (Jvm.Cond.fieldLink "SunkTower" (329 : Nat) "SunkTower" "placesOpen" "I") ∈ lw_all := lw_g (lw_at lw_m1 198 rfl) rfl
theorem q325 : (Jvm.Cond.fieldLink "SunkTower" (351 : Nat) "SunkTower" "movesAll" "I") ∈ lw_all := lw_g (lw_at lw_m1 199 rfl) rfl
theorem q326 : (Jvm.Cond.fieldLink "SunkTower" (60 : Nat) "SunkTower" "chosen" "[I") ∈ lw_all := lw_g (lw_at lw_m1 200 rfl) rfl
theorem q327 : (Jvm.Cond.fieldLink "SunkTower" (63 : Nat) "SunkTower" "bestMonths" "[I") ∈ lw_all := lw_g (lw_at lw_m1 201 rfl) rfl
theorem q328 : (Jvm.Cond.fieldLink "SunkTower" (389 : Nat) "SunkTower" "bestMany" "I") ∈ lw_all := lw_g (lw_at lw_m1 202 rfl) rfl
theorem q329 : (Jvm.Cond.fieldLink "SunkTower" (386 : Nat) "SunkTower" "bestWays" "I") ∈ lw_all := lw_g (lw_at lw_m1 203 rfl) rfl
theorem q330 : (Jvm.Cond.fieldLink "SunkTower" (382 : Nat) "SunkTower" "bestSum" "J") ∈ lw_all := lw_g (lw_at lw_m1 204 rfl) rfl
theorem q331 : (Jvm.Cond.fieldLink "SunkTower" (66 : Nat) "SunkTower" "sunkAt" "[I") ∈ lw_all := lw_g (lw_at lw_m1 205 rfl) rfl
theorem q332 : (Jvm.Cond.fieldLink "SunkTower" (69 : Nat) "SunkTower" "hiddens" "[I") ∈ lw_all := lw_g (lw_at lw_m1 206 rfl) rfl
theorem q333 : (Jvm.Cond.fieldLink "SunkTower" (73 : Nat) "SunkTower" "alike" "[I") ∈ lw_all := lw_g (lw_at lw_m1 207 rfl) rfl
theorem q334 : (Jvm.Cond.fieldLink "SunkTower" (76 : Nat) "SunkTower" "mostAlike" "[I") ∈ lw_all := lw_g (lw_at lw_m1 208 rfl) rfl
theorem q335 : (Jvm.Cond.fieldLink "SunkTower" (80 : Nat) "SunkTower" "rows" "[I") ∈ lw_all := lw_g (lw_at lw_m1 209 rfl) rfl
theorem q336 : (Jvm.Cond.fieldLink "SunkTower" (86 : Nat) "SunkTower" "trays" "[LSunkTower$Numbers;") ∈ lw_all := lw_g (lw_at lw_m1 210 rfl) rfl
theorem q337 : (Jvm.Cond.fieldLink "SunkTower" (90 : Nat) "SunkTower" "towers" "[LSunkTower$Tower;") ∈ lw_all := lw_g (lw_at lw_m1 211 rfl) rfl
theorem q338 : (Jvm.Cond.fieldLink "SunkTower" (94 : Nat) "SunkTower" "states" "[LSunkTower$State;") ∈ lw_all := lw_g (lw_at lw_m1 212 rfl) rfl
theorem q339 : (Jvm.Cond.lays "SunkTower" "SunkTower" "its" "LSunkTower$Tower;") ∈ lw_all := lw_g (lw_at lw_m1 213 rfl) rfl
theorem q340 : (Jvm.Cond.soleField "SunkTower" "its") ∈ lw_all := lw_g (lw_at lw_m1 214 rfl) rfl
theorem q341 : (Jvm.Cond.laysFinal "SunkTower" "SunkTower" "now" "LSunkTower$State;") ∈ lw_all := lw_g (lw_at lw_m1 215 rfl) rfl
theorem q342 : (Jvm.Cond.soleField "SunkTower" "now") ∈ lw_all := lw_g (lw_at lw_m1 216 rfl) rfl
theorem q343 : (Jvm.Cond.laysFinal "SunkTower" "SunkTower" "thought" "LSunkTower$State;") ∈ lw_all := lw_g (lw_at lw_m1 217 rfl) rfl
theorem q344 : (Jvm.Cond.soleField "SunkTower" "thought") ∈ lw_all := lw_g (lw_at lw_m1 218 rfl) rfl
theorem q345 : (Jvm.Cond.laysFinal "SunkTower" "SunkTower" "tape" "[B") ∈ lw_all := lw_g (lw_at lw_m1 219 rfl) rfl
theorem q346 : (Jvm.Cond.soleField "SunkTower" "tape") ∈ lw_all := lw_g (lw_at lw_m1 220 rfl) rfl
theorem q347 : (Jvm.Cond.lays "SunkTower" "SunkTower" "taped" "I") ∈ lw_all := lw_g (lw_at lw_m1 221 rfl) rfl
theorem q348 : (Jvm.Cond.soleField "SunkTower" "taped") ∈ lw_all := lw_g (lw_at lw_m1 222 rfl) rfl
theorem q349 : (Jvm.Cond.lays "SunkTower" "SunkTower" "faultKind" "I") ∈ lw_all := lw_g (lw_at lw_m1 223 rfl) rfl
theorem q350 : (Jvm.Cond.soleField "SunkTower" "faultKind") ∈ lw_all := lw_g (lw_at lw_m1 224 rfl) rfl
theorem q351 : (Jvm.Cond.lays "SunkTower" "SunkTower" "faultPlace" "I") ∈ lw_all := lw_g (lw_at lw_m1 225 rfl) rfl
theorem q352 : (Jvm.Cond.soleField "SunkTower" "faultPlace") ∈ lw_all := lw_g (lw_at lw_m1 226 rfl) rfl
theorem q353 : (Jvm.Cond.laysFinal "SunkTower" "SunkTower" "undos" "[LSunkTower$State;") ∈ lw_all := lw_g (lw_at lw_m1 227 rfl) rfl
theorem q354 : (Jvm.Cond.soleField "SunkTower" "undos") ∈ lw_all := lw_g (lw_at lw_m1 228 rfl) rfl
theorem q355 : (Jvm.Cond.lays "SunkTower" "SunkTower" "undoMany" "I") ∈ lw_all := lw_g (lw_at lw_m1 229 rfl) rfl
theorem q356 : (Jvm.Cond.soleField "SunkTower" "undoMany") ∈ lw_all := lw_g (lw_at lw_m1 230 rfl) rfl
theorem q357 : (Jvm.Cond.lays "SunkTower" "SunkTower" "undoAt" "I") ∈ lw_all := lw_g (lw_at lw_m1 231 rfl) rfl
theorem q358 : (Jvm.Cond.soleField "SunkTower" "undoAt") ∈ lw_all := lw_g (lw_at lw_m1 232 rfl) rfl
theorem q359 : (Jvm.Cond.lays "SunkTower" "SunkTower" "x" "I") ∈ lw_all := lw_g (lw_at lw_m1 233 rfl) rfl
theorem q360 : (Jvm.Cond.soleField "SunkTower" "x") ∈ lw_all := lw_g (lw_at lw_m1 234 rfl) rfl
theorem q361 : (Jvm.Cond.laysFinal "SunkTower" "SunkTower" "ringTo" "[I") ∈ lw_all := lw_g (lw_at lw_m1 235 rfl) rfl
theorem q362 : (Jvm.Cond.soleField "SunkTower" "ringTo") ∈ lw_all := lw_g (lw_at lw_m1 236 rfl) rfl
theorem q363 : (Jvm.Cond.laysFinal "SunkTower" "SunkTower" "points" "[I") ∈ lw_all := lw_g (lw_at lw_m1 237 rfl) rfl
theorem q364 : (Jvm.Cond.soleField "SunkTower" "points") ∈ lw_all := lw_g (lw_at lw_m1 238 rfl) rfl
theorem q365 : (Jvm.Cond.lays "SunkTower" "SunkTower" "ringMany" "I") ∈ lw_all := lw_g (lw_at lw_m1 239 rfl) rfl
theorem q366 : (Jvm.Cond.soleField "SunkTower" "ringMany") ∈ lw_all := lw_g (lw_at lw_m2 0 rfl) rfl
theorem q367 : (Jvm.Cond.laysFinal "SunkTower" "SunkTower" "stay" "[J") ∈ lw_all := lw_g (lw_at lw_m2 1 rfl) rfl
theorem q368 : (Jvm.Cond.soleField "SunkTower" "stay") ∈ lw_all := lw_g (lw_at lw_m2 2 rfl) rfl
theorem q369 : (Jvm.Cond.laysFinal "SunkTower" "SunkTower" "most" "[J") ∈ lw_all := lw_g (lw_at lw_m2 3 rfl) rfl
theorem q370 : (Jvm.Cond.soleField "SunkTower" "most") ∈ lw_all := lw_g (lw_at lw_m2 4 rfl) rfl
theorem q371 : (Jvm.Cond.laysFinal "SunkTower" "SunkTower" "openIn" "[I") ∈ lw_all := lw_g (lw_at lw_m2 5 rfl) rfl
theorem q372 : (Jvm.Cond.soleField "SunkTower" "openIn") ∈ lw_all := lw_g (lw_at lw_m2 6 rfl) rfl
theorem q373 : (Jvm.Cond.laysFinal "SunkTower" "SunkTower" "movesTo" "[I") ∈ lw_all := lw_g (lw_at lw_m2 7 rfl) rfl
theorem q374 : (Jvm.Cond.soleField "SunkTower" "movesTo") ∈ lw_all := lw_g (lw_at lw_m2 8 rfl) rfl
theorem q375 : (Jvm.Cond.lays "SunkTower" "SunkTower" "placesOpen" "I") ∈ lw_all := lw_g (lw_at lw_m2 9 rfl) rfl
theorem q376 : (Jvm.Cond.soleField "SunkTower" "placesOpen") ∈ lw_all := lw_g (lw_at lw_m2 10 rfl) rfl
theorem q377 : (Jvm.Cond.lays "SunkTower" "SunkTower" "movesAll" "I") ∈ lw_all := lw_g (lw_at lw_m2 11 rfl) rfl
theorem q378 : (Jvm.Cond.soleField "SunkTower" "movesAll") ∈ lw_all := lw_g (lw_at lw_m2 12 rfl) rfl
theorem q379 : (Jvm.Cond.laysFinal "SunkTower" "SunkTower" "chosen" "[I") ∈ lw_all := lw_g (lw_at lw_m2 13 rfl) rfl
theorem q380 : (Jvm.Cond.soleField "SunkTower" "chosen") ∈ lw_all := lw_g (lw_at lw_m2 14 rfl) rfl
theorem q381 : (Jvm.Cond.laysFinal "SunkTower" "SunkTower" "bestMonths" "[I") ∈ lw_all := lw_g (lw_at lw_m2 15 rfl) rfl
theorem q382 : (Jvm.Cond.soleField "SunkTower" "bestMonths") ∈ lw_all := lw_g (lw_at lw_m2 16 rfl) rfl
theorem q383 : (Jvm.Cond.lays "SunkTower" "SunkTower" "bestMany" "I") ∈ lw_all := lw_g (lw_at lw_m2 17 rfl) rfl
theorem q384 : (Jvm.Cond.soleField "SunkTower" "bestMany") ∈ lw_all := lw_g (lw_at lw_m2 18 rfl) rfl
theorem q385 : (Jvm.Cond.lays "SunkTower" "SunkTower" "bestWays" "I") ∈ lw_all := lw_g (lw_at lw_m2 19 rfl) rfl
theorem q386 : (Jvm.Cond.soleField "SunkTower" "bestWays") ∈ lw_all := lw_g (lw_at lw_m2 20 rfl) rfl
theorem q387 : (Jvm.Cond.lays "SunkTower" "SunkTower" "bestSum" "J") ∈ lw_all := lw_g (lw_at lw_m2 21 rfl) rfl
theorem q388 : (Jvm.Cond.soleField "SunkTower" "bestSum") ∈ lw_all := lw_g (lw_at lw_m2 22 rfl) rfl
theorem q389 : (Jvm.Cond.laysFinal "SunkTower" "SunkTower" "sunkAt" "[I") ∈ lw_all := lw_g (lw_at lw_m2 23 rfl) rfl
theorem q390 : (Jvm.Cond.soleField "SunkTower" "sunkAt") ∈ lw_all := lw_g (lw_at lw_m2 24 rfl) rfl
theorem q391 : (Jvm.Cond.laysFinal "SunkTower" "SunkTower" "hiddens" "[I") ∈ lw_all := lw_g (lw_at lw_m2 25 rfl) rfl
theorem q392 : (Jvm.Cond.soleField "SunkTower" "hiddens") ∈ lw_all := lw_g (lw_at lw_m2 26 rfl) rfl
theorem q393 : (Jvm.Cond.laysFinal "SunkTower" "SunkTower" "alike" "[I") ∈ lw_all := lw_g (lw_at lw_m2 27 rfl) rfl
theorem q394 : (Jvm.Cond.soleField "SunkTower" "alike") ∈ lw_all := lw_g (lw_at lw_m2 28 rfl) rfl
theorem q395 : (Jvm.Cond.laysFinal "SunkTower" "SunkTower" "mostAlike" "[I") ∈ lw_all := lw_g (lw_at lw_m2 29 rfl) rfl
theorem q396 : (Jvm.Cond.soleField "SunkTower" "mostAlike") ∈ lw_all := lw_g (lw_at lw_m2 30 rfl) rfl
theorem q397 : (Jvm.Cond.laysFinal "SunkTower" "SunkTower" "rows" "[I") ∈ lw_all := lw_g (lw_at lw_m2 31 rfl) rfl
theorem q398 : (Jvm.Cond.soleField "SunkTower" "rows") ∈ lw_all := lw_g (lw_at lw_m2 32 rfl) rfl
theorem q399 : (Jvm.Cond.laysFinal "SunkTower" "SunkTower" "trays" "[LSunkTower$Numbers;") ∈ lw_all := lw_g (lw_at lw_m2 33 rfl) rfl
theorem q400 : (Jvm.Cond.soleField "SunkTower" "trays") ∈ lw_all := lw_g (lw_at lw_m2 34 rfl) rfl
theorem q401 : (Jvm.Cond.laysFinal "SunkTower" "SunkTower" "towers" "[LSunkTower$Tower;") ∈ lw_all := lw_g (lw_at lw_m2 35 rfl) rfl
theorem q402 : (Jvm.Cond.soleField "SunkTower" "towers") ∈ lw_all := lw_g (lw_at lw_m2 36 rfl) rfl
theorem q403 : (Jvm.Cond.laysFinal "SunkTower" "SunkTower" "states" "[LSunkTower$State;") ∈ lw_all := lw_g (lw_at lw_m2 37 rfl) rfl
theorem q404 : (Jvm.Cond.soleField "SunkTower" "states") ∈ lw_all := lw_g (lw_at lw_m2 38 rfl) rfl
theorem q405 : (Jvm.Cond.superclass "SunkTower" "java/lang/Object") ∈ lw_all := lw_g (lw_at lw_m2 39 rfl) rfl
theorem q407 : (Jvm.Cond.instanceMethod ({ cls := "SunkTower", name := "feed", desc := "(IIIII)I" } : Jvm.MethodName)) ∈ lw_all := lw_g (lw_at lw_m2 41 rfl) rfl
theorem q408 : (Jvm.Cond.selects "SunkTower" ({ cls := "SunkTower", name := "feed", desc := "(IIIII)I" } : Jvm.MethodName) ({ cls := "SunkTower", name := "feed", desc := "(IIIII)I" } : Jvm.MethodName)) ∈ lw_all := lw_g (lw_at lw_m2 42 rfl) rfl
theorem q409 : (Jvm.Cond.code ({ cls := "SunkTower", name := "feed", desc := "(IIIII)I" } : Jvm.MethodName) prog_1_method_4_code (6 : Nat) (Option.some Jvm.ClassFile.FieldType.int)) ∈ lw_all := lw_g (lw_at lw_m2 43 rfl) rfl
theorem q410 : (Jvm.Cond.methodLink "SunkTower" (104 : Nat) ({ cls := "SunkTower", name := "bytes", desc := "(I)V" } : Jvm.MethodName)) ∈ lw_all := lw_g (lw_at lw_m2 44 rfl) rfl
theorem q411 : (Jvm.Cond.privateMethod ({ cls := "SunkTower", name := "bytes", desc := "(I)V" } : Jvm.MethodName)) ∈ lw_tbl := lw_at lw_m2 45 rfl
theorem q412 : (Jvm.Cond.instanceMethod ({ cls := "SunkTower", name := "bytes", desc := "(I)V" } : Jvm.MethodName)) ∈ lw_all := lw_g (lw_at lw_m2 46 rfl) rfl
theorem q413 : (Jvm.Cond.code ({ cls := "SunkTower", name := "bytes", desc := "(I)V" } : Jvm.MethodName) prog_1_method_5_code (3 : Nat) (Option.none : Option Jvm.ClassFile.FieldType)) ∈ lw_all := lw_g (lw_at lw_m2 47 rfl) rfl
theorem q415 : (Jvm.Cond.instanceMethod ({ cls := "SunkTower", name := "tower", desc := "(I)I" } : Jvm.MethodName)) ∈ lw_all := lw_g (lw_at lw_m2 49 rfl) rfl
theorem q416 : (Jvm.Cond.selects "SunkTower" ({ cls := "SunkTower", name := "tower", desc := "(I)I" } : Jvm.MethodName) ({ cls := "SunkTower", name := "tower", desc := "(I)I" } : Jvm.MethodName)) ∈ lw_all := lw_g (lw_at lw_m2 50 rfl) rfl
theorem q417 : (Jvm.Cond.code ({ cls := "SunkTower", name := "tower", desc := "(I)I" } : Jvm.MethodName) prog_1_method_6_code (3 : Nat) (Option.some Jvm.ClassFile.FieldType.int)) ∈ lw_all := lw_g (lw_at lw_m2 51 rfl) rfl
theorem q418 : (Jvm.Cond.methodLink "SunkTower" (108 : Nat) ({ cls := "SunkTower", name := "in", desc := "(JJJ)Z" } : Jvm.MethodName)) ∈ lw_all := lw_g (lw_at lw_m2 52 rfl) rfl
theorem q419 : (Jvm.Cond.static ({ cls := "SunkTower", name := "in", desc := "(JJJ)Z" } : Jvm.MethodName)) ∈ lw_all := lw_g (lw_at lw_m2 53 rfl) rfl
theorem q420 : (Jvm.Cond.code ({ cls := "SunkTower", name := "in", desc := "(JJJ)Z" } : Jvm.MethodName) prog_1_method_1_code (6 : Nat) (Option.some Jvm.ClassFile.FieldType.boolean)) ∈ lw_all := lw_g (lw_at lw_m2 54 rfl) rfl
theorem q421 : (Jvm.Cond.classLink "SunkTower" (112 : Nat) "SunkTower$Reader") ∈ lw_all := lw_g (lw_at lw_m2 55 rfl) rfl
theorem q423 : (Jvm.Cond.methodLink "SunkTower" (114 : Nat) ({ cls := "SunkTower$Reader", name := "<init>", desc := "(LSunkTower;I)V" } : Jvm.MethodName)) ∈ lw_all := lw_g (lw_at lw_m2 57 rfl) rfl
theorem q431 : (Jvm.Cond.fieldLinkNest "SunkTower" (129 : Nat) "SunkTower$Reader" "made" "LSunkTower$Tower;" "SunkTower") ∈ lw_tbl := lw_at lw_m2 65 rfl
theorem q437 : (Jvm.Cond.fieldLinkNest "SunkTower" (120 : Nat) "SunkTower$Reader" "fault" "I" "SunkTower") ∈ lw_tbl := lw_at lw_m2 71 rfl
theorem q440 : (Jvm.Cond.fieldLinkNest "SunkTower" (126 : Nat) "SunkTower$Reader" "place" "I" "SunkTower") ∈ lw_tbl := lw_at lw_m2 74 rfl
theorem q466 : (Jvm.Cond.methodLink "SunkTower" (117 : Nat) ({ cls := "SunkTower$Reader", name := "read", desc := "()V" } : Jvm.MethodName)) ∈ lw_all := lw_g (lw_at lw_m2 100 rfl) rfl
theorem q741 : (Jvm.Cond.instanceMethod ({ cls := "SunkTower", name := "fault", desc := "(I)I" } : Jvm.MethodName)) ∈ lw_all := lw_g (lw_at lw_m3 135 rfl) rfl
theorem q742 : (Jvm.Cond.selects "SunkTower" ({ cls := "SunkTower", name := "fault", desc := "(I)I" } : Jvm.MethodName) ({ cls := "SunkTower", name := "fault", desc := "(I)I" } : Jvm.MethodName)) ∈ lw_all := lw_g (lw_at lw_m3 136 rfl) rfl
theorem q743 : (Jvm.Cond.code ({ cls := "SunkTower", name := "fault", desc := "(I)I" } : Jvm.MethodName) prog_1_method_7_code (2 : Nat) (Option.some Jvm.ClassFile.FieldType.int)) ∈ lw_all := lw_g (lw_at lw_m3 137 rfl) rfl
theorem q745 : (Jvm.Cond.instanceMethod ({ cls := "SunkTower", name := "storey", desc := "(II)I" } : Jvm.MethodName)) ∈ lw_all := lw_g (lw_at lw_m3 139 rfl) rfl
theorem q746 : (Jvm.Cond.selects "SunkTower" ({ cls := "SunkTower", name := "storey", desc := "(II)I" } : Jvm.MethodName) ({ cls := "SunkTower", name := "storey", desc := "(II)I" } : Jvm.MethodName)) ∈ lw_all := lw_g (lw_at lw_m3 140 rfl) rfl
theorem q747 : (Jvm.Cond.code ({ cls := "SunkTower", name := "storey", desc := "(II)I" } : Jvm.MethodName) prog_1_method_11_code (3 : Nat) (Option.some Jvm.ClassFile.FieldType.int)) ∈ lw_all := lw_g (lw_at lw_m3 141 rfl) rfl
theorem q748 : (Jvm.Cond.methodLink "SunkTower" (144 : Nat) ({ cls := "SunkTower", name := "isStorey", desc := "(I)Z" } : Jvm.MethodName)) ∈ lw_all := lw_g (lw_at lw_m3 142 rfl) rfl
theorem q749 : (Jvm.Cond.privateMethod ({ cls := "SunkTower", name := "isStorey", desc := "(I)Z" } : Jvm.MethodName)) ∈ lw_tbl := lw_at lw_m3 143 rfl
theorem q750 : (Jvm.Cond.instanceMethod ({ cls := "SunkTower", name := "isStorey", desc := "(I)Z" } : Jvm.MethodName)) ∈ lw_all := lw_g (lw_at lw_m3 144 rfl) rfl
theorem q751 : (Jvm.Cond.code ({ cls := "SunkTower", name := "isStorey", desc := "(I)Z" } : Jvm.MethodName) prog_1_method_8_code (2 : Nat) (Option.some Jvm.ClassFile.FieldType.boolean)) ∈ lw_all := lw_g (lw_at lw_m3 145 rfl) rfl
theorem q752 : (Jvm.Cond.constantLong "SunkTower" (148 : Nat) (2 : Int64)) ∈ lw_all := lw_g (lw_at lw_m3 146 rfl) rfl
theorem q753 : (Jvm.Cond.methodLink "SunkTower" (153 : Nat) ({ cls := "SunkTower$State", name := "who", desc := "(I)I" } : Jvm.MethodName)) ∈ lw_all := lw_g (lw_at lw_m3 147 rfl) rfl
theorem q757 : (Jvm.Cond.methodLink "SunkTower" (157 : Nat) ({ cls := "SunkTower$State", name := "isBuried", desc := "(I)Z" } : Jvm.MethodName)) ∈ lw_all := lw_g (lw_at lw_m3 151 rfl) rfl
theorem q761 : (Jvm.Cond.methodLink "SunkTower" (160 : Nat) ({ cls := "SunkTower", name := "one", desc := "(Z)I" } : Jvm.MethodName)) ∈ lw_all := lw_g (lw_at lw_m3 155 rfl) rfl
theorem q762 : (Jvm.Cond.static ({ cls := "SunkTower", name := "one", desc := "(Z)I" } : Jvm.MethodName)) ∈ lw_all := lw_g (lw_at lw_m3 156 rfl) rfl
theorem q763 : (Jvm.Cond.code ({ cls := "SunkTower", name := "one", desc := "(Z)I" } : Jvm.MethodName) prog_1_method_10_code (1 : Nat) (Option.some Jvm.ClassFile.FieldType.int)) ∈ lw_all := lw_g (lw_at lw_m3 157 rfl) rfl
theorem q765 : (Jvm.Cond.instanceMethod ({ cls := "SunkTower", name := "tenant", desc := "(II)I" } : Jvm.MethodName)) ∈ lw_all := lw_g (lw_at lw_m3 159 rfl) rfl
theorem q766 : (Jvm.Cond.selects "SunkTower" ({ cls := "SunkTower", name := "tenant", desc := "(II)I" } : Jvm.MethodName) ({ cls := "SunkTower", name := "tenant", desc := "(II)I" } : Jvm.MethodName)) ∈ lw_all := lw_g (lw_at lw_m3 160 rfl) rfl
theorem q767 : (Jvm.Cond.code ({ cls := "SunkTower", name := "tenant", desc := "(II)I" } : Jvm.MethodName) prog_1_method_12_code (3 : Nat) (Option.some Jvm.ClassFile.FieldType.int)) ∈ lw_all := lw_g (lw_at lw_m3 161 rfl) rfl
theorem q768 : (Jvm.Cond.methodLink "SunkTower" (164 : Nat) ({ cls := "SunkTower", name := "isTenant", desc := "(I)Z" } : Jvm.MethodName)) ∈ lw_all := lw_g (lw_at lw_m3 162 rfl) rfl
theorem q769 : (Jvm.Cond.privateMethod ({ cls := "SunkTower", name := "isTenant", desc := "(I)Z" } : Jvm.MethodName)) ∈ lw_tbl := lw_at lw_m3 163 rfl
theorem q770 : (Jvm.Cond.instanceMethod ({ cls := "SunkTower", name := "isTenant", desc := "(I)Z" } : Jvm.MethodName)) ∈ lw_all := lw_g (lw_at lw_m3 164 rfl) rfl
theorem q771 : (Jvm.Cond.code ({ cls := "SunkTower", name := "isTenant", desc := "(I)Z" } : Jvm.MethodName) prog_1_method_9_code (2 : Nat) (Option.some Jvm.ClassFile.FieldType.boolean)) ∈ lw_all := lw_g (lw_at lw_m3 165 rfl) rfl
theorem q773 : (Jvm.Cond.instanceMethod ({ cls := "SunkTower", name := "weight", desc := "()I" } : Jvm.MethodName)) ∈ lw_all := lw_g (lw_at lw_m3 167 rfl) rfl
theorem q774 : (Jvm.Cond.selects "SunkTower" ({ cls := "SunkTower", name := "weight", desc := "()I" } : Jvm.MethodName) ({ cls := "SunkTower", name := "weight", desc := "()I" } : Jvm.MethodName)) ∈ lw_all := lw_g (lw_at lw_m3 168 rfl) rfl
theorem q775 : (Jvm.Cond.code ({ cls := "SunkTower", name := "weight", desc := "()I" } : Jvm.MethodName) prog_1_method_13_code (1 : Nat) (Option.some Jvm.ClassFile.FieldType.int)) ∈ lw_all := lw_g (lw_at lw_m3 169 rfl) rfl
theorem q776 : (Jvm.Cond.methodLink "SunkTower" (176 : Nat) ({ cls := "SunkTower$State", name := "whole", desc := "()I" } : Jvm.MethodName)) ∈ lw_all := lw_g (lw_at lw_m3 170 rfl) rfl
theorem q781 : (Jvm.Cond.instanceMethod ({ cls := "SunkTower", name := "sinks", desc := "()I" } : Jvm.MethodName)) ∈ lw_all := lw_g (lw_at lw_m3 175 rfl) rfl
theorem q782 : (Jvm.Cond.selects "SunkTower" ({ cls := "SunkTower", name := "sinks", desc := "()I" } : Jvm.MethodName) ({ cls := "SunkTower", name := "sinks", desc := "()I" } : Jvm.MethodName)) ∈ lw_all := lw_g (lw_at lw_m3 176 rfl) rfl
theorem q783 : (Jvm.Cond.code ({ cls := "SunkTower", name := "sinks", desc := "()I" } : Jvm.MethodName) prog_1_method_14_code (1 : Nat) (Option.some Jvm.ClassFile.FieldType.int)) ∈ lw_all := lw_g (lw_at lw_m3 177 rfl) rfl
theorem q784 : (Jvm.Cond.methodLink "SunkTower" (180 : Nat) ({ cls := "SunkTower$State", name := "inches", desc := "()I" } : Jvm.MethodName)) ∈ lw_all := lw_g (lw_at lw_m3 178 rfl) rfl
theorem q822 : (Jvm.Cond.instanceMethod ({ cls := "SunkTower", name := "pays", desc := "(I)I" } : Jvm.MethodName)) ∈ lw_all := lw_g (lw_at lw_m3 216 rfl) rfl
theorem q823 : (Jvm.Cond.selects "SunkTower" ({ cls := "SunkTower", name := "pays", desc := "(I)I" } : Jvm.MethodName) ({ cls := "SunkTower", name := "pays", desc := "(I)I" } : Jvm.MethodName)) ∈ lw_all := lw_g (lw_at lw_m3 217 rfl) rfl
theorem q824 : (Jvm.Cond.code ({ cls := "SunkTower", name := "pays", desc := "(I)I" } : Jvm.MethodName) prog_1_method_15_code (2 : Nat) (Option.some Jvm.ClassFile.FieldType.int)) ∈ lw_all := lw_g (lw_at lw_m3 218 rfl) rfl
theorem q825 : (Jvm.Cond.methodLink "SunkTower" (183 : Nat) ({ cls := "SunkTower$State", name := "pays", desc := "(I)I" } : Jvm.MethodName)) ∈ lw_all := lw_g (lw_at lw_m3 219 rfl) rfl
theorem q840 : (Jvm.Cond.constant "SunkTower" (186 : Nat) (-90000002 : Int32)) ∈ lw_all := lw_g (lw_at lw_m3 234 rfl) rfl
theorem q842 : (Jvm.Cond.instanceMethod ({ cls := "SunkTower", name := "worth", desc := "(II)I" } : Jvm.MethodName)) ∈ lw_all := lw_g (lw_at lw_m3 236 rfl) rfl
theorem q843 : (Jvm.Cond.selects "SunkTower" ({ cls := "SunkTower", name := "worth", desc := "(II)I" } : Jvm.MethodName) ({ cls := "SunkTower", name := "worth", desc := "(II)I" } : Jvm.MethodName)) ∈ lw_all := lw_g (lw_at lw_m3 237 rfl) rfl
theorem q844 : (Jvm.Cond.code ({ cls := "SunkTower", name := "worth", desc := "(II)I" } : Jvm.MethodName) prog_1_method_16_code (3 : Nat) (Option.some Jvm.ClassFile.FieldType.int)) ∈ lw_all := lw_g (lw_at lw_m3 238 rfl) rfl
theorem q845 : (Jvm.Cond.methodLink "SunkTower" (187 : Nat) ({ cls := "SunkTower$State", name := "worth", desc := "(II)I" } : Jvm.MethodName)) ∈ lw_all := lw_g (lw_at lw_m3 239 rfl) rfl
theorem q854 : (Jvm.Cond.instanceMethod ({ cls := "SunkTower", name := "months", desc := "(I)I" } : Jvm.MethodName)) ∈ lw_all := lw_g (lw_at lw_m4 8 rfl) rfl
theorem q855 : (Jvm.Cond.selects "SunkTower" ({ cls := "SunkTower", name := "months", desc := "(I)I" } : Jvm.MethodName) ({ cls := "SunkTower", name := "months", desc := "(I)I" } : Jvm.MethodName)) ∈ lw_all := lw_g (lw_at lw_m4 9 rfl) rfl
theorem q856 : (Jvm.Cond.code ({ cls := "SunkTower", name := "months", desc := "(I)I" } : Jvm.MethodName) prog_1_method_18_code (2 : Nat) (Option.some Jvm.ClassFile.FieldType.int)) ∈ lw_all := lw_g (lw_at lw_m4 10 rfl) rfl
theorem q857 : (Jvm.Cond.constantLong "SunkTower" (203 : Nat) (99 : Int64)) ∈ lw_all := lw_g (lw_at lw_m4 11 rfl) rfl
theorem q858 : (Jvm.Cond.methodLink "SunkTower" (205 : Nat) ({ cls := "SunkTower", name := "keeps", desc := "()V" } : Jvm.MethodName)) ∈ lw_all := lw_g (lw_at lw_m4 12 rfl) rfl
theorem q859 : (Jvm.Cond.privateMethod ({ cls := "SunkTower", name := "keeps", desc := "()V" } : Jvm.MethodName)) ∈ lw_tbl := lw_at lw_m4 13 rfl
theorem q860 : (Jvm.Cond.instanceMethod ({ cls := "SunkTower", name := "keeps", desc := "()V" } : Jvm.MethodName)) ∈ lw_all := lw_g (lw_at lw_m4 14 rfl) rfl
theorem q861 : (Jvm.Cond.code ({ cls := "SunkTower", name := "keeps", desc := "()V" } : Jvm.MethodName) prog_1_method_17_code (1 : Nat) (Option.none : Option Jvm.ClassFile.FieldType)) ∈ lw_all := lw_g (lw_at lw_m4 15 rfl) rfl
theorem q862 : (Jvm.Cond.methodLink "SunkTower" (194 : Nat) ({ cls := "SunkTower$State", name := "be", desc := "(LSunkTower$State;)LSunkTower$State;" } : Jvm.MethodName)) ∈ lw_all := lw_g (lw_at lw_m4 16 rfl) rfl
theorem q866 : (Jvm.Cond.methodLink "SunkTower" (198 : Nat) ({ cls := "java/lang/Math", name := "min", desc := "(II)I" } : Jvm.MethodName)) ∈ lw_all := lw_g (lw_at lw_m4 20 rfl) rfl
theorem q867 : (Jvm.Cond.methodLink "SunkTower" (208 : Nat) ({ cls := "SunkTower$State", name := "goesOn", desc := "(I)I" } : Jvm.MethodName)) ∈ lw_all := lw_g (lw_at lw_m4 21 rfl) rfl
theorem q878 : (Jvm.Cond.instanceMethod ({ cls := "SunkTower", name := "builds", desc := "()I" } : Jvm.MethodName)) ∈ lw_all := lw_g (lw_at lw_m4 32 rfl) rfl
theorem q879 : (Jvm.Cond.selects "SunkTower" ({ cls := "SunkTower", name := "builds", desc := "()I" } : Jvm.MethodName) ({ cls := "SunkTower", name := "builds", desc := "()I" } : Jvm.MethodName)) ∈ lw_all := lw_g (lw_at lw_m4 33 rfl) rfl
theorem q880 : (Jvm.Cond.code ({ cls := "SunkTower", name := "builds", desc := "()I" } : Jvm.MethodName) prog_1_method_19_code (1 : Nat) (Option.some Jvm.ClassFile.FieldType.int)) ∈ lw_all := lw_g (lw_at lw_m4 34 rfl) rfl
theorem q881 : (Jvm.Cond.methodLink "SunkTower" (211 : Nat) ({ cls := "SunkTower$State", name := "builds", desc := "()V" } : Jvm.MethodName)) ∈ lw_all := lw_g (lw_at lw_m4 35 rfl) rfl
theorem q886 : (Jvm.Cond.instanceMethod ({ cls := "SunkTower", name := "moves", desc := "(II)I" } : Jvm.MethodName)) ∈ lw_all := lw_g (lw_at lw_m4 40 rfl) rfl
theorem q887 : (Jvm.Cond.selects "SunkTower" ({ cls := "SunkTower", name := "moves", desc := "(II)I" } : Jvm.MethodName) ({ cls := "SunkTower", name := "moves", desc := "(II)I" } : Jvm.MethodName)) ∈ lw_all := lw_g (lw_at lw_m4 41 rfl) rfl
theorem q888 : (Jvm.Cond.code ({ cls := "SunkTower", name := "moves", desc := "(II)I" } : Jvm.MethodName) prog_1_method_20_code (5 : Nat) (Option.some Jvm.ClassFile.FieldType.int)) ∈ lw_all := lw_g (lw_at lw_m4 42 rfl) rfl
theorem q889 : (Jvm.Cond.methodLink "SunkTower" (214 : Nat) ({ cls := "SunkTower$State", name := "whyMove", desc := "(JJ)I" } : Jvm.MethodName)) ∈ lw_all := lw_g (lw_at lw_m4 43 rfl) rfl
theorem q897 : (Jvm.Cond.instanceMethod ({ cls := "SunkTower", name := "leaves", desc := "(I)I" } : Jvm.MethodName)) ∈ lw_all := lw_g (lw_at lw_m4 51 rfl) rfl
theorem q898 : (Jvm.Cond.selects "SunkTower" ({ cls := "SunkTower", name := "leaves", desc := "(I)I" } : Jvm.MethodName) ({ cls := "SunkTower", name := "leaves", desc := "(I)I" } : Jvm.MethodName)) ∈ lw_all := lw_g (lw_at lw_m4 52 rfl) rfl
theorem q899 : (Jvm.Cond.code ({ cls := "SunkTower", name := "leaves", desc := "(I)I" } : Jvm.MethodName) prog_1_method_21_code (4 : Nat) (Option.some Jvm.ClassFile.FieldType.int)) ∈ lw_all := lw_g (lw_at lw_m4 53 rfl) rfl
theorem q900 : (Jvm.Cond.methodLink "SunkTower" (218 : Nat) ({ cls := "SunkTower$State", name := "whyLeave", desc := "(J)I" } : Jvm.MethodName)) ∈ lw_all := lw_g (lw_at lw_m4 54 rfl) rfl
theorem q905 : (Jvm.Cond.instanceMethod ({ cls := "SunkTower", name := "carries", desc := "(II)I" } : Jvm.MethodName)) ∈ lw_all := lw_g (lw_at lw_m4 59 rfl) rfl
theorem q906 : (Jvm.Cond.selects "SunkTower" ({ cls := "SunkTower", name := "carries", desc := "(II)I" } : Jvm.MethodName) ({ cls := "SunkTower", name := "carries", desc := "(II)I" } : Jvm.MethodName)) ∈ lw_all := lw_g (lw_at lw_m4 60 rfl) rfl
theorem q907 : (Jvm.Cond.code ({ cls := "SunkTower", name := "carries", desc := "(II)I" } : Jvm.MethodName) prog_1_method_22_code (4 : Nat) (Option.some Jvm.ClassFile.FieldType.int)) ∈ lw_all := lw_g (lw_at lw_m4 61 rfl) rfl
theorem q908 : (Jvm.Cond.constantLong "SunkTower" (222 : Nat) (999 : Int64)) ∈ lw_all := lw_g (lw_at lw_m4 62 rfl) rfl
theorem q910 : (Jvm.Cond.instanceMethod ({ cls := "SunkTower", name := "rings", desc := "()I" } : Jvm.MethodName)) ∈ lw_all := lw_g (lw_at lw_m4 64 rfl) rfl
theorem q911 : (Jvm.Cond.selects "SunkTower" ({ cls := "SunkTower", name := "rings", desc := "()I" } : Jvm.MethodName) ({ cls := "SunkTower", name := "rings", desc := "()I" } : Jvm.MethodName)) ∈ lw_all := lw_g (lw_at lw_m4 65 rfl) rfl
theorem q912 : (Jvm.Cond.code ({ cls := "SunkTower", name := "rings", desc := "()I" } : Jvm.MethodName) prog_1_method_23_code (2 : Nat) (Option.some Jvm.ClassFile.FieldType.int)) ∈ lw_all := lw_g (lw_at lw_m4 66 rfl) rfl
theorem q913 : (Jvm.Cond.methodLink "SunkTower" (224 : Nat) ({ cls := "SunkTower$State", name := "round", desc := "()I" } : Jvm.MethodName)) ∈ lw_all := lw_g (lw_at lw_m4 67 rfl) rfl
theorem q918 : (Jvm.Cond.privateMethod ({ cls := "SunkTower", name := "laysRings", desc := "(LSunkTower$State;)V" } : Jvm.MethodName)) ∈ lw_tbl := lw_at lw_m4 72 rfl
theorem q919 : (Jvm.Cond.instanceMethod ({ cls := "SunkTower", name := "laysRings", desc := "(LSunkTower$State;)V" } : Jvm.MethodName)) ∈ lw_all := lw_g (lw_at lw_m4 73 rfl) rfl
theorem q920 : (Jvm.Cond.code ({ cls := "SunkTower", name := "laysRings", desc := "(LSunkTower$State;)V" } : Jvm.MethodName) prog_1_method_32_code (4 : Nat) (Option.none : Option Jvm.ClassFile.FieldType)) ∈ lw_all := lw_g (lw_at lw_m4 74 rfl) rfl
theorem q921 : (Jvm.Cond.methodLink "SunkTower" (271 : Nat) ({ cls := "SunkTower", name := "has", desc := "(II)Z" } : Jvm.MethodName)) ∈ lw_all := lw_g (lw_at lw_m4 75 rfl) rfl
theorem q922 : (Jvm.Cond.static ({ cls := "SunkTower", name := "has", desc := "(II)Z" } : Jvm.MethodName)) ∈ lw_all := lw_g (lw_at lw_m4 76 rfl) rfl
theorem q923 : (Jvm.Cond.code ({ cls := "SunkTower", name := "has", desc := "(II)Z" } : Jvm.MethodName) prog_1_method_2_code (2 : Nat) (Option.some Jvm.ClassFile.FieldType.boolean)) ∈ lw_all := lw_g (lw_at lw_m4 77 rfl) rfl
theorem q924 : (Jvm.Cond.methodLink "SunkTower" (278 : Nat) ({ cls := "SunkTower", name := "pointsAt", desc := "(LSunkTower$State;II)I" } : Jvm.MethodName)) ∈ lw_all := lw_g (lw_at lw_m4 78 rfl) rfl
theorem q925 : (Jvm.Cond.privateMethod ({ cls := "SunkTower", name := "pointsAt", desc := "(LSunkTower$State;II)I" } : Jvm.MethodName)) ∈ lw_tbl := lw_at lw_m4 79 rfl
theorem q926 : (Jvm.Cond.instanceMethod ({ cls := "SunkTower", name := "pointsAt", desc := "(LSunkTower$State;II)I" } : Jvm.MethodName)) ∈ lw_all := lw_g (lw_at lw_m4 80 rfl) rfl
theorem q927 : (Jvm.Cond.code ({ cls := "SunkTower", name := "pointsAt", desc := "(LSunkTower$State;II)I" } : Jvm.MethodName) prog_1_method_31_code (7 : Nat) (Option.some Jvm.ClassFile.FieldType.int)) ∈ lw_all := lw_g (lw_at lw_m4 81 rfl) rfl
theorem q928 : (Jvm.Cond.methodLink "SunkTower" (282 : Nat) ({ cls := "SunkTower", name := "comeRound", desc := "(LSunkTower$State;I)I" } : Jvm.MethodName)) ∈ lw_all := lw_g (lw_at lw_m4 82 rfl) rfl
theorem q929 : (Jvm.Cond.privateMethod ({ cls := "SunkTower", name := "comeRound", desc := "(LSunkTower$State;I)I" } : Jvm.MethodName)) ∈ lw_tbl := lw_at lw_m4 83 rfl
theorem q930 : (Jvm.Cond.instanceMethod ({ cls := "SunkTower", name := "comeRound", desc := "(LSunkTower$State;I)I" } : Jvm.MethodName)) ∈ lw_all := lw_g (lw_at lw_m4 84 rfl) rfl
theorem q931 : (Jvm.Cond.code ({ cls := "SunkTower", name := "comeRound", desc := "(LSunkTower$State;I)I" } : Jvm.MethodName) prog_1_method_33_code (8 : Nat) (Option.some Jvm.ClassFile.FieldType.int)) ∈ lw_all := lw_g (lw_at lw_m4 85 rfl) rfl
theorem q932 : (Jvm.Cond.methodLink "SunkTower" (286 : Nat) ({ cls := "java/lang/Integer", name := "bitCount", desc := "(I)I" } : Jvm.MethodName)) ∈ lw_all := lw_g (lw_at lw_m4 86 rfl) rfl
theorem q939 : (Jvm.Cond.instanceMethod ({ cls := "SunkTower", name := "undo", desc := "(I)I" } : Jvm.MethodName)) ∈ lw_all := lw_g (lw_at lw_m4 93 rfl) rfl
theorem q940 : (Jvm.Cond.selects "SunkTower" ({ cls := "SunkTower", name := "undo", desc := "(I)I" } : Jvm.MethodName) ({ cls := "SunkTower", name := "undo", desc := "(I)I" } : Jvm.MethodName)) ∈ lw_all := lw_g (lw_at lw_m4 94 rfl) rfl
theorem q941 : (Jvm.Cond.code ({ cls := "SunkTower", name := "undo", desc := "(I)I" } : Jvm.MethodName) prog_1_method_24_code (2 : Nat) (Option.some Jvm.ClassFile.FieldType.int)) ∈ lw_all := lw_g (lw_at lw_m4 95 rfl) rfl
theorem q943 : (Jvm.Cond.instanceMethod ({ cls := "SunkTower", name := "judge", desc := "(II)I" } : Jvm.MethodName)) ∈ lw_all := lw_g (lw_at lw_m4 97 rfl) rfl
theorem q944 : (Jvm.Cond.selects "SunkTower" ({ cls := "SunkTower", name := "judge", desc := "(II)I" } : Jvm.MethodName) ({ cls := "SunkTower", name := "judge", desc := "(II)I" } : Jvm.MethodName)) ∈ lw_all := lw_g (lw_at lw_m4 98 rfl) rfl
theorem q945 : (Jvm.Cond.code ({ cls := "SunkTower", name := "judge", desc := "(II)I" } : Jvm.MethodName) prog_1_method_26_code (5 : Nat) (Option.some Jvm.ClassFile.FieldType.int)) ∈ lw_all := lw_g (lw_at lw_m4 99 rfl) rfl
theorem q946 : (Jvm.Cond.methodLink "SunkTower" (240 : Nat) ({ cls := "SunkTower", name := "isTray", desc := "(I)Z" } : Jvm.MethodName)) ∈ lw_all := lw_g (lw_at lw_m4 100 rfl) rfl
theorem q947 : (Jvm.Cond.static ({ cls := "SunkTower", name := "isTray", desc := "(I)Z" } : Jvm.MethodName)) ∈ lw_all := lw_g (lw_at lw_m4 101 rfl) rfl
theorem q948 : (Jvm.Cond.code ({ cls := "SunkTower", name := "isTray", desc := "(I)Z" } : Jvm.MethodName) prog_1_method_79_code (1 : Nat) (Option.some Jvm.ClassFile.FieldType.boolean)) ∈ lw_all := lw_g (lw_at lw_m4 102 rfl) rfl
theorem q949 : (Jvm.Cond.constantLong "SunkTower" (243 : Nat) (3 : Int64)) ∈ lw_all := lw_g (lw_at lw_m4 103 rfl) rfl
theorem q950 : (Jvm.Cond.methodLink "SunkTower" (249 : Nat) ({ cls := "SunkTower", name := "goes", desc := "(LSunkTower$Numbers;)I" } : Jvm.MethodName)) ∈ lw_all := lw_g (lw_at lw_m4 104 rfl) rfl
theorem q951 : (Jvm.Cond.privateMethod ({ cls := "SunkTower", name := "goes", desc := "(LSunkTower$Numbers;)I" } : Jvm.MethodName)) ∈ lw_tbl := lw_at lw_m4 105 rfl
theorem q952 : (Jvm.Cond.instanceMethod ({ cls := "SunkTower", name := "goes", desc := "(LSunkTower$Numbers;)I" } : Jvm.MethodName)) ∈ lw_all := lw_g (lw_at lw_m4 106 rfl) rfl
theorem q953 : (Jvm.Cond.code ({ cls := "SunkTower", name := "goes", desc := "(LSunkTower$Numbers;)I" } : Jvm.MethodName) prog_1_method_25_code (3 : Nat) (Option.some Jvm.ClassFile.FieldType.int)) ∈ lw_all := lw_g (lw_at lw_m4 107 rfl) rfl
theorem q954 : (Jvm.Cond.methodLink "SunkTower" (227 : Nat) ({ cls := "SunkTower$Numbers", name := "many", desc := "()I" } : Jvm.MethodName)) ∈ lw_all := lw_g (lw_at lw_m4 108 rfl) rfl
theorem q962 : (Jvm.Cond.methodLink "SunkTower" (230 : Nat) ({ cls := "SunkTower$Numbers", name := "number", desc := "(I)J" } : Jvm.MethodName)) ∈ lw_all := lw_g (lw_at lw_m4 116 rfl) rfl
theorem q966 : (Jvm.Cond.methodLink "SunkTower" (234 : Nat) ({ cls := "SunkTower$State", name := "why", desc := "(J)I" } : Jvm.MethodName)) ∈ lw_all := lw_g (lw_at lw_m4 120 rfl) rfl
theorem q981 : (Jvm.Cond.methodLink "SunkTower" (237 : Nat) ({ cls := "SunkTower$State", name := "does", desc := "(I)V" } : Jvm.MethodName)) ∈ lw_all := lw_g (lw_at lw_m4 135 rfl) rfl
theorem q988 : (Jvm.Cond.instanceMethod ({ cls := "SunkTower", name := "perform", desc := "(I)I" } : Jvm.MethodName)) ∈ lw_all := lw_g (lw_at lw_m4 142 rfl) rfl
theorem q989 : (Jvm.Cond.selects "SunkTower" ({ cls := "SunkTower", name := "perform", desc := "(I)I" } : Jvm.MethodName) ({ cls := "SunkTower", name := "perform", desc := "(I)I" } : Jvm.MethodName)) ∈ lw_all := lw_g (lw_at lw_m4 143 rfl) rfl
theorem q990 : (Jvm.Cond.code ({ cls := "SunkTower", name := "perform", desc := "(I)I" } : Jvm.MethodName) prog_1_method_27_code (3 : Nat) (Option.some Jvm.ClassFile.FieldType.int)) ∈ lw_all := lw_g (lw_at lw_m4 144 rfl) rfl
theorem q992 : (Jvm.Cond.instanceMethod ({ cls := "SunkTower", name := "years", desc := "(II)I" } : Jvm.MethodName)) ∈ lw_all := lw_g (lw_at lw_m4 146 rfl) rfl
theorem q993 : (Jvm.Cond.selects "SunkTower" ({ cls := "SunkTower", name := "years", desc := "(II)I" } : Jvm.MethodName) ({ cls := "SunkTower", name := "years", desc := "(II)I" } : Jvm.MethodName)) ∈ lw_all := lw_g (lw_at lw_m4 147 rfl) rfl
theorem q994 : (Jvm.Cond.code ({ cls := "SunkTower", name := "years", desc := "(II)I" } : Jvm.MethodName) prog_1_method_30_code (6 : Nat) (Option.some Jvm.ClassFile.FieldType.int)) ∈ lw_all := lw_g (lw_at lw_m4 148 rfl) rfl
theorem q995 : (Jvm.Cond.constantLong "SunkTower" (266 : Nat) (30 : Int64)) ∈ lw_all := lw_g (lw_at lw_m4 149 rfl) rfl
theorem q996 : (Jvm.Cond.methodLink "SunkTower" (268 : Nat) ({ cls := "SunkTower", name := "told", desc := "()I" } : Jvm.MethodName)) ∈ lw_all := lw_g (lw_at lw_m4 150 rfl) rfl
theorem q997 : (Jvm.Cond.privateMethod ({ cls := "SunkTower", name := "told", desc := "()I" } : Jvm.MethodName)) ∈ lw_tbl := lw_at lw_m4 151 rfl
theorem q998 : (Jvm.Cond.instanceMethod ({ cls := "SunkTower", name := "told", desc := "()I" } : Jvm.MethodName)) ∈ lw_all := lw_g (lw_at lw_m4 152 rfl) rfl
theorem q999 : (Jvm.Cond.code ({ cls := "SunkTower", name := "told", desc := "()I" } : Jvm.MethodName) prog_1_method_29_code (3 : Nat) (Option.some Jvm.ClassFile.FieldType.int)) ∈ lw_all := lw_g (lw_at lw_m4 153 rfl) rfl
theorem q1000 : (Jvm.Cond.methodLink "SunkTower" (263 : Nat) ({ cls := "SunkTower", name := "draw", desc := "(I)I" } : Jvm.MethodName)) ∈ lw_all := lw_g (lw_at lw_m4 154 rfl) rfl
theorem q1001 : (Jvm.Cond.privateMethod ({ cls := "SunkTower", name := "draw", desc := "(I)I" } : Jvm.MethodName)) ∈ lw_tbl := lw_at lw_m4 155 rfl
theorem q1002 : (Jvm.Cond.instanceMethod ({ cls := "SunkTower", name := "draw", desc := "(I)I" } : Jvm.MethodName)) ∈ lw_all := lw_g (lw_at lw_m4 156 rfl) rfl
theorem q1003 : (Jvm.Cond.code ({ cls := "SunkTower", name := "draw", desc := "(I)I" } : Jvm.MethodName) prog_1_method_28_code (2 : Nat) (Option.some Jvm.ClassFile.FieldType.int)) ∈ lw_all := lw_g (lw_at lw_m4 157 rfl) rfl
theorem q1004 : (Jvm.Cond.constant "SunkTower" (259 : Nat) (1103515245 : Int32)) ∈ lw_all := lw_g (lw_at lw_m4 158 rfl) rfl
theorem q1006 : (Jvm.Cond.instanceMethod ({ cls := "SunkTower", name := "envies", desc := "(I)I" } : Jvm.MethodName)) ∈ lw_all := lw_g (lw_at lw_m4 160 rfl) rfl
theorem q1007 : (Jvm.Cond.selects "SunkTower" ({ cls := "SunkTower", name := "envies", desc := "(I)I" } : Jvm.MethodName) ({ cls := "SunkTower", name := "envies", desc := "(I)I" } : Jvm.MethodName)) ∈ lw_all := lw_g (lw_at lw_m4 161 rfl) rfl
theorem q1008 : (Jvm.Cond.code ({ cls := "SunkTower", name := "envies", desc := "(I)I" } : Jvm.MethodName) prog_1_method_34_code (4 : Nat) (Option.some Jvm.ClassFile.FieldType.int)) ∈ lw_all := lw_g (lw_at lw_m4 162 rfl) rfl
theorem q1010 : (Jvm.Cond.instanceMethod ({ cls := "SunkTower", name := "byRings", desc := "(I)I" } : Jvm.MethodName)) ∈ lw_all := lw_g (lw_at lw_m4 164 rfl) rfl
theorem q1011 : (Jvm.Cond.selects "SunkTower" ({ cls := "SunkTower", name := "byRings", desc := "(I)I" } : Jvm.MethodName) ({ cls := "SunkTower", name := "byRings", desc := "(I)I" } : Jvm.MethodName)) ∈ lw_all := lw_g (lw_at lw_m4 165 rfl) rfl
theorem q1012 : (Jvm.Cond.code ({ cls := "SunkTower", name := "byRings", desc := "(I)I" } : Jvm.MethodName) prog_1_method_35_code (2 : Nat) (Option.some Jvm.ClassFile.FieldType.int)) ∈ lw_all := lw_g (lw_at lw_m4 166 rfl) rfl
theorem q1013 : (Jvm.Cond.methodLink "SunkTower" (291 : Nat) ({ cls := "SunkTower", name := "laysRings", desc := "(LSunkTower$State;)V" } : Jvm.MethodName)) ∈ lw_all := lw_g (lw_at lw_m4 167 rfl) rfl
theorem q1015 : (Jvm.Cond.instanceMethod ({ cls := "SunkTower", name := "ringsMany", desc := "()I" } : Jvm.MethodName)) ∈ lw_all := lw_g (lw_at lw_m4 169 rfl) rfl
theorem q1016 : (Jvm.Cond.selects "SunkTower" ({ cls := "SunkTower", name := "ringsMany", desc := "()I" } : Jvm.MethodName) ({ cls := "SunkTower", name := "ringsMany", desc := "()I" } : Jvm.MethodName)) ∈ lw_all := lw_g (lw_at lw_m4 170 rfl) rfl
theorem q1017 : (Jvm.Cond.code ({ cls := "SunkTower", name := "ringsMany", desc := "()I" } : Jvm.MethodName) prog_1_method_36_code (1 : Nat) (Option.some Jvm.ClassFile.FieldType.int)) ∈ lw_all := lw_g (lw_at lw_m4 171 rfl) rfl
theorem q1019 : (Jvm.Cond.instanceMethod ({ cls := "SunkTower", name := "sunkIn", desc := "(I)I" } : Jvm.MethodName)) ∈ lw_all := lw_g (lw_at lw_m4 173 rfl) rfl
theorem q1020 : (Jvm.Cond.selects "SunkTower" ({ cls := "SunkTower", name := "sunkIn", desc := "(I)I" } : Jvm.MethodName) ({ cls := "SunkTower", name := "sunkIn", desc := "(I)I" } : Jvm.MethodName)) ∈ lw_all := lw_g (lw_at lw_m4 174 rfl) rfl
theorem q1021 : (Jvm.Cond.code ({ cls := "SunkTower", name := "sunkIn", desc := "(I)I" } : Jvm.MethodName) prog_1_method_38_code (2 : Nat) (Option.some Jvm.ClassFile.FieldType.int)) ∈ lw_all := lw_g (lw_at lw_m4 175 rfl) rfl
theorem q1022 : (Jvm.Cond.methodLink "SunkTower" (297 : Nat) ({ cls := "SunkTower", name := "isAhead", desc := "(I)Z" } : Jvm.MethodName)) ∈ lw_all := lw_g (lw_at lw_m4 176 rfl) rfl
theorem q1023 : (Jvm.Cond.privateMethod ({ cls := "SunkTower", name := "isAhead", desc := "(I)Z" } : Jvm.MethodName)) ∈ lw_tbl := lw_at lw_m4 177 rfl
theorem q1024 : (Jvm.Cond.instanceMethod ({ cls := "SunkTower", name := "isAhead", desc := "(I)Z" } : Jvm.MethodName)) ∈ lw_all := lw_g (lw_at lw_m4 178 rfl) rfl
theorem q1025 : (Jvm.Cond.code ({ cls := "SunkTower", name := "isAhead", desc := "(I)Z" } : Jvm.MethodName) prog_1_method_37_code (2 : Nat) (Option.some Jvm.ClassFile.FieldType.boolean)) ∈ lw_all := lw_g (lw_at lw_m4 179 rfl) rfl
theorem q1026 : (Jvm.Cond.constantLong "SunkTower" (295 : Nat) (600 : Int64)) ∈ lw_all := lw_g (lw_at lw_m4 180 rfl) rfl
theorem q1028 : (Jvm.Cond.instanceMethod ({ cls := "SunkTower", name := "heightIn", desc := "(II)I" } : Jvm.MethodName)) ∈ lw_all := lw_g (lw_at lw_m4 182 rfl) rfl
theorem q1029 : (Jvm.Cond.selects "SunkTower" ({ cls := "SunkTower", name := "heightIn", desc := "(II)I" } : Jvm.MethodName) ({ cls := "SunkTower", name := "heightIn", desc := "(II)I" } : Jvm.MethodName)) ∈ lw_all := lw_g (lw_at lw_m4 183 rfl) rfl
theorem q1030 : (Jvm.Cond.code ({ cls := "SunkTower", name := "heightIn", desc := "(II)I" } : Jvm.MethodName) prog_1_method_39_code (3 : Nat) (Option.some Jvm.ClassFile.FieldType.int)) ∈ lw_all := lw_g (lw_at lw_m4 184 rfl) rfl
theorem q1031 : (Jvm.Cond.constant "SunkTower" (300 : Nat) (-90000003 : Int32)) ∈ lw_all := lw_g (lw_at lw_m4 185 rfl) rfl
theorem q1032 : (Jvm.Cond.methodLink "SunkTower" (301 : Nat) ({ cls := "java/lang/Math", name := "floorDiv", desc := "(II)I" } : Jvm.MethodName)) ∈ lw_all := lw_g (lw_at lw_m4 186 rfl) rfl
theorem q1034 : (Jvm.Cond.instanceMethod ({ cls := "SunkTower", name := "doorIn", desc := "(I)I" } : Jvm.MethodName)) ∈ lw_all := lw_g (lw_at lw_m4 188 rfl) rfl
theorem q1035 : (Jvm.Cond.selects "SunkTower" ({ cls := "SunkTower", name := "doorIn", desc := "(I)I" } : Jvm.MethodName) ({ cls := "SunkTower", name := "doorIn", desc := "(I)I" } : Jvm.MethodName)) ∈ lw_all := lw_g (lw_at lw_m4 189 rfl) rfl
theorem q1036 : (Jvm.Cond.code ({ cls := "SunkTower", name := "doorIn", desc := "(I)I" } : Jvm.MethodName) prog_1_method_40_code (2 : Nat) (Option.some Jvm.ClassFile.FieldType.int)) ∈ lw_all := lw_g (lw_at lw_m4 190 rfl) rfl
theorem q1037 : (Jvm.Cond.methodLink "SunkTower" (304 : Nat) ({ cls := "SunkTower$State", name := "door", desc := "()I" } : Jvm.MethodName)) ∈ lw_all := lw_g (lw_at lw_m4 191 rfl) rfl
theorem q1042 : (Jvm.Cond.instanceMethod ({ cls := "SunkTower", name := "buriedIn", desc := "(I)I" } : Jvm.MethodName)) ∈ lw_all := lw_g (lw_at lw_m4 196 rfl) rfl
theorem q1043 : (Jvm.Cond.selects "SunkTower" ({ cls := "SunkTower", name := "buriedIn", desc := "(I)I" } : Jvm.MethodName) ({ cls := "SunkTower", name := "buriedIn", desc := "(I)I" } : Jvm.MethodName)) ∈ lw_all := lw_g (lw_at lw_m4 197 rfl) rfl
theorem q1044 : (Jvm.Cond.code ({ cls := "SunkTower", name := "buriedIn", desc := "(I)I" } : Jvm.MethodName) prog_1_method_42_code (2 : Nat) (Option.some Jvm.ClassFile.FieldType.int)) ∈ lw_all := lw_g (lw_at lw_m4 198 rfl) rfl
theorem q1045 : (Jvm.Cond.methodLink "SunkTower" (310 : Nat) ({ cls := "SunkTower", name := "firstSunk", desc := "(I)I" } : Jvm.MethodName)) ∈ lw_all := lw_g (lw_at lw_m4 199 rfl) rfl
theorem q1046 : (Jvm.Cond.privateMethod ({ cls := "SunkTower", name := "firstSunk", desc := "(I)I" } : Jvm.MethodName)) ∈ lw_tbl := lw_at lw_m4 200 rfl
theorem q1047 : (Jvm.Cond.instanceMethod ({ cls := "SunkTower", name := "firstSunk", desc := "(I)I" } : Jvm.MethodName)) ∈ lw_all := lw_g (lw_at lw_m4 201 rfl) rfl
theorem q1048 : (Jvm.Cond.code ({ cls := "SunkTower", name := "firstSunk", desc := "(I)I" } : Jvm.MethodName) prog_1_method_41_code (3 : Nat) (Option.some Jvm.ClassFile.FieldType.int)) ∈ lw_all := lw_g (lw_at lw_m4 202 rfl) rfl
theorem q1049 : (Jvm.Cond.methodLink "SunkTower" (307 : Nat) ({ cls := "SunkTower$State", name := "sinks", desc := "()I" } : Jvm.MethodName)) ∈ lw_all := lw_g (lw_at lw_m4 203 rfl) rfl
theorem q1051 : (Jvm.Cond.instanceMethod ({ cls := "SunkTower", name := "sunkBy", desc := "(I)I" } : Jvm.MethodName)) ∈ lw_all := lw_g (lw_at lw_m4 205 rfl) rfl
theorem q1052 : (Jvm.Cond.selects "SunkTower" ({ cls := "SunkTower", name := "sunkBy", desc := "(I)I" } : Jvm.MethodName) ({ cls := "SunkTower", name := "sunkBy", desc := "(I)I" } : Jvm.MethodName)) ∈ lw_all := lw_g (lw_at lw_m4 206 rfl) rfl
theorem q1053 : (Jvm.Cond.code ({ cls := "SunkTower", name := "sunkBy", desc := "(I)I" } : Jvm.MethodName) prog_1_method_43_code (2 : Nat) (Option.some Jvm.ClassFile.FieldType.int)) ∈ lw_all := lw_g (lw_at lw_m4 207 rfl) rfl
theorem q1055 : (Jvm.Cond.instanceMethod ({ cls := "SunkTower", name := "fastest", desc := "()I" } : Jvm.MethodName)) ∈ lw_all := lw_g (lw_at lw_m4 209 rfl) rfl
theorem q1056 : (Jvm.Cond.selects "SunkTower" ({ cls := "SunkTower", name := "fastest", desc := "()I" } : Jvm.MethodName) ({ cls := "SunkTower", name := "fastest", desc := "()I" } : Jvm.MethodName)) ∈ lw_all := lw_g (lw_at lw_m4 210 rfl) rfl
theorem q1057 : (Jvm.Cond.code ({ cls := "SunkTower", name := "fastest", desc := "()I" } : Jvm.MethodName) prog_1_method_44_code (5 : Nat) (Option.some Jvm.ClassFile.FieldType.int)) ∈ lw_all := lw_g (lw_at lw_m4 211 rfl) rfl
theorem q1059 : (Jvm.Cond.instanceMethod ({ cls := "SunkTower", name := "paid", desc := "(I)J" } : Jvm.MethodName)) ∈ lw_all := lw_g (lw_at lw_m4 213 rfl) rfl
theorem q1060 : (Jvm.Cond.selects "SunkTower" ({ cls := "SunkTower", name := "paid", desc := "(I)J" } : Jvm.MethodName) ({ cls := "SunkTower", name := "paid", desc := "(I)J" } : Jvm.MethodName)) ∈ lw_all := lw_g (lw_at lw_m4 214 rfl) rfl
theorem q1061 : (Jvm.Cond.code ({ cls := "SunkTower", name := "paid", desc := "(I)J" } : Jvm.MethodName) prog_1_method_45_code (5 : Nat) (Option.some Jvm.ClassFile.FieldType.long)) ∈ lw_all := lw_g (lw_at lw_m4 215 rfl) rfl
theorem q1062 : (Jvm.Cond.constantLong "SunkTower" (313 : Nat) (-90000000003 : Int64)) ∈ lw_all := lw_g (lw_at lw_m4 216 rfl) rfl
theorem q1063 : (Jvm.Cond.methodLink "SunkTower" (315 : Nat) ({ cls := "SunkTower$State", name := "paysAll", desc := "(Z)I" } : Jvm.MethodName)) ∈ lw_all := lw_g (lw_at lw_m4 217 rfl) rfl
theorem q1069 : (Jvm.Cond.instanceMethod ({ cls := "SunkTower", name := "share", desc := "(II)I" } : Jvm.MethodName)) ∈ lw_all := lw_g (lw_at lw_m4 223 rfl) rfl
theorem q1070 : (Jvm.Cond.selects "SunkTower" ({ cls := "SunkTower", name := "share", desc := "(II)I" } : Jvm.MethodName) ({ cls := "SunkTower", name := "share", desc := "(II)I" } : Jvm.MethodName)) ∈ lw_all := lw_g (lw_at lw_m4 224 rfl) rfl
theorem q1071 : (Jvm.Cond.code ({ cls := "SunkTower", name := "share", desc := "(II)I" } : Jvm.MethodName) prog_1_method_47_code (3 : Nat) (Option.some Jvm.ClassFile.FieldType.int)) ∈ lw_all := lw_g (lw_at lw_m4 225 rfl) rfl
theorem q1072 : (Jvm.Cond.methodLink "SunkTower" (318 : Nat) ({ cls := "SunkTower", name := "shareOf", desc := "(II)I" } : Jvm.MethodName)) ∈ lw_all := lw_g (lw_at lw_m4 226 rfl) rfl
theorem q1073 : (Jvm.Cond.privateMethod ({ cls := "SunkTower", name := "shareOf", desc := "(II)I" } : Jvm.MethodName)) ∈ lw_tbl := lw_at lw_m4 227 rfl
theorem q1074 : (Jvm.Cond.instanceMethod ({ cls := "SunkTower", name := "shareOf", desc := "(II)I" } : Jvm.MethodName)) ∈ lw_all := lw_g (lw_at lw_m4 228 rfl) rfl
theorem q1075 : (Jvm.Cond.code ({ cls := "SunkTower", name := "shareOf", desc := "(II)I" } : Jvm.MethodName) prog_1_method_46_code (4 : Nat) (Option.some Jvm.ClassFile.FieldType.int)) ∈ lw_all := lw_g (lw_at lw_m4 229 rfl) rfl
theorem q1077 : (Jvm.Cond.instanceMethod ({ cls := "SunkTower", name := "heaviest", desc := "(I)I" } : Jvm.MethodName)) ∈ lw_all := lw_g (lw_at lw_m4 231 rfl) rfl
theorem q1078 : (Jvm.Cond.selects "SunkTower" ({ cls := "SunkTower", name := "heaviest", desc := "(I)I" } : Jvm.MethodName) ({ cls := "SunkTower", name := "heaviest", desc := "(I)I" } : Jvm.MethodName)) ∈ lw_all := lw_g (lw_at lw_m4 232 rfl) rfl
theorem q1079 : (Jvm.Cond.code ({ cls := "SunkTower", name := "heaviest", desc := "(I)I" } : Jvm.MethodName) prog_1_method_48_code (6 : Nat) (Option.some Jvm.ClassFile.FieldType.int)) ∈ lw_all := lw_g (lw_at lw_m4 233 rfl) rfl
theorem q1081 : (Jvm.Cond.instanceMethod ({ cls := "SunkTower", name := "bears", desc := "(II)I" } : Jvm.MethodName)) ∈ lw_all := lw_g (lw_at lw_m4 235 rfl) rfl
theorem q1082 : (Jvm.Cond.selects "SunkTower" ({ cls := "SunkTower", name := "bears", desc := "(II)I" } : Jvm.MethodName) ({ cls := "SunkTower", name := "bears", desc := "(II)I" } : Jvm.MethodName)) ∈ lw_all := lw_g (lw_at lw_m4 236 rfl) rfl
theorem q1083 : (Jvm.Cond.code ({ cls := "SunkTower", name := "bears", desc := "(II)I" } : Jvm.MethodName) prog_1_method_49_code (4 : Nat) (Option.some Jvm.ClassFile.FieldType.int)) ∈ lw_all := lw_g (lw_at lw_m4 237 rfl) rfl
theorem q1084 : (Jvm.Cond.constantLong "SunkTower" (321 : Nat) (60 : Int64)) ∈ lw_all := lw_g (lw_at lw_m4 238 rfl) rfl
theorem q1086 : (Jvm.Cond.instanceMethod ({ cls := "SunkTower", name := "stays", desc := "(II)J" } : Jvm.MethodName)) ∈ lw_all := lw_g (lw_at lw_m5 0 rfl) rfl
theorem q1087 : (Jvm.Cond.selects "SunkTower" ({ cls := "SunkTower", name := "stays", desc := "(II)J" } : Jvm.MethodName) ({ cls := "SunkTower", name := "stays", desc := "(II)J" } : Jvm.MethodName)) ∈ lw_all := lw_g (lw_at lw_m5 1 rfl) rfl
theorem q1088 : (Jvm.Cond.code ({ cls := "SunkTower", name := "stays", desc := "(II)J" } : Jvm.MethodName) prog_1_method_57_code (3 : Nat) (Option.some Jvm.ClassFile.FieldType.long)) ∈ lw_all := lw_g (lw_at lw_m5 2 rfl) rfl
theorem q1089 : (Jvm.Cond.constantLong "SunkTower" (369 : Nat) (-90000000002 : Int64)) ∈ lw_all := lw_g (lw_at lw_m5 3 rfl) rfl
theorem q1090 : (Jvm.Cond.constantLong "SunkTower" (371 : Nat) (5 : Int64)) ∈ lw_all := lw_g (lw_at lw_m5 4 rfl) rfl
theorem q1091 : (Jvm.Cond.methodLink "SunkTower" (373 : Nat) ({ cls := "SunkTower", name := "laysMoves", desc := "(II)J" } : Jvm.MethodName)) ∈ lw_all := lw_g (lw_at lw_m5 5 rfl) rfl
theorem q1092 : (Jvm.Cond.privateMethod ({ cls := "SunkTower", name := "laysMoves", desc := "(II)J" } : Jvm.MethodName)) ∈ lw_tbl := lw_at lw_m5 6 rfl
theorem q1093 : (Jvm.Cond.instanceMethod ({ cls := "SunkTower", name := "laysMoves", desc := "(II)J" } : Jvm.MethodName)) ∈ lw_all := lw_g (lw_at lw_m5 7 rfl) rfl
theorem q1094 : (Jvm.Cond.code ({ cls := "SunkTower", name := "laysMoves", desc := "(II)J" } : Jvm.MethodName) prog_1_method_53_code (8 : Nat) (Option.some Jvm.ClassFile.FieldType.long)) ∈ lw_all := lw_g (lw_at lw_m5 8 rfl) rfl
theorem q1095 : (Jvm.Cond.methodLink "SunkTower" (344 : Nat) ({ cls := "SunkTower", name := "laysStays", desc := "(II)V" } : Jvm.MethodName)) ∈ lw_all := lw_g (lw_at lw_m5 9 rfl) rfl
theorem q1096 : (Jvm.Cond.privateMethod ({ cls := "SunkTower", name := "laysStays", desc := "(II)V" } : Jvm.MethodName)) ∈ lw_tbl := lw_at lw_m5 10 rfl
theorem q1097 : (Jvm.Cond.instanceMethod ({ cls := "SunkTower", name := "laysStays", desc := "(II)V" } : Jvm.MethodName)) ∈ lw_all := lw_g (lw_at lw_m5 11 rfl) rfl
theorem q1098 : (Jvm.Cond.code ({ cls := "SunkTower", name := "laysStays", desc := "(II)V" } : Jvm.MethodName) prog_1_method_51_code (6 : Nat) (Option.none : Option Jvm.ClassFile.FieldType)) ∈ lw_all := lw_g (lw_at lw_m5 12 rfl) rfl
theorem q1099 : (Jvm.Cond.methodLink "SunkTower" (332 : Nat) ({ cls := "SunkTower$State", name := "buried", desc := "()I" } : Jvm.MethodName)) ∈ lw_all := lw_g (lw_at lw_m5 13 rfl) rfl
theorem q1100 : (Jvm.Cond.methodLink "SunkTower" (335 : Nat) ({ cls := "SunkTower", name := "gain", desc := "(II)J" } : Jvm.MethodName)) ∈ lw_all := lw_g (lw_at lw_m5 14 rfl) rfl
theorem q1101 : (Jvm.Cond.privateMethod ({ cls := "SunkTower", name := "gain", desc := "(II)J" } : Jvm.MethodName)) ∈ lw_tbl := lw_at lw_m5 15 rfl
theorem q1102 : (Jvm.Cond.instanceMethod ({ cls := "SunkTower", name := "gain", desc := "(II)J" } : Jvm.MethodName)) ∈ lw_all := lw_g (lw_at lw_m5 16 rfl) rfl
theorem q1103 : (Jvm.Cond.code ({ cls := "SunkTower", name := "gain", desc := "(II)J" } : Jvm.MethodName) prog_1_method_50_code (3 : Nat) (Option.some Jvm.ClassFile.FieldType.long)) ∈ lw_all := lw_g (lw_at lw_m5 17 rfl) rfl
theorem q1104 : (Jvm.Cond.methodLink "SunkTower" (326 : Nat) ({ cls := "SunkTower$Tower", name := "worth", desc := "(IIZIII)I" } : Jvm.MethodName)) ∈ lw_all := lw_g (lw_at lw_m5 18 rfl) rfl
theorem q1105 : (Jvm.Cond.methodLink "SunkTower" (348 : Nat) ({ cls := "SunkTower", name := "mostFrom", desc := "(II)J" } : Jvm.MethodName)) ∈ lw_all := lw_g (lw_at lw_m5 19 rfl) rfl
theorem q1106 : (Jvm.Cond.privateMethod ({ cls := "SunkTower", name := "mostFrom", desc := "(II)J" } : Jvm.MethodName)) ∈ lw_tbl := lw_at lw_m5 20 rfl
theorem q1107 : (Jvm.Cond.instanceMethod ({ cls := "SunkTower", name := "mostFrom", desc := "(II)J" } : Jvm.MethodName)) ∈ lw_all := lw_g (lw_at lw_m5 21 rfl) rfl
theorem q1108 : (Jvm.Cond.code ({ cls := "SunkTower", name := "mostFrom", desc := "(II)J" } : Jvm.MethodName) prog_1_method_55_code (6 : Nat) (Option.some Jvm.ClassFile.FieldType.long)) ∈ lw_all := lw_g (lw_at lw_m5 22 rfl) rfl
theorem q1109 : (Jvm.Cond.constantLong "SunkTower" (342 : Nat) (-4000000000000 : Int64)) ∈ lw_all := lw_g (lw_at lw_m5 23 rfl) rfl
theorem q1110 : (Jvm.Cond.methodLink "SunkTower" (358 : Nat) ({ cls := "SunkTower", name := "moving", desc := "(III)J" } : Jvm.MethodName)) ∈ lw_all := lw_g (lw_at lw_m5 24 rfl) rfl
theorem q1111 : (Jvm.Cond.privateMethod ({ cls := "SunkTower", name := "moving", desc := "(III)J" } : Jvm.MethodName)) ∈ lw_tbl := lw_at lw_m5 25 rfl
theorem q1112 : (Jvm.Cond.instanceMethod ({ cls := "SunkTower", name := "moving", desc := "(III)J" } : Jvm.MethodName)) ∈ lw_all := lw_g (lw_at lw_m5 26 rfl) rfl
theorem q1113 : (Jvm.Cond.code ({ cls := "SunkTower", name := "moving", desc := "(III)J" } : Jvm.MethodName) prog_1_method_52_code (4 : Nat) (Option.some Jvm.ClassFile.FieldType.long)) ∈ lw_all := lw_g (lw_at lw_m5 27 rfl) rfl
theorem q1114 : (Jvm.Cond.methodLink "SunkTower" (362 : Nat) ({ cls := "SunkTower", name := "through", desc := "(III)J" } : Jvm.MethodName)) ∈ lw_all := lw_g (lw_at lw_m5 28 rfl) rfl
theorem q1115 : (Jvm.Cond.privateMethod ({ cls := "SunkTower", name := "through", desc := "(III)J" } : Jvm.MethodName)) ∈ lw_tbl := lw_at lw_m5 29 rfl
theorem q1116 : (Jvm.Cond.instanceMethod ({ cls := "SunkTower", name := "through", desc := "(III)J" } : Jvm.MethodName)) ∈ lw_all := lw_g (lw_at lw_m5 30 rfl) rfl
theorem q1117 : (Jvm.Cond.code ({ cls := "SunkTower", name := "through", desc := "(III)J" } : Jvm.MethodName) prog_1_method_54_code (4 : Nat) (Option.some Jvm.ClassFile.FieldType.long)) ∈ lw_all := lw_g (lw_at lw_m5 31 rfl) rfl
theorem q1118 : (Jvm.Cond.methodLink "SunkTower" (365 : Nat) ({ cls := "java/lang/Math", name := "max", desc := "(JJ)J" } : Jvm.MethodName)) ∈ lw_all := lw_g (lw_at lw_m5 32 rfl) rfl
theorem q1119 : (Jvm.Cond.methodLink "SunkTower" (354 : Nat) ({ cls := "SunkTower", name := "isFirst", desc := "(III)Z" } : Jvm.MethodName)) ∈ lw_all := lw_g (lw_at lw_m5 33 rfl) rfl
theorem q1120 : (Jvm.Cond.privateMethod ({ cls := "SunkTower", name := "isFirst", desc := "(III)Z" } : Jvm.MethodName)) ∈ lw_tbl := lw_at lw_m5 34 rfl
theorem q1121 : (Jvm.Cond.instanceMethod ({ cls := "SunkTower", name := "isFirst", desc := "(III)Z" } : Jvm.MethodName)) ∈ lw_all := lw_g (lw_at lw_m5 35 rfl) rfl
theorem q1122 : (Jvm.Cond.code ({ cls := "SunkTower", name := "isFirst", desc := "(III)Z" } : Jvm.MethodName) prog_1_method_56_code (4 : Nat) (Option.some Jvm.ClassFile.FieldType.boolean)) ∈ lw_all := lw_g (lw_at lw_m5 36 rfl) rfl
theorem q1124 : (Jvm.Cond.instanceMethod ({ cls := "SunkTower", name := "goesTo", desc := "(III)I" } : Jvm.MethodName)) ∈ lw_all := lw_g (lw_at lw_m5 38 rfl) rfl
theorem q1125 : (Jvm.Cond.selects "SunkTower" ({ cls := "SunkTower", name := "goesTo", desc := "(III)I" } : Jvm.MethodName) ({ cls := "SunkTower", name := "goesTo", desc := "(III)I" } : Jvm.MethodName)) ∈ lw_all := lw_g (lw_at lw_m5 39 rfl) rfl
theorem q1126 : (Jvm.Cond.code ({ cls := "SunkTower", name := "goesTo", desc := "(III)I" } : Jvm.MethodName) prog_1_method_58_code (4 : Nat) (Option.some Jvm.ClassFile.FieldType.int)) ∈ lw_all := lw_g (lw_at lw_m5 40 rfl) rfl
theorem q1128 : (Jvm.Cond.instanceMethod ({ cls := "SunkTower", name := "movesMany", desc := "(II)I" } : Jvm.MethodName)) ∈ lw_all := lw_g (lw_at lw_m5 42 rfl) rfl
theorem q1129 : (Jvm.Cond.selects "SunkTower" ({ cls := "SunkTower", name := "movesMany", desc := "(II)I" } : Jvm.MethodName) ({ cls := "SunkTower", name := "movesMany", desc := "(II)I" } : Jvm.MethodName)) ∈ lw_all := lw_g (lw_at lw_m5 43 rfl) rfl
theorem q1130 : (Jvm.Cond.code ({ cls := "SunkTower", name := "movesMany", desc := "(II)I" } : Jvm.MethodName) prog_1_method_59_code (3 : Nat) (Option.some Jvm.ClassFile.FieldType.int)) ∈ lw_all := lw_g (lw_at lw_m5 44 rfl) rfl
theorem q1132 : (Jvm.Cond.instanceMethod ({ cls := "SunkTower", name := "best", desc := "(I)I" } : Jvm.MethodName)) ∈ lw_all := lw_g (lw_at lw_m5 46 rfl) rfl
theorem q1133 : (Jvm.Cond.selects "SunkTower" ({ cls := "SunkTower", name := "best", desc := "(I)I" } : Jvm.MethodName) ({ cls := "SunkTower", name := "best", desc := "(I)I" } : Jvm.MethodName)) ∈ lw_all := lw_g (lw_at lw_m5 47 rfl) rfl
theorem q1134 : (Jvm.Cond.code ({ cls := "SunkTower", name := "best", desc := "(I)I" } : Jvm.MethodName) prog_1_method_60_code (6 : Nat) (Option.some Jvm.ClassFile.FieldType.int)) ∈ lw_all := lw_g (lw_at lw_m5 48 rfl) rfl
theorem q1136 : (Jvm.Cond.instanceMethod ({ cls := "SunkTower", name := "building", desc := "(III)J" } : Jvm.MethodName)) ∈ lw_all := lw_g (lw_at lw_m5 50 rfl) rfl
theorem q1137 : (Jvm.Cond.selects "SunkTower" ({ cls := "SunkTower", name := "building", desc := "(III)J" } : Jvm.MethodName) ({ cls := "SunkTower", name := "building", desc := "(III)J" } : Jvm.MethodName)) ∈ lw_all := lw_g (lw_at lw_m5 51 rfl) rfl
theorem q1138 : (Jvm.Cond.code ({ cls := "SunkTower", name := "building", desc := "(III)J" } : Jvm.MethodName) prog_1_method_66_code (4 : Nat) (Option.some Jvm.ClassFile.FieldType.long)) ∈ lw_all := lw_g (lw_at lw_m5 52 rfl) rfl
theorem q1139 : (Jvm.Cond.constantLong "SunkTower" (407 : Nat) (10 : Int64)) ∈ lw_all := lw_g (lw_at lw_m5 53 rfl) rfl
theorem q1140 : (Jvm.Cond.constantLong "SunkTower" (409 : Nat) (12 : Int64)) ∈ lw_all := lw_g (lw_at lw_m5 54 rfl) rfl
theorem q1141 : (Jvm.Cond.methodLink "SunkTower" (411 : Nat) ({ cls := "SunkTower", name := "isBuilding", desc := "(II)Z" } : Jvm.MethodName)) ∈ lw_all := lw_g (lw_at lw_m5 55 rfl) rfl
theorem q1142 : (Jvm.Cond.static ({ cls := "SunkTower", name := "isBuilding", desc := "(II)Z" } : Jvm.MethodName)) ∈ lw_all := lw_g (lw_at lw_m5 56 rfl) rfl
theorem q1143 : (Jvm.Cond.code ({ cls := "SunkTower", name := "isBuilding", desc := "(II)Z" } : Jvm.MethodName) prog_1_method_65_code (2 : Nat) (Option.some Jvm.ClassFile.FieldType.boolean)) ∈ lw_all := lw_g (lw_at lw_m5 57 rfl) rfl
theorem q1144 : (Jvm.Cond.constantLong "SunkTower" (405 : Nat) (24 : Int64)) ∈ lw_all := lw_g (lw_at lw_m5 58 rfl) rfl
theorem q1145 : (Jvm.Cond.methodLink "SunkTower" (414 : Nat) ({ cls := "SunkTower", name := "laysBuilding", desc := "(II)V" } : Jvm.MethodName)) ∈ lw_all := lw_g (lw_at lw_m5 59 rfl) rfl
theorem q1146 : (Jvm.Cond.privateMethod ({ cls := "SunkTower", name := "laysBuilding", desc := "(II)V" } : Jvm.MethodName)) ∈ lw_tbl := lw_at lw_m5 60 rfl
theorem q1147 : (Jvm.Cond.instanceMethod ({ cls := "SunkTower", name := "laysBuilding", desc := "(II)V" } : Jvm.MethodName)) ∈ lw_all := lw_g (lw_at lw_m5 61 rfl) rfl
theorem q1148 : (Jvm.Cond.code ({ cls := "SunkTower", name := "laysBuilding", desc := "(II)V" } : Jvm.MethodName) prog_1_method_64_code (4 : Nat) (Option.none : Option Jvm.ClassFile.FieldType)) ∈ lw_all := lw_g (lw_at lw_m5 62 rfl) rfl
theorem q1149 : (Jvm.Cond.methodLink "SunkTower" (401 : Nat) ({ cls := "SunkTower", name := "goesBuilding", desc := "(IIII)V" } : Jvm.MethodName)) ∈ lw_all := lw_g (lw_at lw_m5 63 rfl) rfl
theorem q1150 : (Jvm.Cond.privateMethod ({ cls := "SunkTower", name := "goesBuilding", desc := "(IIII)V" } : Jvm.MethodName)) ∈ lw_tbl := lw_at lw_m5 64 rfl
theorem q1151 : (Jvm.Cond.instanceMethod ({ cls := "SunkTower", name := "goesBuilding", desc := "(IIII)V" } : Jvm.MethodName)) ∈ lw_all := lw_g (lw_at lw_m5 65 rfl) rfl
theorem q1152 : (Jvm.Cond.code ({ cls := "SunkTower", name := "goesBuilding", desc := "(IIII)V" } : Jvm.MethodName) prog_1_method_63_code (6 : Nat) (Option.none : Option Jvm.ClassFile.FieldType)) ∈ lw_all := lw_g (lw_at lw_m5 66 rfl) rfl
theorem q1153 : (Jvm.Cond.methodLink "SunkTower" (398 : Nat) ({ cls := "SunkTower", name := "tries", desc := "(II)V" } : Jvm.MethodName)) ∈ lw_all := lw_g (lw_at lw_m5 67 rfl) rfl
theorem q1154 : (Jvm.Cond.privateMethod ({ cls := "SunkTower", name := "tries", desc := "(II)V" } : Jvm.MethodName)) ∈ lw_tbl := lw_at lw_m5 68 rfl
theorem q1155 : (Jvm.Cond.instanceMethod ({ cls := "SunkTower", name := "tries", desc := "(II)V" } : Jvm.MethodName)) ∈ lw_all := lw_g (lw_at lw_m5 69 rfl) rfl
theorem q1156 : (Jvm.Cond.code ({ cls := "SunkTower", name := "tries", desc := "(II)V" } : Jvm.MethodName) prog_1_method_62_code (5 : Nat) (Option.none : Option Jvm.ClassFile.FieldType)) ∈ lw_all := lw_g (lw_at lw_m5 70 rfl) rfl
theorem q1157 : (Jvm.Cond.methodLink "SunkTower" (379 : Nat) ({ cls := "SunkTower", name := "leftOf", desc := "(II)J" } : Jvm.MethodName)) ∈ lw_all := lw_g (lw_at lw_m5 71 rfl) rfl
theorem q1158 : (Jvm.Cond.privateMethod ({ cls := "SunkTower", name := "leftOf", desc := "(II)J" } : Jvm.MethodName)) ∈ lw_tbl := lw_at lw_m5 72 rfl
theorem q1159 : (Jvm.Cond.instanceMethod ({ cls := "SunkTower", name := "leftOf", desc := "(II)J" } : Jvm.MethodName)) ∈ lw_all := lw_g (lw_at lw_m5 73 rfl) rfl
theorem q1160 : (Jvm.Cond.code ({ cls := "SunkTower", name := "leftOf", desc := "(II)J" } : Jvm.MethodName) prog_1_method_61_code (7 : Nat) (Option.some Jvm.ClassFile.FieldType.long)) ∈ lw_all := lw_g (lw_at lw_m5 74 rfl) rfl
theorem q1161 : (Jvm.Cond.methodLink "SunkTower" (392 : Nat) ({ cls := "java/lang/System", name := "arraycopy", desc := "(Ljava/lang/Object;ILjava/lang/Object;II)V" } : Jvm.MethodName)) ∈ lw_all := lw_g (lw_at lw_m5 75 rfl) rfl
theorem q1162 : (Jvm.Cond.constantLong "SunkTower" (417 : Nat) (-1 : Int64)) ∈ lw_all := lw_g (lw_at lw_m5 76 rfl) rfl
theorem q1164 : (Jvm.Cond.instanceMethod ({ cls := "SunkTower", name := "buildings", desc := "(II)I" } : Jvm.MethodName)) ∈ lw_all := lw_g (lw_at lw_m5 78 rfl) rfl
theorem q1165 : (Jvm.Cond.selects "SunkTower" ({ cls := "SunkTower", name := "buildings", desc := "(II)I" } : Jvm.MethodName) ({ cls := "SunkTower", name := "buildings", desc := "(II)I" } : Jvm.MethodName)) ∈ lw_all := lw_g (lw_at lw_m5 79 rfl) rfl
theorem q1166 : (Jvm.Cond.code ({ cls := "SunkTower", name := "buildings", desc := "(II)I" } : Jvm.MethodName) prog_1_method_67_code (3 : Nat) (Option.some Jvm.ClassFile.FieldType.int)) ∈ lw_all := lw_g (lw_at lw_m5 80 rfl) rfl
theorem q1168 : (Jvm.Cond.instanceMethod ({ cls := "SunkTower", name := "marks", desc := "(I)I" } : Jvm.MethodName)) ∈ lw_all := lw_g (lw_at lw_m5 82 rfl) rfl
theorem q1169 : (Jvm.Cond.selects "SunkTower" ({ cls := "SunkTower", name := "marks", desc := "(I)I" } : Jvm.MethodName) ({ cls := "SunkTower", name := "marks", desc := "(I)I" } : Jvm.MethodName)) ∈ lw_all := lw_g (lw_at lw_m5 83 rfl) rfl
theorem q1170 : (Jvm.Cond.code ({ cls := "SunkTower", name := "marks", desc := "(I)I" } : Jvm.MethodName) prog_1_method_72_code (3 : Nat) (Option.some Jvm.ClassFile.FieldType.int)) ∈ lw_all := lw_g (lw_at lw_m5 84 rfl) rfl
theorem q1171 : (Jvm.Cond.methodLink "SunkTower" (430 : Nat) ({ cls := "SunkTower", name := "marksFault", desc := "(I)I" } : Jvm.MethodName)) ∈ lw_all := lw_g (lw_at lw_m5 85 rfl) rfl
theorem q1172 : (Jvm.Cond.privateMethod ({ cls := "SunkTower", name := "marksFault", desc := "(I)I" } : Jvm.MethodName)) ∈ lw_tbl := lw_at lw_m5 86 rfl
theorem q1173 : (Jvm.Cond.instanceMethod ({ cls := "SunkTower", name := "marksFault", desc := "(I)I" } : Jvm.MethodName)) ∈ lw_all := lw_g (lw_at lw_m5 87 rfl) rfl
theorem q1174 : (Jvm.Cond.code ({ cls := "SunkTower", name := "marksFault", desc := "(I)I" } : Jvm.MethodName) prog_1_method_68_code (4 : Nat) (Option.some Jvm.ClassFile.FieldType.int)) ∈ lw_all := lw_g (lw_at lw_m5 88 rfl) rfl
theorem q1175 : (Jvm.Cond.constantLong "SunkTower" (419 : Nat) (16 : Int64)) ∈ lw_all := lw_g (lw_at lw_m5 89 rfl) rfl
theorem q1176 : (Jvm.Cond.constantLong "SunkTower" (421 : Nat) (99999 : Int64)) ∈ lw_all := lw_g (lw_at lw_m5 90 rfl) rfl
theorem q1177 : (Jvm.Cond.methodLink "SunkTower" (433 : Nat) ({ cls := "SunkTower", name := "laysHidden", desc := "(LSunkTower$Numbers;)I" } : Jvm.MethodName)) ∈ lw_all := lw_g (lw_at lw_m5 91 rfl) rfl
theorem q1178 : (Jvm.Cond.privateMethod ({ cls := "SunkTower", name := "laysHidden", desc := "(LSunkTower$Numbers;)I" } : Jvm.MethodName)) ∈ lw_tbl := lw_at lw_m5 92 rfl
theorem q1179 : (Jvm.Cond.instanceMethod ({ cls := "SunkTower", name := "laysHidden", desc := "(LSunkTower$Numbers;)I" } : Jvm.MethodName)) ∈ lw_all := lw_g (lw_at lw_m5 93 rfl) rfl
theorem q1180 : (Jvm.Cond.code ({ cls := "SunkTower", name := "laysHidden", desc := "(LSunkTower$Numbers;)I" } : Jvm.MethodName) prog_1_method_71_code (6 : Nat) (Option.some Jvm.ClassFile.FieldType.int)) ∈ lw_all := lw_g (lw_at lw_m5 94 rfl) rfl
theorem q1181 : (Jvm.Cond.methodLink "SunkTower" (423 : Nat) ({ cls := "SunkTower", name := "laysSunk", desc := "(I)V" } : Jvm.MethodName)) ∈ lw_all := lw_g (lw_at lw_m5 95 rfl) rfl
theorem q1182 : (Jvm.Cond.privateMethod ({ cls := "SunkTower", name := "laysSunk", desc := "(I)V" } : Jvm.MethodName)) ∈ lw_tbl := lw_at lw_m5 96 rfl
theorem q1183 : (Jvm.Cond.instanceMethod ({ cls := "SunkTower", name := "laysSunk", desc := "(I)V" } : Jvm.MethodName)) ∈ lw_all := lw_g (lw_at lw_m5 97 rfl) rfl
theorem q1184 : (Jvm.Cond.code ({ cls := "SunkTower", name := "laysSunk", desc := "(I)V" } : Jvm.MethodName) prog_1_method_69_code (3 : Nat) (Option.none : Option Jvm.ClassFile.FieldType)) ∈ lw_all := lw_g (lw_at lw_m5 98 rfl) rfl
theorem q1185 : (Jvm.Cond.methodLink "SunkTower" (426 : Nat) ({ cls := "SunkTower", name := "fitsMark", desc := "(LSunkTower$Numbers;I)Z" } : Jvm.MethodName)) ∈ lw_all := lw_g (lw_at lw_m5 99 rfl) rfl
theorem q1186 : (Jvm.Cond.privateMethod ({ cls := "SunkTower", name := "fitsMark", desc := "(LSunkTower$Numbers;I)Z" } : Jvm.MethodName)) ∈ lw_tbl := lw_at lw_m5 100 rfl
theorem q1187 : (Jvm.Cond.instanceMethod ({ cls := "SunkTower", name := "fitsMark", desc := "(LSunkTower$Numbers;I)Z" } : Jvm.MethodName)) ∈ lw_all := lw_g (lw_at lw_m5 101 rfl) rfl
theorem q1188 : (Jvm.Cond.code ({ cls := "SunkTower", name := "fitsMark", desc := "(LSunkTower$Numbers;I)Z" } : Jvm.MethodName) prog_1_method_70_code (3 : Nat) (Option.some Jvm.ClassFile.FieldType.boolean)) ∈ lw_all := lw_g (lw_at lw_m5 102 rfl) rfl
theorem q1190 : (Jvm.Cond.instanceMethod ({ cls := "SunkTower", name := "hidden", desc := "(II)I" } : Jvm.MethodName)) ∈ lw_all := lw_g (lw_at lw_m5 104 rfl) rfl
theorem q1191 : (Jvm.Cond.selects "SunkTower" ({ cls := "SunkTower", name := "hidden", desc := "(II)I" } : Jvm.MethodName) ({ cls := "SunkTower", name := "hidden", desc := "(II)I" } : Jvm.MethodName)) ∈ lw_all := lw_g (lw_at lw_m5 105 rfl) rfl
theorem q1192 : (Jvm.Cond.code ({ cls := "SunkTower", name := "hidden", desc := "(II)I" } : Jvm.MethodName) prog_1_method_73_code (4 : Nat) (Option.some Jvm.ClassFile.FieldType.int)) ∈ lw_all := lw_g (lw_at lw_m5 106 rfl) rfl
theorem q1194 : (Jvm.Cond.instanceMethod ({ cls := "SunkTower", name := "look", desc := "(I)I" } : Jvm.MethodName)) ∈ lw_all := lw_g (lw_at lw_m5 108 rfl) rfl
theorem q1195 : (Jvm.Cond.selects "SunkTower" ({ cls := "SunkTower", name := "look", desc := "(I)I" } : Jvm.MethodName) ({ cls := "SunkTower", name := "look", desc := "(I)I" } : Jvm.MethodName)) ∈ lw_all := lw_g (lw_at lw_m5 109 rfl) rfl
theorem q1196 : (Jvm.Cond.code ({ cls := "SunkTower", name := "look", desc := "(I)I" } : Jvm.MethodName) prog_1_method_76_code (6 : Nat) (Option.some Jvm.ClassFile.FieldType.int)) ∈ lw_all := lw_g (lw_at lw_m5 110 rfl) rfl
theorem q1197 : (Jvm.Cond.methodLink "SunkTower" (441 : Nat) ({ cls := "SunkTower", name := "laysAlike", desc := "(I)V" } : Jvm.MethodName)) ∈ lw_all := lw_g (lw_at lw_m5 111 rfl) rfl
theorem q1198 : (Jvm.Cond.privateMethod ({ cls := "SunkTower", name := "laysAlike", desc := "(I)V" } : Jvm.MethodName)) ∈ lw_tbl := lw_at lw_m5 112 rfl
theorem q1199 : (Jvm.Cond.instanceMethod ({ cls := "SunkTower", name := "laysAlike", desc := "(I)V" } : Jvm.MethodName)) ∈ lw_all := lw_g (lw_at lw_m5 113 rfl) rfl
theorem q1200 : (Jvm.Cond.code ({ cls := "SunkTower", name := "laysAlike", desc := "(I)V" } : Jvm.MethodName) prog_1_method_74_code (5 : Nat) (Option.none : Option Jvm.ClassFile.FieldType)) ∈ lw_all := lw_g (lw_at lw_m5 114 rfl) rfl
theorem q1201 : (Jvm.Cond.methodLink "SunkTower" (436 : Nat) ({ cls := "SunkTower", name := "sunkOf", desc := "(II)I" } : Jvm.MethodName)) ∈ lw_all := lw_g (lw_at lw_m5 115 rfl) rfl
theorem q1202 : (Jvm.Cond.privateMethod ({ cls := "SunkTower", name := "sunkOf", desc := "(II)I" } : Jvm.MethodName)) ∈ lw_tbl := lw_at lw_m5 116 rfl
theorem q1203 : (Jvm.Cond.instanceMethod ({ cls := "SunkTower", name := "sunkOf", desc := "(II)I" } : Jvm.MethodName)) ∈ lw_all := lw_g (lw_at lw_m5 117 rfl) rfl
theorem q1204 : (Jvm.Cond.code ({ cls := "SunkTower", name := "sunkOf", desc := "(II)I" } : Jvm.MethodName) prog_1_method_75_code (3 : Nat) (Option.some Jvm.ClassFile.FieldType.int)) ∈ lw_all := lw_g (lw_at lw_m5 118 rfl) rfl
theorem q1205 : (Jvm.Cond.methodLink "SunkTower" (439 : Nat) ({ cls := "java/lang/Math", name := "max", desc := "(II)I" } : Jvm.MethodName)) ∈ lw_all := lw_g (lw_at lw_m5 119 rfl) rfl
theorem q1207 : (Jvm.Cond.instanceMethod ({ cls := "SunkTower", name := "falseMark", desc := "(I)I" } : Jvm.MethodName)) ∈ lw_all := lw_g (lw_at lw_m5 121 rfl) rfl
theorem q1208 : (Jvm.Cond.selects "SunkTower" ({ cls := "SunkTower", name := "falseMark", desc := "(I)I" } : Jvm.MethodName) ({ cls := "SunkTower", name := "falseMark", desc := "(I)I" } : Jvm.MethodName)) ∈ lw_all := lw_g (lw_at lw_m5 122 rfl) rfl
theorem q1209 : (Jvm.Cond.code ({ cls := "SunkTower", name := "falseMark", desc := "(I)I" } : Jvm.MethodName) prog_1_method_77_code (5 : Nat) (Option.some Jvm.ClassFile.FieldType.int)) ∈ lw_all := lw_g (lw_at lw_m5 123 rfl) rfl
theorem q1210 : (Jvm.Cond.methodLink "SunkTower" (444 : Nat) ({ cls := "SunkTower", name := "fitsAny", desc := "(LSunkTower$Numbers;I)Z" } : Jvm.MethodName)) ∈ lw_all := lw_g (lw_at lw_m5 124 rfl) rfl
theorem q1211 : (Jvm.Cond.privateMethod ({ cls := "SunkTower", name := "fitsAny", desc := "(LSunkTower$Numbers;I)Z" } : Jvm.MethodName)) ∈ lw_tbl := lw_at lw_m5 125 rfl
theorem q1212 : (Jvm.Cond.instanceMethod ({ cls := "SunkTower", name := "fitsAny", desc := "(LSunkTower$Numbers;I)Z" } : Jvm.MethodName)) ∈ lw_all := lw_g (lw_at lw_m5 126 rfl) rfl
theorem q1213 : (Jvm.Cond.code ({ cls := "SunkTower", name := "fitsAny", desc := "(LSunkTower$Numbers;I)Z" } : Jvm.MethodName) prog_1_method_78_code (4 : Nat) (Option.some Jvm.ClassFile.FieldType.boolean)) ∈ lw_all := lw_g (lw_at lw_m5 127 rfl) rfl
theorem q1215 : (Jvm.Cond.instanceMethod ({ cls := "SunkTower", name := "numbers", desc := "(III)I" } : Jvm.MethodName)) ∈ lw_all := lw_g (lw_at lw_m5 129 rfl) rfl
theorem q1216 : (Jvm.Cond.selects "SunkTower" ({ cls := "SunkTower", name := "numbers", desc := "(III)I" } : Jvm.MethodName) ({ cls := "SunkTower", name := "numbers", desc := "(III)I" } : Jvm.MethodName)) ∈ lw_all := lw_g (lw_at lw_m5 130 rfl) rfl
theorem q1217 : (Jvm.Cond.code ({ cls := "SunkTower", name := "numbers", desc := "(III)I" } : Jvm.MethodName) prog_1_method_80_code (4 : Nat) (Option.some Jvm.ClassFile.FieldType.int)) ∈ lw_all := lw_g (lw_at lw_m5 131 rfl) rfl
theorem q1218 : (Jvm.Cond.methodLink "SunkTower" (447 : Nat) ({ cls := "SunkTower$Numbers", name := "begins", desc := "(II)Z" } : Jvm.MethodName)) ∈ lw_all := lw_g (lw_at lw_m5 132 rfl) rfl
theorem q1307 : (Jvm.Cond.instanceMethod ({ cls := "SunkTower", name := "write", desc := "(IIJ)J" } : Jvm.MethodName)) ∈ lw_all := lw_g (lw_at lw_m5 221 rfl) rfl
theorem q1308 : (Jvm.Cond.selects "SunkTower" ({ cls := "SunkTower", name := "write", desc := "(IIJ)J" } : Jvm.MethodName) ({ cls := "SunkTower", name := "write", desc := "(IIJ)J" } : Jvm.MethodName)) ∈ lw_all := lw_g (lw_at lw_m5 222 rfl) rfl
theorem q1309 : (Jvm.Cond.codeWith ({ cls := "SunkTower", name := "write", desc := "(IIJ)J" } : Jvm.MethodName) prog_1_method_81_code (6 : Nat) (Option.some Jvm.ClassFile.FieldType.long) [((11 : Nat), (32 : Nat), (33 : Nat), (455 : Nat)), ((11 : Nat), (32 : Nat), (39 : Nat), (459 : Nat))]) ∈ lw_all := lw_g (lw_at lw_m5 223 rfl) rfl
theorem q1310 : (Jvm.Cond.classLink "SunkTower" (455 : Nat) "java/lang/NullPointerException") ∈ lw_all := lw_g (lw_at lw_m5 224 rfl) rfl
theorem q1335 : (Jvm.Cond.classLink "SunkTower" (459 : Nat) "java/lang/ArrayIndexOutOfBoundsException") ∈ lw_all := lw_g (lw_at lw_m6 9 rfl) rfl
theorem q1354 : (Jvm.Cond.constantLong "SunkTower" (449 : Nat) (-2 : Int64)) ∈ lw_all := lw_g (lw_at lw_m6 28 rfl) rfl
theorem q1355 : (Jvm.Cond.methodLink "SunkTower" (451 : Nat) ({ cls := "SunkTower$Numbers", name := "puts", desc := "(IJ)V" } : Jvm.MethodName)) ∈ lw_all := lw_g (lw_at lw_m6 29 rfl) rfl
theorem q1359 : (Jvm.Cond.constantLong "SunkTower" (457 : Nat) (-6 : Int64)) ∈ lw_all := lw_g (lw_at lw_m6 33 rfl) rfl
theorem q1360 : (Jvm.Cond.constantLong "SunkTower" (461 : Nat) (-7 : Int64)) ∈ lw_all := lw_g (lw_at lw_m6 34 rfl) rfl
theorem q1362 : (Jvm.Cond.instanceMethod ({ cls := "SunkTower", name := "lists", desc := "(I)I" } : Jvm.MethodName)) ∈ lw_all := lw_g (lw_at lw_m6 36 rfl) rfl
theorem q1363 : (Jvm.Cond.selects "SunkTower" ({ cls := "SunkTower", name := "lists", desc := "(I)I" } : Jvm.MethodName) ({ cls := "SunkTower", name := "lists", desc := "(I)I" } : Jvm.MethodName)) ∈ lw_all := lw_g (lw_at lw_m6 37 rfl) rfl
theorem q1364 : (Jvm.Cond.code ({ cls := "SunkTower", name := "lists", desc := "(I)I" } : Jvm.MethodName) prog_1_method_82_code (3 : Nat) (Option.some Jvm.ClassFile.FieldType.int)) ∈ lw_all := lw_g (lw_at lw_m6 38 rfl) rfl
theorem q1366 : (Jvm.Cond.instanceMethod ({ cls := "SunkTower", name := "image", desc := "(I)I" } : Jvm.MethodName)) ∈ lw_all := lw_g (lw_at lw_m6 40 rfl) rfl
theorem q1367 : (Jvm.Cond.selects "SunkTower" ({ cls := "SunkTower", name := "image", desc := "(I)I" } : Jvm.MethodName) ({ cls := "SunkTower", name := "image", desc := "(I)I" } : Jvm.MethodName)) ∈ lw_all := lw_g (lw_at lw_m6 41 rfl) rfl
theorem q1368 : (Jvm.Cond.code ({ cls := "SunkTower", name := "image", desc := "(I)I" } : Jvm.MethodName) prog_1_method_83_code (2 : Nat) (Option.some Jvm.ClassFile.FieldType.int)) ∈ lw_all := lw_g (lw_at lw_m6 42 rfl) rfl
theorem q1370 : (Jvm.Cond.instanceMethod ({ cls := "SunkTower", name := "restore", desc := "(I)I" } : Jvm.MethodName)) ∈ lw_all := lw_g (lw_at lw_m6 44 rfl) rfl
theorem q1371 : (Jvm.Cond.selects "SunkTower" ({ cls := "SunkTower", name := "restore", desc := "(I)I" } : Jvm.MethodName) ({ cls := "SunkTower", name := "restore", desc := "(I)I" } : Jvm.MethodName)) ∈ lw_all := lw_g (lw_at lw_m6 45 rfl) rfl
theorem q1372 : (Jvm.Cond.code ({ cls := "SunkTower", name := "restore", desc := "(I)I" } : Jvm.MethodName) prog_1_method_84_code (2 : Nat) (Option.some Jvm.ClassFile.FieldType.int)) ∈ lw_all := lw_g (lw_at lw_m6 46 rfl) rfl
theorem q1374 : (Jvm.Cond.instanceMethod ({ cls := "SunkTower", name := "count", desc := "(I)I" } : Jvm.MethodName)) ∈ lw_all := lw_g (lw_at lw_m6 48 rfl) rfl
theorem q1375 : (Jvm.Cond.selects "SunkTower" ({ cls := "SunkTower", name := "count", desc := "(I)I" } : Jvm.MethodName) ({ cls := "SunkTower", name := "count", desc := "(I)I" } : Jvm.MethodName)) ∈ lw_all := lw_g (lw_at lw_m6 49 rfl) rfl
theorem q1376 : (Jvm.Cond.code ({ cls := "SunkTower", name := "count", desc := "(I)I" } : Jvm.MethodName) prog_1_method_85_code (2 : Nat) (Option.some Jvm.ClassFile.FieldType.int)) ∈ lw_all := lw_g (lw_at lw_m6 50 rfl) rfl
theorem q1377 : (Jvm.Cond.methodLink "SunkTower" (463 : Nat) ({ cls := "SunkTower$State", name := "away", desc := "()I" } : Jvm.MethodName)) ∈ lw_all := lw_g (lw_at lw_m6 51 rfl) rfl
theorem in_X0 : ∀ w ∈ wsX00, w ∈ lw_all := lw_in wsX00 [339, 341, 343, 345, 347, 349, 351, 353, 355, 357, 359, 361, 363, 365, 367, 369, 371, 373, 375, 377, 379, 381, 383, 385, 387, 389, 391, 393, 395, 397, 399, 401, 403] (by decide +kernel) (by decide +kernel)
