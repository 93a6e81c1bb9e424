set_option maxRecDepth 100000
/-! ValleyMassModel -/
def RX4 : String := "ValleyMassModel"
def TX4 : u_T := fun k => match k with
  | 0 => ("ValleyMassModel", "thrown", "I", false)
  | 1 => ("ValleyMassModel", "singers", "I", false)
  | 2 => ("ValleyMassModel", "pieces", "I", false)
  | 3 => ("ValleyMassModel", "every", "I", false)
  | 4 => ("ValleyMassModel", "side", "[I", true)
  | 5 => ("ValleyMassModel", "part", "[I", true)
  | 6 => ("ValleyMassModel", "lowest", "[I", true)
  | 7 => ("ValleyMassModel", "highest", "[I", true)
  | 8 => ("ValleyMassModel", "skill", "[I", true)
  | 9 => ("ValleyMassModel", "needs", "[I", true)
  | 10 => ("ValleyMassModel", "long2", "[I", true)
  | 11 => ("ValleyMassModel", "note", "[I", true)
  | 12 => ("ValleyMassModel", "ruleAt", "[I", true)
  | 13 => ("ValleyMassModel", "code", "[I", true)
  | 14 => ("ValleyMassModel", "tape", "[I", true)
  | 15 => ("ValleyMassModel", "taped", "I", false)
  | 16 => ("ValleyMassModel", "faultKind", "I", false)
  | 17 => ("ValleyMassModel", "faultPlace", "I", false)
  | 18 => ("ValleyMassModel", "refused", "[I", true)
  | 19 => ("ValleyMassModel", "long1", "I", false)
  | 20 => ("ValleyMassModel", "next", "I", false)
  | 21 => ("ValleyMassModel", "sort", "I", false)
  | 22 => ("ValleyMassModel", "place", "I", false)
  | 23 => ("ValleyMassModel", "long0", "I", false)
  | 24 => ("ValleyMassModel", "value", "I", false)
  | 25 => ("ValleyMassModel", "sign", "I", false)
  | 26 => ("ValleyMassModel", "word", "J", false)
  | 27 => ("ValleyMassModel", "newSingers", "I", false)
  | 28 => ("ValleyMassModel", "newPieces", "I", false)
  | 29 => ("ValleyMassModel", "newEvery", "I", false)
  | 30 => ("ValleyMassModel", "top", "I", false)
  | 31 => ("ValleyMassModel", "firstValue", "I", false)
  | 32 => ("ValleyMassModel", "lastValue", "I", false)
  | 33 => ("ValleyMassModel", "waiting", "I", false)
  | 34 => ("ValleyMassModel", "depth", "I", false)
  | 35 => ("ValleyMassModel", "newSide", "[I", true)
  | 36 => ("ValleyMassModel", "newPart", "[I", true)
  | 37 => ("ValleyMassModel", "newLowest", "[I", true)
  | 38 => ("ValleyMassModel", "newHighest", "[I", true)
  | 39 => ("ValleyMassModel", "newSkill", "[I", true)
  | 40 => ("ValleyMassModel", "newNeeds", "[I", true)
  | 41 => ("ValleyMassModel", "newLong", "[I", true)
  | 42 => ("ValleyMassModel", "newNote", "[I", true)
  | 43 => ("ValleyMassModel", "newRuleAt", "[I", true)
  | 44 => ("ValleyMassModel", "readCode", "[I", true)
  | 45 => ("ValleyMassModel", "waits", "[I", true)
  | 46 => ("ValleyMassModel", "tested", "[Z", true)
  | 47 => ("ValleyMassModel", "now", "[I", true)
  | 48 => ("ValleyMassModel", "then", "[I", true)
  | 49 => ("ValleyMassModel", "ahead", "[I", true)
  | 50 => ("ValleyMassModel", "acts", "I", false)
  | 51 => ("ValleyMassModel", "told", "[I", true)
  | 52 => ("ValleyMassModel", "pile", "[I", true)
  | 53 => ("ValleyMassModel", "heardMany", "I", false)
  | 54 => ("ValleyMassModel", "heard", "[I", true)
  | 55 => ("ValleyMassModel", "gain", "[I", true)
  | 56 => ("ValleyMassModel", "its", "I", false)
  | 57 => ("ValleyMassModel", "hasImage", "Z", false)
  | 58 => ("ValleyMassModel", "imageActs", "I", false)
  | 59 => ("ValleyMassModel", "imageHeard", "I", false)
  | 60 => ("ValleyMassModel", "imageNow", "[I", true)
  | 61 => ("ValleyMassModel", "imageAhead", "[I", true)
  | _ => ("ValleyMassModel", "imageHears", "[I", true)
def tyX4 : Nat → FieldType := fun k => match k with
  | 0 => .int
  | 1 => .int
  | 2 => .int
  | 3 => .int
  | 4 => .array .int
  | 5 => .array .int
  | 6 => .array .int
  | 7 => .array .int
  | 8 => .array .int
  | 9 => .array .int
  | 10 => .array .int
  | 11 => .array .int
  | 12 => .array .int
  | 13 => .array .int
  | 14 => .array .int
  | 15 => .int
  | 16 => .int
  | 17 => .int
  | 18 => .array .int
  | 19 => .int
  | 20 => .int
  | 21 => .int
  | 22 => .int
  | 23 => .int
  | 24 => .int
  | 25 => .int
  | 26 => .long
  | 27 => .int
  | 28 => .int
  | 29 => .int
  | 30 => .int
  | 31 => .int
  | 32 => .int
  | 33 => .int
  | 34 => .int
  | 35 => .array .int
  | 36 => .array .int
  | 37 => .array .int
  | 38 => .array .int
  | 39 => .array .int
  | 40 => .array .int
  | 41 => .array .int
  | 42 => .array .int
  | 43 => .array .int
  | 44 => .array .int
  | 45 => .array .int
  | 46 => .array .boolean
  | 47 => .array .int
  | 48 => .array .int
  | 49 => .array .int
  | 50 => .int
  | 51 => .array .int
  | 52 => .array .int
  | 53 => .int
  | 54 => .array .int
  | 55 => .array .int
  | 56 => .int
  | 57 => .boolean
  | 58 => .int
  | 59 => .int
  | 60 => .array .int
  | 61 => .array .int
  | _ => .array .int
abbrev wsX40 : List Cond := u_ws RX4 TX4 63
theorem nmX4 : ∀ a, a < 63 → ∀ b, b < 63 → a ≠ b → (TX4 a).2.1 ≠ (TX4 b).2.1 := by decide +kernel
theorem tyX4_ok : ∀ k, k < 63 → parseFieldDescriptor (TX4 k).2.2.1 = some (tyX4 k) := by decide +kernel
abbrev cX4_init : ByteArray := prog_14_method_1_code
def yX4_init : MethodName := ⟨RX4, "<init>", "()V"⟩
def dkwX4_init_13 : List UInt8 := [16, 24, 188, 10, 181, 0, 117, 177]
abbrev dktX4_init_13 : List UInt8 := dkwX4_init_13 ++ []
def dkwX4_init_12 : List UInt8 := [188, 10, 181, 0, 108, 42, 16, 16, 188, 10, 181, 0, 111, 42, 17, 2, 128, 188, 10, 181, 0, 114, 42]
abbrev dktX4_init_12 : List UInt8 := dkwX4_init_12 ++ dktX4_init_13
def dkwX4_init_11 : List UInt8 := [181, 0, 99, 42, 17, 3, 182, 188, 10, 181, 0, 102, 42, 16, 24, 188, 10, 181, 0, 105, 42, 16, 8]
abbrev dktX4_init_11 : List UInt8 := dkwX4_init_11 ++ dktX4_init_12
def dkwX4_init_10 : List UInt8 := [42, 16, 16, 188, 10, 181, 0, 93, 42, 17, 2, 128, 188, 10, 181, 0, 96, 42, 16, 10, 188, 10]
abbrev dktX4_init_10 : List UInt8 := dkwX4_init_10 ++ dktX4_init_11
def dkwX4_init_9 : List UInt8 := [17, 3, 182, 188, 10, 181, 0, 83, 42, 16, 9, 188, 4, 181, 0, 86, 42, 16, 16, 188, 10, 181, 0, 90]
abbrev dktX4_init_9 : List UInt8 := dkwX4_init_9 ++ dktX4_init_10
def dkwX4_init_8 : List UInt8 := [188, 10, 181, 0, 74, 42, 7, 188, 10, 181, 0, 77, 42, 17, 10, 240, 188, 10, 181, 0, 80, 42]
abbrev dktX4_init_8 : List UInt8 := dkwX4_init_8 ++ dktX4_init_9
def dkwX4_init_7 : List UInt8 := [181, 0, 65, 42, 16, 20, 188, 10, 181, 0, 68, 42, 16, 20, 188, 10, 181, 0, 71, 42, 17, 0, 240]
abbrev dktX4_init_7 : List UInt8 := dkwX4_init_7 ++ dktX4_init_8
def dkwX4_init_6 : List UInt8 := [181, 0, 56, 42, 16, 14, 188, 10, 181, 0, 59, 42, 16, 14, 188, 10, 181, 0, 62, 42, 16, 14, 188, 10]
abbrev dktX4_init_6 : List UInt8 := dkwX4_init_6 ++ dktX4_init_7
def dkwX4_init_5 : List UInt8 := [181, 0, 47, 42, 6, 188, 10, 181, 0, 50, 42, 16, 14, 188, 10, 181, 0, 53, 42, 16, 14, 188, 10]
abbrev dktX4_init_5 : List UInt8 := dkwX4_init_5 ++ dktX4_init_6
def dkwX4_init_4 : List UInt8 := [79, 181, 0, 38, 42, 17, 10, 240, 188, 10, 181, 0, 41, 42, 17, 2, 188, 188, 10, 181, 0, 44, 42, 2]
abbrev dktX4_init_4 : List UInt8 := dkwX4_init_4 ++ dktX4_init_5
def dkwX4_init_3 : List UInt8 := [188, 10, 181, 0, 35, 42, 7, 188, 10, 89, 3, 2, 79, 89, 4, 2, 79, 89, 5, 2, 79, 89, 6, 2]
abbrev dktX4_init_3 : List UInt8 := dkwX4_init_3 ++ dktX4_init_4
def dkwX4_init_2 : List UInt8 := [181, 0, 26, 42, 16, 20, 188, 10, 181, 0, 29, 42, 16, 20, 188, 10, 181, 0, 32, 42, 17, 0, 240]
abbrev dktX4_init_2 : List UInt8 := dkwX4_init_2 ++ dktX4_init_3
def dkwX4_init_1 : List UInt8 := [181, 0, 17, 42, 16, 14, 188, 10, 181, 0, 20, 42, 16, 14, 188, 10, 181, 0, 23, 42, 16, 14, 188, 10]
abbrev dktX4_init_1 : List UInt8 := dkwX4_init_1 ++ dktX4_init_2
def dkwX4_init_0 : List UInt8 := [42, 183, 0, 1, 42, 7, 181, 0, 7, 42, 16, 14, 188, 10, 181, 0, 13, 42, 16, 14, 188, 10]
abbrev dktX4_init_0 : List UInt8 := dkwX4_init_0 ++ dktX4_init_1
theorem dksX4_init_0 : cX4_init.data.toList.drop 0 = dktX4_init_0 := by decide +kernel
theorem dksX4_init_1 : cX4_init.data.toList.drop 22 = dktX4_init_1 := dk_seg dksX4_init_0 22 rfl rfl
theorem dksX4_init_2 : cX4_init.data.toList.drop 46 = dktX4_init_2 := dk_seg dksX4_init_1 24 rfl rfl
theorem dksX4_init_3 : cX4_init.data.toList.drop 69 = dktX4_init_3 := dk_seg dksX4_init_2 23 rfl rfl
theorem dksX4_init_4 : cX4_init.data.toList.drop 93 = dktX4_init_4 := dk_seg dksX4_init_3 24 rfl rfl
theorem dksX4_init_5 : cX4_init.data.toList.drop 117 = dktX4_init_5 := dk_seg dksX4_init_4 24 rfl rfl
theorem dksX4_init_6 : cX4_init.data.toList.drop 140 = dktX4_init_6 := dk_seg dksX4_init_5 23 rfl rfl
theorem dksX4_init_7 : cX4_init.data.toList.drop 164 = dktX4_init_7 := dk_seg dksX4_init_6 24 rfl rfl
theorem dksX4_init_8 : cX4_init.data.toList.drop 187 = dktX4_init_8 := dk_seg dksX4_init_7 23 rfl rfl
theorem dksX4_init_9 : cX4_init.data.toList.drop 209 = dktX4_init_9 := dk_seg dksX4_init_8 22 rfl rfl
theorem dksX4_init_10 : cX4_init.data.toList.drop 233 = dktX4_init_10 := dk_seg dksX4_init_9 24 rfl rfl
theorem dksX4_init_11 : cX4_init.data.toList.drop 255 = dktX4_init_11 := dk_seg dksX4_init_10 22 rfl rfl
theorem dksX4_init_12 : cX4_init.data.toList.drop 278 = dktX4_init_12 := dk_seg dksX4_init_11 23 rfl rfl
theorem dksX4_init_13 : cX4_init.data.toList.drop 301 = dktX4_init_13 := dk_seg dksX4_init_12 23 rfl rfl
theorem dX4_init_0 : decode cX4_init 0 = .ok (.aload_n 0, 1) := dk_42 (dk_at dksX4_init_0 0 rfl rfl)
theorem dX4_init_1 : decode cX4_init 1 = .ok (.invokespecial 1, 3) := dk_183 0 1 (dk_at dksX4_init_0 1 rfl rfl)
theorem dX4_init_4 : decode cX4_init 4 = .ok (.aload_n 0, 1) := dk_42 (dk_at dksX4_init_0 4 rfl rfl)
theorem dX4_init_5 : decode cX4_init 5 = .ok (.iconst 4, 1) := dk_7 (dk_at dksX4_init_0 5 rfl rfl)
theorem dX4_init_6 : decode cX4_init 6 = .ok (.putfield 7, 3) := dk_181 0 7 (dk_at dksX4_init_0 6 rfl rfl)
theorem dX4_init_9 : decode cX4_init 9 = .ok (.aload_n 0, 1) := dk_42 (dk_at dksX4_init_0 9 rfl rfl)
theorem dX4_init_10 : decode cX4_init 10 = .ok (.bipush 14, 2) := dk_16 14 (dk_at dksX4_init_0 10 rfl rfl)
theorem dX4_init_12 : decode cX4_init 12 = .ok (.newarray .int, 2) := dk_188_10 (dk_at dksX4_init_0 12 rfl rfl)
theorem dX4_init_14 : decode cX4_init 14 = .ok (.putfield 13, 3) := dk_181 0 13 (dk_at dksX4_init_0 14 rfl rfl)
theorem dX4_init_17 : decode cX4_init 17 = .ok (.aload_n 0, 1) := dk_42 (dk_at dksX4_init_0 17 rfl rfl)
theorem dX4_init_18 : decode cX4_init 18 = .ok (.bipush 14, 2) := dk_16 14 (dk_at dksX4_init_0 18 rfl rfl)
theorem dX4_init_20 : decode cX4_init 20 = .ok (.newarray .int, 2) := dk_188_10 (dk_at dksX4_init_0 20 rfl rfl)
theorem dX4_init_22 : decode cX4_init 22 = .ok (.putfield 17, 3) := dk_181 0 17 (dk_at dksX4_init_1 0 rfl rfl)
theorem dX4_init_25 : decode cX4_init 25 = .ok (.aload_n 0, 1) := dk_42 (dk_at dksX4_init_1 3 rfl rfl)
theorem dX4_init_26 : decode cX4_init 26 = .ok (.bipush 14, 2) := dk_16 14 (dk_at dksX4_init_1 4 rfl rfl)
theorem dX4_init_28 : decode cX4_init 28 = .ok (.newarray .int, 2) := dk_188_10 (dk_at dksX4_init_1 6 rfl rfl)
theorem dX4_init_30 : decode cX4_init 30 = .ok (.putfield 20, 3) := dk_181 0 20 (dk_at dksX4_init_1 8 rfl rfl)
theorem dX4_init_33 : decode cX4_init 33 = .ok (.aload_n 0, 1) := dk_42 (dk_at dksX4_init_1 11 rfl rfl)
theorem dX4_init_34 : decode cX4_init 34 = .ok (.bipush 14, 2) := dk_16 14 (dk_at dksX4_init_1 12 rfl rfl)
theorem dX4_init_36 : decode cX4_init 36 = .ok (.newarray .int, 2) := dk_188_10 (dk_at dksX4_init_1 14 rfl rfl)
theorem dX4_init_38 : decode cX4_init 38 = .ok (.putfield 23, 3) := dk_181 0 23 (dk_at dksX4_init_1 16 rfl rfl)
theorem dX4_init_41 : decode cX4_init 41 = .ok (.aload_n 0, 1) := dk_42 (dk_at dksX4_init_1 19 rfl rfl)
theorem dX4_init_42 : decode cX4_init 42 = .ok (.bipush 14, 2) := dk_16 14 (dk_at dksX4_init_1 20 rfl rfl)
theorem dX4_init_44 : decode cX4_init 44 = .ok (.newarray .int, 2) := dk_188_10 (dk_at dksX4_init_1 22 rfl rfl)
theorem dX4_init_46 : decode cX4_init 46 = .ok (.putfield 26, 3) := dk_181 0 26 (dk_at dksX4_init_2 0 rfl rfl)
theorem dX4_init_49 : decode cX4_init 49 = .ok (.aload_n 0, 1) := dk_42 (dk_at dksX4_init_2 3 rfl rfl)
theorem dX4_init_50 : decode cX4_init 50 = .ok (.bipush 20, 2) := dk_16 20 (dk_at dksX4_init_2 4 rfl rfl)
theorem dX4_init_52 : decode cX4_init 52 = .ok (.newarray .int, 2) := dk_188_10 (dk_at dksX4_init_2 6 rfl rfl)
theorem dX4_init_54 : decode cX4_init 54 = .ok (.putfield 29, 3) := dk_181 0 29 (dk_at dksX4_init_2 8 rfl rfl)
theorem dX4_init_57 : decode cX4_init 57 = .ok (.aload_n 0, 1) := dk_42 (dk_at dksX4_init_2 11 rfl rfl)
theorem dX4_init_58 : decode cX4_init 58 = .ok (.bipush 20, 2) := dk_16 20 (dk_at dksX4_init_2 12 rfl rfl)
theorem dX4_init_60 : decode cX4_init 60 = .ok (.newarray .int, 2) := dk_188_10 (dk_at dksX4_init_2 14 rfl rfl)
theorem dX4_init_62 : decode cX4_init 62 = .ok (.putfield 32, 3) := dk_181 0 32 (dk_at dksX4_init_2 16 rfl rfl)
theorem dX4_init_65 : decode cX4_init 65 = .ok (.aload_n 0, 1) := dk_42 (dk_at dksX4_init_2 19 rfl rfl)
theorem dX4_init_66 : decode cX4_init 66 = .ok (.sipush 240, 3) := dk_17 0 240 (dk_at dksX4_init_2 20 rfl rfl)
theorem dX4_init_69 : decode cX4_init 69 = .ok (.newarray .int, 2) := dk_188_10 (dk_at dksX4_init_3 0 rfl rfl)
theorem dX4_init_71 : decode cX4_init 71 = .ok (.putfield 35, 3) := dk_181 0 35 (dk_at dksX4_init_3 2 rfl rfl)
theorem dX4_init_74 : decode cX4_init 74 = .ok (.aload_n 0, 1) := dk_42 (dk_at dksX4_init_3 5 rfl rfl)
theorem dX4_init_75 : decode cX4_init 75 = .ok (.iconst 4, 1) := dk_7 (dk_at dksX4_init_3 6 rfl rfl)
theorem dX4_init_76 : decode cX4_init 76 = .ok (.newarray .int, 2) := dk_188_10 (dk_at dksX4_init_3 7 rfl rfl)
theorem dX4_init_78 : decode cX4_init 78 = .ok (.dup, 1) := dk_89 (dk_at dksX4_init_3 9 rfl rfl)
theorem dX4_init_79 : decode cX4_init 79 = .ok (.iconst 0, 1) := dk_3 (dk_at dksX4_init_3 10 rfl rfl)
theorem dX4_init_80 : decode cX4_init 80 = .ok (.iconst (-1), 1) := dk_2 (dk_at dksX4_init_3 11 rfl rfl)
theorem dX4_init_81 : decode cX4_init 81 = .ok (.iastore, 1) := dk_79 (dk_at dksX4_init_3 12 rfl rfl)
theorem dX4_init_82 : decode cX4_init 82 = .ok (.dup, 1) := dk_89 (dk_at dksX4_init_3 13 rfl rfl)
theorem dX4_init_83 : decode cX4_init 83 = .ok (.iconst 1, 1) := dk_4 (dk_at dksX4_init_3 14 rfl rfl)
theorem dX4_init_84 : decode cX4_init 84 = .ok (.iconst (-1), 1) := dk_2 (dk_at dksX4_init_3 15 rfl rfl)
theorem dX4_init_85 : decode cX4_init 85 = .ok (.iastore, 1) := dk_79 (dk_at dksX4_init_3 16 rfl rfl)
theorem dX4_init_86 : decode cX4_init 86 = .ok (.dup, 1) := dk_89 (dk_at dksX4_init_3 17 rfl rfl)
theorem dX4_init_87 : decode cX4_init 87 = .ok (.iconst 2, 1) := dk_5 (dk_at dksX4_init_3 18 rfl rfl)
theorem dX4_init_88 : decode cX4_init 88 = .ok (.iconst (-1), 1) := dk_2 (dk_at dksX4_init_3 19 rfl rfl)
theorem dX4_init_89 : decode cX4_init 89 = .ok (.iastore, 1) := dk_79 (dk_at dksX4_init_3 20 rfl rfl)
theorem dX4_init_90 : decode cX4_init 90 = .ok (.dup, 1) := dk_89 (dk_at dksX4_init_3 21 rfl rfl)
theorem dX4_init_91 : decode cX4_init 91 = .ok (.iconst 3, 1) := dk_6 (dk_at dksX4_init_3 22 rfl rfl)
theorem dX4_init_92 : decode cX4_init 92 = .ok (.iconst (-1), 1) := dk_2 (dk_at dksX4_init_3 23 rfl rfl)
theorem dX4_init_93 : decode cX4_init 93 = .ok (.iastore, 1) := dk_79 (dk_at dksX4_init_4 0 rfl rfl)
theorem dX4_init_94 : decode cX4_init 94 = .ok (.putfield 38, 3) := dk_181 0 38 (dk_at dksX4_init_4 1 rfl rfl)
theorem dX4_init_97 : decode cX4_init 97 = .ok (.aload_n 0, 1) := dk_42 (dk_at dksX4_init_4 4 rfl rfl)
theorem dX4_init_98 : decode cX4_init 98 = .ok (.sipush 2800, 3) := dk_17 10 240 (dk_at dksX4_init_4 5 rfl rfl)
theorem dX4_init_101 : decode cX4_init 101 = .ok (.newarray .int, 2) := dk_188_10 (dk_at dksX4_init_4 8 rfl rfl)
theorem dX4_init_103 : decode cX4_init 103 = .ok (.putfield 41, 3) := dk_181 0 41 (dk_at dksX4_init_4 10 rfl rfl)
theorem dX4_init_106 : decode cX4_init 106 = .ok (.aload_n 0, 1) := dk_42 (dk_at dksX4_init_4 13 rfl rfl)
theorem dX4_init_107 : decode cX4_init 107 = .ok (.sipush 700, 3) := dk_17 2 188 (dk_at dksX4_init_4 14 rfl rfl)
theorem dX4_init_110 : decode cX4_init 110 = .ok (.newarray .int, 2) := dk_188_10 (dk_at dksX4_init_4 17 rfl rfl)
theorem dX4_init_112 : decode cX4_init 112 = .ok (.putfield 44, 3) := dk_181 0 44 (dk_at dksX4_init_4 19 rfl rfl)
theorem dX4_init_115 : decode cX4_init 115 = .ok (.aload_n 0, 1) := dk_42 (dk_at dksX4_init_4 22 rfl rfl)
theorem dX4_init_116 : decode cX4_init 116 = .ok (.iconst (-1), 1) := dk_2 (dk_at dksX4_init_4 23 rfl rfl)
theorem dX4_init_117 : decode cX4_init 117 = .ok (.putfield 47, 3) := dk_181 0 47 (dk_at dksX4_init_5 0 rfl rfl)
theorem dX4_init_120 : decode cX4_init 120 = .ok (.aload_n 0, 1) := dk_42 (dk_at dksX4_init_5 3 rfl rfl)
theorem dX4_init_121 : decode cX4_init 121 = .ok (.iconst 3, 1) := dk_6 (dk_at dksX4_init_5 4 rfl rfl)
theorem dX4_init_122 : decode cX4_init 122 = .ok (.newarray .int, 2) := dk_188_10 (dk_at dksX4_init_5 5 rfl rfl)
theorem dX4_init_124 : decode cX4_init 124 = .ok (.putfield 50, 3) := dk_181 0 50 (dk_at dksX4_init_5 7 rfl rfl)
theorem dX4_init_127 : decode cX4_init 127 = .ok (.aload_n 0, 1) := dk_42 (dk_at dksX4_init_5 10 rfl rfl)
theorem dX4_init_128 : decode cX4_init 128 = .ok (.bipush 14, 2) := dk_16 14 (dk_at dksX4_init_5 11 rfl rfl)
theorem dX4_init_130 : decode cX4_init 130 = .ok (.newarray .int, 2) := dk_188_10 (dk_at dksX4_init_5 13 rfl rfl)
theorem dX4_init_132 : decode cX4_init 132 = .ok (.putfield 53, 3) := dk_181 0 53 (dk_at dksX4_init_5 15 rfl rfl)
theorem dX4_init_135 : decode cX4_init 135 = .ok (.aload_n 0, 1) := dk_42 (dk_at dksX4_init_5 18 rfl rfl)
theorem dX4_init_136 : decode cX4_init 136 = .ok (.bipush 14, 2) := dk_16 14 (dk_at dksX4_init_5 19 rfl rfl)
theorem dX4_init_138 : decode cX4_init 138 = .ok (.newarray .int, 2) := dk_188_10 (dk_at dksX4_init_5 21 rfl rfl)
theorem dX4_init_140 : decode cX4_init 140 = .ok (.putfield 56, 3) := dk_181 0 56 (dk_at dksX4_init_6 0 rfl rfl)
theorem dX4_init_143 : decode cX4_init 143 = .ok (.aload_n 0, 1) := dk_42 (dk_at dksX4_init_6 3 rfl rfl)
theorem dX4_init_144 : decode cX4_init 144 = .ok (.bipush 14, 2) := dk_16 14 (dk_at dksX4_init_6 4 rfl rfl)
theorem dX4_init_146 : decode cX4_init 146 = .ok (.newarray .int, 2) := dk_188_10 (dk_at dksX4_init_6 6 rfl rfl)
theorem dX4_init_148 : decode cX4_init 148 = .ok (.putfield 59, 3) := dk_181 0 59 (dk_at dksX4_init_6 8 rfl rfl)
theorem dX4_init_151 : decode cX4_init 151 = .ok (.aload_n 0, 1) := dk_42 (dk_at dksX4_init_6 11 rfl rfl)
theorem dX4_init_152 : decode cX4_init 152 = .ok (.bipush 14, 2) := dk_16 14 (dk_at dksX4_init_6 12 rfl rfl)
theorem dX4_init_154 : decode cX4_init 154 = .ok (.newarray .int, 2) := dk_188_10 (dk_at dksX4_init_6 14 rfl rfl)
theorem dX4_init_156 : decode cX4_init 156 = .ok (.putfield 62, 3) := dk_181 0 62 (dk_at dksX4_init_6 16 rfl rfl)
theorem dX4_init_159 : decode cX4_init 159 = .ok (.aload_n 0, 1) := dk_42 (dk_at dksX4_init_6 19 rfl rfl)
theorem dX4_init_160 : decode cX4_init 160 = .ok (.bipush 14, 2) := dk_16 14 (dk_at dksX4_init_6 20 rfl rfl)
theorem dX4_init_162 : decode cX4_init 162 = .ok (.newarray .int, 2) := dk_188_10 (dk_at dksX4_init_6 22 rfl rfl)
theorem dX4_init_164 : decode cX4_init 164 = .ok (.putfield 65, 3) := dk_181 0 65 (dk_at dksX4_init_7 0 rfl rfl)
theorem dX4_init_167 : decode cX4_init 167 = .ok (.aload_n 0, 1) := dk_42 (dk_at dksX4_init_7 3 rfl rfl)
theorem dX4_init_168 : decode cX4_init 168 = .ok (.bipush 20, 2) := dk_16 20 (dk_at dksX4_init_7 4 rfl rfl)
theorem dX4_init_170 : decode cX4_init 170 = .ok (.newarray .int, 2) := dk_188_10 (dk_at dksX4_init_7 6 rfl rfl)
theorem dX4_init_172 : decode cX4_init 172 = .ok (.putfield 68, 3) := dk_181 0 68 (dk_at dksX4_init_7 8 rfl rfl)
theorem dX4_init_175 : decode cX4_init 175 = .ok (.aload_n 0, 1) := dk_42 (dk_at dksX4_init_7 11 rfl rfl)
theorem dX4_init_176 : decode cX4_init 176 = .ok (.bipush 20, 2) := dk_16 20 (dk_at dksX4_init_7 12 rfl rfl)
theorem dX4_init_178 : decode cX4_init 178 = .ok (.newarray .int, 2) := dk_188_10 (dk_at dksX4_init_7 14 rfl rfl)
theorem dX4_init_180 : decode cX4_init 180 = .ok (.putfield 71, 3) := dk_181 0 71 (dk_at dksX4_init_7 16 rfl rfl)
theorem dX4_init_183 : decode cX4_init 183 = .ok (.aload_n 0, 1) := dk_42 (dk_at dksX4_init_7 19 rfl rfl)
theorem dX4_init_184 : decode cX4_init 184 = .ok (.sipush 240, 3) := dk_17 0 240 (dk_at dksX4_init_7 20 rfl rfl)
theorem dX4_init_187 : decode cX4_init 187 = .ok (.newarray .int, 2) := dk_188_10 (dk_at dksX4_init_8 0 rfl rfl)
theorem dX4_init_189 : decode cX4_init 189 = .ok (.putfield 74, 3) := dk_181 0 74 (dk_at dksX4_init_8 2 rfl rfl)
theorem dX4_init_192 : decode cX4_init 192 = .ok (.aload_n 0, 1) := dk_42 (dk_at dksX4_init_8 5 rfl rfl)
theorem dX4_init_193 : decode cX4_init 193 = .ok (.iconst 4, 1) := dk_7 (dk_at dksX4_init_8 6 rfl rfl)
theorem dX4_init_194 : decode cX4_init 194 = .ok (.newarray .int, 2) := dk_188_10 (dk_at dksX4_init_8 7 rfl rfl)
theorem dX4_init_196 : decode cX4_init 196 = .ok (.putfield 77, 3) := dk_181 0 77 (dk_at dksX4_init_8 9 rfl rfl)
theorem dX4_init_199 : decode cX4_init 199 = .ok (.aload_n 0, 1) := dk_42 (dk_at dksX4_init_8 12 rfl rfl)
theorem dX4_init_200 : decode cX4_init 200 = .ok (.sipush 2800, 3) := dk_17 10 240 (dk_at dksX4_init_8 13 rfl rfl)
theorem dX4_init_203 : decode cX4_init 203 = .ok (.newarray .int, 2) := dk_188_10 (dk_at dksX4_init_8 16 rfl rfl)
theorem dX4_init_205 : decode cX4_init 205 = .ok (.putfield 80, 3) := dk_181 0 80 (dk_at dksX4_init_8 18 rfl rfl)
theorem dX4_init_208 : decode cX4_init 208 = .ok (.aload_n 0, 1) := dk_42 (dk_at dksX4_init_8 21 rfl rfl)
theorem dX4_init_209 : decode cX4_init 209 = .ok (.sipush 950, 3) := dk_17 3 182 (dk_at dksX4_init_9 0 rfl rfl)
theorem dX4_init_212 : decode cX4_init 212 = .ok (.newarray .int, 2) := dk_188_10 (dk_at dksX4_init_9 3 rfl rfl)
theorem dX4_init_214 : decode cX4_init 214 = .ok (.putfield 83, 3) := dk_181 0 83 (dk_at dksX4_init_9 5 rfl rfl)
theorem dX4_init_217 : decode cX4_init 217 = .ok (.aload_n 0, 1) := dk_42 (dk_at dksX4_init_9 8 rfl rfl)
theorem dX4_init_218 : decode cX4_init 218 = .ok (.bipush 9, 2) := dk_16 9 (dk_at dksX4_init_9 9 rfl rfl)
theorem dX4_init_220 : decode cX4_init 220 = .ok (.newarray .boolean, 2) := dk_188_4 (dk_at dksX4_init_9 11 rfl rfl)
theorem dX4_init_222 : decode cX4_init 222 = .ok (.putfield 86, 3) := dk_181 0 86 (dk_at dksX4_init_9 13 rfl rfl)
theorem dX4_init_225 : decode cX4_init 225 = .ok (.aload_n 0, 1) := dk_42 (dk_at dksX4_init_9 16 rfl rfl)
theorem dX4_init_226 : decode cX4_init 226 = .ok (.bipush 16, 2) := dk_16 16 (dk_at dksX4_init_9 17 rfl rfl)
theorem dX4_init_228 : decode cX4_init 228 = .ok (.newarray .int, 2) := dk_188_10 (dk_at dksX4_init_9 19 rfl rfl)
theorem dX4_init_230 : decode cX4_init 230 = .ok (.putfield 90, 3) := dk_181 0 90 (dk_at dksX4_init_9 21 rfl rfl)
theorem dX4_init_233 : decode cX4_init 233 = .ok (.aload_n 0, 1) := dk_42 (dk_at dksX4_init_10 0 rfl rfl)
theorem dX4_init_234 : decode cX4_init 234 = .ok (.bipush 16, 2) := dk_16 16 (dk_at dksX4_init_10 1 rfl rfl)
theorem dX4_init_236 : decode cX4_init 236 = .ok (.newarray .int, 2) := dk_188_10 (dk_at dksX4_init_10 3 rfl rfl)
theorem dX4_init_238 : decode cX4_init 238 = .ok (.putfield 93, 3) := dk_181 0 93 (dk_at dksX4_init_10 5 rfl rfl)
theorem dX4_init_241 : decode cX4_init 241 = .ok (.aload_n 0, 1) := dk_42 (dk_at dksX4_init_10 8 rfl rfl)
theorem dX4_init_242 : decode cX4_init 242 = .ok (.sipush 640, 3) := dk_17 2 128 (dk_at dksX4_init_10 9 rfl rfl)
theorem dX4_init_245 : decode cX4_init 245 = .ok (.newarray .int, 2) := dk_188_10 (dk_at dksX4_init_10 12 rfl rfl)
theorem dX4_init_247 : decode cX4_init 247 = .ok (.putfield 96, 3) := dk_181 0 96 (dk_at dksX4_init_10 14 rfl rfl)
theorem dX4_init_250 : decode cX4_init 250 = .ok (.aload_n 0, 1) := dk_42 (dk_at dksX4_init_10 17 rfl rfl)
theorem dX4_init_251 : decode cX4_init 251 = .ok (.bipush 10, 2) := dk_16 10 (dk_at dksX4_init_10 18 rfl rfl)
theorem dX4_init_253 : decode cX4_init 253 = .ok (.newarray .int, 2) := dk_188_10 (dk_at dksX4_init_10 20 rfl rfl)
theorem dX4_init_255 : decode cX4_init 255 = .ok (.putfield 99, 3) := dk_181 0 99 (dk_at dksX4_init_11 0 rfl rfl)
theorem dX4_init_258 : decode cX4_init 258 = .ok (.aload_n 0, 1) := dk_42 (dk_at dksX4_init_11 3 rfl rfl)
theorem dX4_init_259 : decode cX4_init 259 = .ok (.sipush 950, 3) := dk_17 3 182 (dk_at dksX4_init_11 4 rfl rfl)
theorem dX4_init_262 : decode cX4_init 262 = .ok (.newarray .int, 2) := dk_188_10 (dk_at dksX4_init_11 7 rfl rfl)
theorem dX4_init_264 : decode cX4_init 264 = .ok (.putfield 102, 3) := dk_181 0 102 (dk_at dksX4_init_11 9 rfl rfl)
theorem dX4_init_267 : decode cX4_init 267 = .ok (.aload_n 0, 1) := dk_42 (dk_at dksX4_init_11 12 rfl rfl)
theorem dX4_init_268 : decode cX4_init 268 = .ok (.bipush 24, 2) := dk_16 24 (dk_at dksX4_init_11 13 rfl rfl)
theorem dX4_init_270 : decode cX4_init 270 = .ok (.newarray .int, 2) := dk_188_10 (dk_at dksX4_init_11 15 rfl rfl)
theorem dX4_init_272 : decode cX4_init 272 = .ok (.putfield 105, 3) := dk_181 0 105 (dk_at dksX4_init_11 17 rfl rfl)
theorem dX4_init_275 : decode cX4_init 275 = .ok (.aload_n 0, 1) := dk_42 (dk_at dksX4_init_11 20 rfl rfl)
theorem dX4_init_276 : decode cX4_init 276 = .ok (.bipush 8, 2) := dk_16 8 (dk_at dksX4_init_11 21 rfl rfl)
theorem dX4_init_278 : decode cX4_init 278 = .ok (.newarray .int, 2) := dk_188_10 (dk_at dksX4_init_12 0 rfl rfl)
theorem dX4_init_280 : decode cX4_init 280 = .ok (.putfield 108, 3) := dk_181 0 108 (dk_at dksX4_init_12 2 rfl rfl)
theorem dX4_init_283 : decode cX4_init 283 = .ok (.aload_n 0, 1) := dk_42 (dk_at dksX4_init_12 5 rfl rfl)
theorem dX4_init_284 : decode cX4_init 284 = .ok (.bipush 16, 2) := dk_16 16 (dk_at dksX4_init_12 6 rfl rfl)
theorem dX4_init_286 : decode cX4_init 286 = .ok (.newarray .int, 2) := dk_188_10 (dk_at dksX4_init_12 8 rfl rfl)
theorem dX4_init_288 : decode cX4_init 288 = .ok (.putfield 111, 3) := dk_181 0 111 (dk_at dksX4_init_12 10 rfl rfl)
theorem dX4_init_291 : decode cX4_init 291 = .ok (.aload_n 0, 1) := dk_42 (dk_at dksX4_init_12 13 rfl rfl)
theorem dX4_init_292 : decode cX4_init 292 = .ok (.sipush 640, 3) := dk_17 2 128 (dk_at dksX4_init_12 14 rfl rfl)
theorem dX4_init_295 : decode cX4_init 295 = .ok (.newarray .int, 2) := dk_188_10 (dk_at dksX4_init_12 17 rfl rfl)
theorem dX4_init_297 : decode cX4_init 297 = .ok (.putfield 114, 3) := dk_181 0 114 (dk_at dksX4_init_12 19 rfl rfl)
theorem dX4_init_300 : decode cX4_init 300 = .ok (.aload_n 0, 1) := dk_42 (dk_at dksX4_init_12 22 rfl rfl)
theorem dX4_init_301 : decode cX4_init 301 = .ok (.bipush 24, 2) := dk_16 24 (dk_at dksX4_init_13 0 rfl rfl)
theorem dX4_init_303 : decode cX4_init 303 = .ok (.newarray .int, 2) := dk_188_10 (dk_at dksX4_init_13 2 rfl rfl)
theorem dX4_init_305 : decode cX4_init 305 = .ok (.putfield 117, 3) := dk_181 0 117 (dk_at dksX4_init_13 4 rfl rfl)
theorem dX4_init_308 : decode cX4_init 308 = .ok (.return_, 1) := dk_177 (dk_at dksX4_init_13 7 rfl rfl)
abbrev cX4_thrown : ByteArray := prog_14_method_2_code
def yX4_thrown : MethodName := ⟨RX4, "thrown", "()I"⟩
theorem dX4_thrown_0 : decode cX4_thrown 0 = .ok (.aload_n 0, 1) := by decide +kernel
theorem dX4_thrown_1 : decode cX4_thrown 1 = .ok (.getfield 120, 3) := by decide +kernel
theorem dX4_thrown_4 : decode cX4_thrown 4 = .ok (.ireturn, 1) := by decide +kernel
abbrev cX4_feed : ByteArray := prog_14_method_7_code
def yX4_feed : MethodName := ⟨RX4, "feed", "(IIIII)I"⟩
def dkwX4_feed_2 : List UInt8 := [182, 0, 126, 42, 180, 0, 123, 172]
abbrev dktX4_feed_2 : List UInt8 := dkwX4_feed_2 ++ []
def dkwX4_feed_1 : List UInt8 := [182, 0, 126, 42, 28, 182, 0, 126, 42, 29, 182, 0, 126, 42, 21, 4, 182, 0, 126, 42, 21, 5]
abbrev dktX4_feed_1 : List UInt8 := dkwX4_feed_1 ++ dktX4_feed_2
def dkwX4_feed_0 : List UInt8 := [42, 3, 181, 0, 120, 42, 180, 0, 123, 16, 20, 96, 17, 2, 188, 164, 0, 5, 2, 172, 42, 27]
abbrev dktX4_feed_0 : List UInt8 := dkwX4_feed_0 ++ dktX4_feed_1
theorem dksX4_feed_0 : cX4_feed.data.toList.drop 0 = dktX4_feed_0 := by decide +kernel
theorem dksX4_feed_1 : cX4_feed.data.toList.drop 22 = dktX4_feed_1 := dk_seg dksX4_feed_0 22 rfl rfl
theorem dksX4_feed_2 : cX4_feed.data.toList.drop 44 = dktX4_feed_2 := dk_seg dksX4_feed_1 22 rfl rfl
theorem dX4_feed_0 : decode cX4_feed 0 = .ok (.aload_n 0, 1) := dk_42 (dk_at dksX4_feed_0 0 rfl rfl)
theorem dX4_feed_1 : decode cX4_feed 1 = .ok (.iconst 0, 1) := dk_3 (dk_at dksX4_feed_0 1 rfl rfl)
theorem dX4_feed_2 : decode cX4_feed 2 = .ok (.putfield 120, 3) := dk_181 0 120 (dk_at dksX4_feed_0 2 rfl rfl)
theorem dX4_feed_5 : decode cX4_feed 5 = .ok (.aload_n 0, 1) := dk_42 (dk_at dksX4_feed_0 5 rfl rfl)
theorem dX4_feed_6 : decode cX4_feed 6 = .ok (.getfield 123, 3) := dk_180 0 123 (dk_at dksX4_feed_0 6 rfl rfl)
theorem dX4_feed_9 : decode cX4_feed 9 = .ok (.bipush 20, 2) := dk_16 20 (dk_at dksX4_feed_0 9 rfl rfl)
theorem dX4_feed_11 : decode cX4_feed 11 = .ok (.iadd, 1) := dk_96 (dk_at dksX4_feed_0 11 rfl rfl)
theorem dX4_feed_12 : decode cX4_feed 12 = .ok (.sipush 700, 3) := dk_17 2 188 (dk_at dksX4_feed_0 12 rfl rfl)
theorem dX4_feed_15 : decode cX4_feed 15 = .ok (.if_icmp .le 5, 3) := dk_164 0 5 (dk_at dksX4_feed_0 15 rfl rfl)
theorem dX4_feed_18 : decode cX4_feed 18 = .ok (.iconst (-1), 1) := dk_2 (dk_at dksX4_feed_0 18 rfl rfl)
theorem dX4_feed_19 : decode cX4_feed 19 = .ok (.ireturn, 1) := dk_172 (dk_at dksX4_feed_0 19 rfl rfl)
theorem dX4_feed_20 : decode cX4_feed 20 = .ok (.aload_n 0, 1) := dk_42 (dk_at dksX4_feed_0 20 rfl rfl)
theorem dX4_feed_21 : decode cX4_feed 21 = .ok (.iload_n 1, 1) := dk_27 (dk_at dksX4_feed_0 21 rfl rfl)
theorem dX4_feed_22 : decode cX4_feed 22 = .ok (.invokevirtual 126, 3) := dk_182 0 126 (dk_at dksX4_feed_1 0 rfl rfl)
theorem dX4_feed_25 : decode cX4_feed 25 = .ok (.aload_n 0, 1) := dk_42 (dk_at dksX4_feed_1 3 rfl rfl)
theorem dX4_feed_26 : decode cX4_feed 26 = .ok (.iload_n 2, 1) := dk_28 (dk_at dksX4_feed_1 4 rfl rfl)
theorem dX4_feed_27 : decode cX4_feed 27 = .ok (.invokevirtual 126, 3) := dk_182 0 126 (dk_at dksX4_feed_1 5 rfl rfl)
theorem dX4_feed_30 : decode cX4_feed 30 = .ok (.aload_n 0, 1) := dk_42 (dk_at dksX4_feed_1 8 rfl rfl)
theorem dX4_feed_31 : decode cX4_feed 31 = .ok (.iload_n 3, 1) := dk_29 (dk_at dksX4_feed_1 9 rfl rfl)
theorem dX4_feed_32 : decode cX4_feed 32 = .ok (.invokevirtual 126, 3) := dk_182 0 126 (dk_at dksX4_feed_1 10 rfl rfl)
theorem dX4_feed_35 : decode cX4_feed 35 = .ok (.aload_n 0, 1) := dk_42 (dk_at dksX4_feed_1 13 rfl rfl)
theorem dX4_feed_36 : decode cX4_feed 36 = .ok (.iload 4, 2) := dk_21 4 (dk_at dksX4_feed_1 14 rfl rfl)
theorem dX4_feed_38 : decode cX4_feed 38 = .ok (.invokevirtual 126, 3) := dk_182 0 126 (dk_at dksX4_feed_1 16 rfl rfl)
theorem dX4_feed_41 : decode cX4_feed 41 = .ok (.aload_n 0, 1) := dk_42 (dk_at dksX4_feed_1 19 rfl rfl)
theorem dX4_feed_42 : decode cX4_feed 42 = .ok (.iload 5, 2) := dk_21 5 (dk_at dksX4_feed_1 20 rfl rfl)
theorem dX4_feed_44 : decode cX4_feed 44 = .ok (.invokevirtual 126, 3) := dk_182 0 126 (dk_at dksX4_feed_2 0 rfl rfl)
theorem dX4_feed_47 : decode cX4_feed 47 = .ok (.aload_n 0, 1) := dk_42 (dk_at dksX4_feed_2 3 rfl rfl)
theorem dX4_feed_48 : decode cX4_feed 48 = .ok (.getfield 123, 3) := dk_180 0 123 (dk_at dksX4_feed_2 4 rfl rfl)
theorem dX4_feed_51 : decode cX4_feed 51 = .ok (.ireturn, 1) := dk_172 (dk_at dksX4_feed_2 7 rfl rfl)
abbrev cX4_lays : ByteArray := prog_14_method_8_code
def yX4_lays : MethodName := ⟨RX4, "lays", "(I)V"⟩
def dkwX4_lays_1 : List UInt8 := [89, 180, 0, 123, 4, 96, 181, 0, 123, 132, 2, 248, 167, 255, 223, 177]
abbrev dktX4_lays_1 : List UInt8 := dkwX4_lays_1 ++ []
def dkwX4_lays_0 : List UInt8 := [16, 24, 61, 28, 155, 0, 35, 42, 180, 0, 44, 42, 180, 0, 123, 27, 28, 122, 17, 0, 255, 126, 79, 42]
abbrev dktX4_lays_0 : List UInt8 := dkwX4_lays_0 ++ dktX4_lays_1
theorem dksX4_lays_0 : cX4_lays.data.toList.drop 0 = dktX4_lays_0 := by decide +kernel
theorem dksX4_lays_1 : cX4_lays.data.toList.drop 24 = dktX4_lays_1 := dk_seg dksX4_lays_0 24 rfl rfl
theorem dX4_lays_0 : decode cX4_lays 0 = .ok (.bipush 24, 2) := dk_16 24 (dk_at dksX4_lays_0 0 rfl rfl)
theorem dX4_lays_2 : decode cX4_lays 2 = .ok (.istore_n 2, 1) := dk_61 (dk_at dksX4_lays_0 2 rfl rfl)
theorem dX4_lays_3 : decode cX4_lays 3 = .ok (.iload_n 2, 1) := dk_28 (dk_at dksX4_lays_0 3 rfl rfl)
theorem dX4_lays_4 : decode cX4_lays 4 = .ok (.ifCond .lt 35, 3) := dk_155 0 35 (dk_at dksX4_lays_0 4 rfl rfl)
theorem dX4_lays_7 : decode cX4_lays 7 = .ok (.aload_n 0, 1) := dk_42 (dk_at dksX4_lays_0 7 rfl rfl)
theorem dX4_lays_8 : decode cX4_lays 8 = .ok (.getfield 44, 3) := dk_180 0 44 (dk_at dksX4_lays_0 8 rfl rfl)
theorem dX4_lays_11 : decode cX4_lays 11 = .ok (.aload_n 0, 1) := dk_42 (dk_at dksX4_lays_0 11 rfl rfl)
theorem dX4_lays_12 : decode cX4_lays 12 = .ok (.getfield 123, 3) := dk_180 0 123 (dk_at dksX4_lays_0 12 rfl rfl)
theorem dX4_lays_15 : decode cX4_lays 15 = .ok (.iload_n 1, 1) := dk_27 (dk_at dksX4_lays_0 15 rfl rfl)
theorem dX4_lays_16 : decode cX4_lays 16 = .ok (.iload_n 2, 1) := dk_28 (dk_at dksX4_lays_0 16 rfl rfl)
theorem dX4_lays_17 : decode cX4_lays 17 = .ok (.ishr, 1) := dk_122 (dk_at dksX4_lays_0 17 rfl rfl)
theorem dX4_lays_18 : decode cX4_lays 18 = .ok (.sipush 255, 3) := dk_17 0 255 (dk_at dksX4_lays_0 18 rfl rfl)
theorem dX4_lays_21 : decode cX4_lays 21 = .ok (.iand, 1) := dk_126 (dk_at dksX4_lays_0 21 rfl rfl)
theorem dX4_lays_22 : decode cX4_lays 22 = .ok (.iastore, 1) := dk_79 (dk_at dksX4_lays_0 22 rfl rfl)
theorem dX4_lays_23 : decode cX4_lays 23 = .ok (.aload_n 0, 1) := dk_42 (dk_at dksX4_lays_0 23 rfl rfl)
theorem dX4_lays_24 : decode cX4_lays 24 = .ok (.dup, 1) := dk_89 (dk_at dksX4_lays_1 0 rfl rfl)
theorem dX4_lays_25 : decode cX4_lays 25 = .ok (.getfield 123, 3) := dk_180 0 123 (dk_at dksX4_lays_1 1 rfl rfl)
theorem dX4_lays_28 : decode cX4_lays 28 = .ok (.iconst 1, 1) := dk_4 (dk_at dksX4_lays_1 4 rfl rfl)
theorem dX4_lays_29 : decode cX4_lays 29 = .ok (.iadd, 1) := dk_96 (dk_at dksX4_lays_1 5 rfl rfl)
theorem dX4_lays_30 : decode cX4_lays 30 = .ok (.putfield 123, 3) := dk_181 0 123 (dk_at dksX4_lays_1 6 rfl rfl)
theorem dX4_lays_33 : decode cX4_lays 33 = .ok (.iinc 2 (-8), 3) := dk_132 2 248 (dk_at dksX4_lays_1 9 rfl rfl)
theorem dX4_lays_36 : decode cX4_lays 36 = .ok (.goto (-33), 3) := dk_167 255 223 (dk_at dksX4_lays_1 12 rfl rfl)
theorem dX4_lays_39 : decode cX4_lays 39 = .ok (.return_, 1) := dk_177 (dk_at dksX4_lays_1 15 rfl rfl)
abbrev cX4_valley : ByteArray := prog_14_method_36_code
def yX4_valley : MethodName := ⟨RX4, "valley", "(I)I"⟩
def dkwX4_valley_14 : List UInt8 := [79, 132, 2, 1, 167, 255, 240, 42, 3, 181, 1, 31, 42, 3, 181, 1, 34, 42, 3, 181, 1, 37, 3, 172]
abbrev dktX4_valley_14 : List UInt8 := dkwX4_valley_14 ++ []
def dkwX4_valley_13 : List UInt8 := [180, 0, 80, 42, 180, 0, 41, 182, 1, 27, 3, 61, 28, 16, 16, 162, 0, 16, 42, 180, 0, 90, 28, 3]
abbrev dktX4_valley_13 : List UInt8 := dkwX4_valley_13 ++ dktX4_valley_14
def dkwX4_valley_12 : List UInt8 := [180, 0, 74, 42, 180, 0, 35, 182, 1, 27, 42, 42, 180, 0, 77, 42, 180, 0, 38, 182, 1, 27, 42, 42]
abbrev dktX4_valley_12 : List UInt8 := dkwX4_valley_12 ++ dktX4_valley_13
def dkwX4_valley_11 : List UInt8 := [180, 0, 68, 42, 180, 0, 29, 182, 1, 27, 42, 42, 180, 0, 71, 42, 180, 0, 32, 182, 1, 27, 42, 42]
abbrev dktX4_valley_11 : List UInt8 := dkwX4_valley_11 ++ dktX4_valley_12
def dkwX4_valley_10 : List UInt8 := [180, 0, 62, 42, 180, 0, 23, 182, 1, 27, 42, 42, 180, 0, 65, 42, 180, 0, 26, 182, 1, 27, 42, 42]
abbrev dktX4_valley_10 : List UInt8 := dkwX4_valley_10 ++ dktX4_valley_11
def dkwX4_valley_9 : List UInt8 := [180, 0, 56, 42, 180, 0, 17, 182, 1, 27, 42, 42, 180, 0, 59, 42, 180, 0, 20, 182, 1, 27, 42, 42]
abbrev dktX4_valley_9 : List UInt8 := dkwX4_valley_9 ++ dktX4_valley_10
def dkwX4_valley_8 : List UInt8 := [167, 0, 7, 42, 180, 1, 5, 181, 0, 7, 42, 42, 180, 0, 53, 42, 180, 0, 13, 182, 1, 27, 42, 42]
abbrev dktX4_valley_8 : List UInt8 := dkwX4_valley_8 ++ dktX4_valley_9
def dkwX4_valley_7 : List UInt8 := [180, 0, 241, 181, 1, 21, 42, 42, 180, 0, 248, 181, 1, 24, 42, 42, 180, 1, 5, 2, 160, 0, 7, 7]
abbrev dktX4_valley_7 : List UInt8 := dkwX4_valley_7 ++ dktX4_valley_8
def dkwX4_valley_6 : List UInt8 := [42, 182, 0, 179, 154, 0, 18, 42, 180, 0, 50, 3, 92, 46, 4, 96, 79, 42, 180, 0, 176, 172, 42, 42]
abbrev dktX4_valley_6 : List UInt8 := dkwX4_valley_6 ++ dktX4_valley_7
def dkwX4_valley_5 : List UInt8 := [182, 0, 183, 42, 182, 0, 179, 153, 0, 17, 42, 180, 0, 153, 153, 0, 10, 42, 182, 1, 18, 167, 255, 238]
abbrev dktX4_valley_5 : List UInt8 := dkwX4_valley_5 ++ dktX4_valley_6
def dkwX4_valley_4 : List UInt8 := [167, 255, 240, 3, 61, 28, 7, 162, 0, 16, 42, 180, 0, 77, 28, 2, 79, 132, 2, 1, 167, 255, 241, 42]
abbrev dktX4_valley_4 : List UInt8 := dkwX4_valley_4 ++ dktX4_valley_5
def dkwX4_valley_3 : List UInt8 := [42, 3, 181, 0, 189, 3, 61, 28, 16, 20, 162, 0, 16, 42, 180, 0, 68, 28, 3, 79, 132, 2, 1]
abbrev dktX4_valley_3 : List UInt8 := dkwX4_valley_3 ++ dktX4_valley_4
def dkwX4_valley_2 : List UInt8 := [27, 181, 0, 130, 42, 3, 181, 0, 133, 42, 3, 181, 0, 241, 42, 3, 181, 0, 248, 42, 2, 181, 1, 5]
abbrev dktX4_valley_2 : List UInt8 := dkwX4_valley_2 ++ dktX4_valley_3
def dkwX4_valley_1 : List UInt8 := [182, 1, 14, 154, 0, 5, 3, 172, 42, 3, 181, 0, 123, 42, 2, 181, 0, 47, 42, 3, 181, 0, 176, 42]
abbrev dktX4_valley_1 : List UInt8 := dkwX4_valley_1 ++ dktX4_valley_2
def dkwX4_valley_0 : List UInt8 := [42, 3, 181, 0, 120, 42, 27, 155, 0, 15, 27, 42, 180, 0, 123, 163, 0, 7, 4, 167, 0, 4, 3, 4]
abbrev dktX4_valley_0 : List UInt8 := dkwX4_valley_0 ++ dktX4_valley_1
theorem dksX4_valley_0 : cX4_valley.data.toList.drop 0 = dktX4_valley_0 := by decide +kernel
theorem dksX4_valley_1 : cX4_valley.data.toList.drop 24 = dktX4_valley_1 := dk_seg dksX4_valley_0 24 rfl rfl
theorem dksX4_valley_2 : cX4_valley.data.toList.drop 48 = dktX4_valley_2 := dk_seg dksX4_valley_1 24 rfl rfl
theorem dksX4_valley_3 : cX4_valley.data.toList.drop 72 = dktX4_valley_3 := dk_seg dksX4_valley_2 24 rfl rfl
theorem dksX4_valley_4 : cX4_valley.data.toList.drop 95 = dktX4_valley_4 := dk_seg dksX4_valley_3 23 rfl rfl
theorem dksX4_valley_5 : cX4_valley.data.toList.drop 119 = dktX4_valley_5 := dk_seg dksX4_valley_4 24 rfl rfl
theorem dksX4_valley_6 : cX4_valley.data.toList.drop 143 = dktX4_valley_6 := dk_seg dksX4_valley_5 24 rfl rfl
theorem dksX4_valley_7 : cX4_valley.data.toList.drop 167 = dktX4_valley_7 := dk_seg dksX4_valley_6 24 rfl rfl
theorem dksX4_valley_8 : cX4_valley.data.toList.drop 191 = dktX4_valley_8 := dk_seg dksX4_valley_7 24 rfl rfl
theorem dksX4_valley_9 : cX4_valley.data.toList.drop 215 = dktX4_valley_9 := dk_seg dksX4_valley_8 24 rfl rfl
theorem dksX4_valley_10 : cX4_valley.data.toList.drop 239 = dktX4_valley_10 := dk_seg dksX4_valley_9 24 rfl rfl
theorem dksX4_valley_11 : cX4_valley.data.toList.drop 263 = dktX4_valley_11 := dk_seg dksX4_valley_10 24 rfl rfl
theorem dksX4_valley_12 : cX4_valley.data.toList.drop 287 = dktX4_valley_12 := dk_seg dksX4_valley_11 24 rfl rfl
theorem dksX4_valley_13 : cX4_valley.data.toList.drop 311 = dktX4_valley_13 := dk_seg dksX4_valley_12 24 rfl rfl
theorem dksX4_valley_14 : cX4_valley.data.toList.drop 335 = dktX4_valley_14 := dk_seg dksX4_valley_13 24 rfl rfl
theorem dX4_valley_0 : decode cX4_valley 0 = .ok (.aload_n 0, 1) := dk_42 (dk_at dksX4_valley_0 0 rfl rfl)
theorem dX4_valley_1 : decode cX4_valley 1 = .ok (.iconst 0, 1) := dk_3 (dk_at dksX4_valley_0 1 rfl rfl)
theorem dX4_valley_2 : decode cX4_valley 2 = .ok (.putfield 120, 3) := dk_181 0 120 (dk_at dksX4_valley_0 2 rfl rfl)
theorem dX4_valley_5 : decode cX4_valley 5 = .ok (.aload_n 0, 1) := dk_42 (dk_at dksX4_valley_0 5 rfl rfl)
theorem dX4_valley_6 : decode cX4_valley 6 = .ok (.iload_n 1, 1) := dk_27 (dk_at dksX4_valley_0 6 rfl rfl)
theorem dX4_valley_7 : decode cX4_valley 7 = .ok (.ifCond .lt 15, 3) := dk_155 0 15 (dk_at dksX4_valley_0 7 rfl rfl)
theorem dX4_valley_10 : decode cX4_valley 10 = .ok (.iload_n 1, 1) := dk_27 (dk_at dksX4_valley_0 10 rfl rfl)
theorem dX4_valley_11 : decode cX4_valley 11 = .ok (.aload_n 0, 1) := dk_42 (dk_at dksX4_valley_0 11 rfl rfl)
theorem dX4_valley_12 : decode cX4_valley 12 = .ok (.getfield 123, 3) := dk_180 0 123 (dk_at dksX4_valley_0 12 rfl rfl)
theorem dX4_valley_15 : decode cX4_valley 15 = .ok (.if_icmp .gt 7, 3) := dk_163 0 7 (dk_at dksX4_valley_0 15 rfl rfl)
theorem dX4_valley_18 : decode cX4_valley 18 = .ok (.iconst 1, 1) := dk_4 (dk_at dksX4_valley_0 18 rfl rfl)
theorem dX4_valley_19 : decode cX4_valley 19 = .ok (.goto 4, 3) := dk_167 0 4 (dk_at dksX4_valley_0 19 rfl rfl)
theorem dX4_valley_22 : decode cX4_valley 22 = .ok (.iconst 0, 1) := dk_3 (dk_at dksX4_valley_0 22 rfl rfl)
theorem dX4_valley_23 : decode cX4_valley 23 = .ok (.iconst 1, 1) := dk_4 (dk_at dksX4_valley_0 23 rfl rfl)
theorem dX4_valley_24 : decode cX4_valley 24 = .ok (.invokevirtual 270, 3) := dk_182 1 14 (dk_at dksX4_valley_1 0 rfl rfl)
theorem dX4_valley_27 : decode cX4_valley 27 = .ok (.ifCond .ne 5, 3) := dk_154 0 5 (dk_at dksX4_valley_1 3 rfl rfl)
theorem dX4_valley_30 : decode cX4_valley 30 = .ok (.iconst 0, 1) := dk_3 (dk_at dksX4_valley_1 6 rfl rfl)
theorem dX4_valley_31 : decode cX4_valley 31 = .ok (.ireturn, 1) := dk_172 (dk_at dksX4_valley_1 7 rfl rfl)
theorem dX4_valley_32 : decode cX4_valley 32 = .ok (.aload_n 0, 1) := dk_42 (dk_at dksX4_valley_1 8 rfl rfl)
theorem dX4_valley_33 : decode cX4_valley 33 = .ok (.iconst 0, 1) := dk_3 (dk_at dksX4_valley_1 9 rfl rfl)
theorem dX4_valley_34 : decode cX4_valley 34 = .ok (.putfield 123, 3) := dk_181 0 123 (dk_at dksX4_valley_1 10 rfl rfl)
theorem dX4_valley_37 : decode cX4_valley 37 = .ok (.aload_n 0, 1) := dk_42 (dk_at dksX4_valley_1 13 rfl rfl)
theorem dX4_valley_38 : decode cX4_valley 38 = .ok (.iconst (-1), 1) := dk_2 (dk_at dksX4_valley_1 14 rfl rfl)
theorem dX4_valley_39 : decode cX4_valley 39 = .ok (.putfield 47, 3) := dk_181 0 47 (dk_at dksX4_valley_1 15 rfl rfl)
theorem dX4_valley_42 : decode cX4_valley 42 = .ok (.aload_n 0, 1) := dk_42 (dk_at dksX4_valley_1 18 rfl rfl)
theorem dX4_valley_43 : decode cX4_valley 43 = .ok (.iconst 0, 1) := dk_3 (dk_at dksX4_valley_1 19 rfl rfl)
theorem dX4_valley_44 : decode cX4_valley 44 = .ok (.putfield 176, 3) := dk_181 0 176 (dk_at dksX4_valley_1 20 rfl rfl)
theorem dX4_valley_47 : decode cX4_valley 47 = .ok (.aload_n 0, 1) := dk_42 (dk_at dksX4_valley_1 23 rfl rfl)
theorem dX4_valley_48 : decode cX4_valley 48 = .ok (.iload_n 1, 1) := dk_27 (dk_at dksX4_valley_2 0 rfl rfl)
theorem dX4_valley_49 : decode cX4_valley 49 = .ok (.putfield 130, 3) := dk_181 0 130 (dk_at dksX4_valley_2 1 rfl rfl)
theorem dX4_valley_52 : decode cX4_valley 52 = .ok (.aload_n 0, 1) := dk_42 (dk_at dksX4_valley_2 4 rfl rfl)
theorem dX4_valley_53 : decode cX4_valley 53 = .ok (.iconst 0, 1) := dk_3 (dk_at dksX4_valley_2 5 rfl rfl)
theorem dX4_valley_54 : decode cX4_valley 54 = .ok (.putfield 133, 3) := dk_181 0 133 (dk_at dksX4_valley_2 6 rfl rfl)
theorem dX4_valley_57 : decode cX4_valley 57 = .ok (.aload_n 0, 1) := dk_42 (dk_at dksX4_valley_2 9 rfl rfl)
theorem dX4_valley_58 : decode cX4_valley 58 = .ok (.iconst 0, 1) := dk_3 (dk_at dksX4_valley_2 10 rfl rfl)
theorem dX4_valley_59 : decode cX4_valley 59 = .ok (.putfield 241, 3) := dk_181 0 241 (dk_at dksX4_valley_2 11 rfl rfl)
theorem dX4_valley_62 : decode cX4_valley 62 = .ok (.aload_n 0, 1) := dk_42 (dk_at dksX4_valley_2 14 rfl rfl)
theorem dX4_valley_63 : decode cX4_valley 63 = .ok (.iconst 0, 1) := dk_3 (dk_at dksX4_valley_2 15 rfl rfl)
theorem dX4_valley_64 : decode cX4_valley 64 = .ok (.putfield 248, 3) := dk_181 0 248 (dk_at dksX4_valley_2 16 rfl rfl)
theorem dX4_valley_67 : decode cX4_valley 67 = .ok (.aload_n 0, 1) := dk_42 (dk_at dksX4_valley_2 19 rfl rfl)
theorem dX4_valley_68 : decode cX4_valley 68 = .ok (.iconst (-1), 1) := dk_2 (dk_at dksX4_valley_2 20 rfl rfl)
theorem dX4_valley_69 : decode cX4_valley 69 = .ok (.putfield 261, 3) := dk_181 1 5 (dk_at dksX4_valley_2 21 rfl rfl)
theorem dX4_valley_72 : decode cX4_valley 72 = .ok (.aload_n 0, 1) := dk_42 (dk_at dksX4_valley_3 0 rfl rfl)
theorem dX4_valley_73 : decode cX4_valley 73 = .ok (.iconst 0, 1) := dk_3 (dk_at dksX4_valley_3 1 rfl rfl)
theorem dX4_valley_74 : decode cX4_valley 74 = .ok (.putfield 189, 3) := dk_181 0 189 (dk_at dksX4_valley_3 2 rfl rfl)
theorem dX4_valley_77 : decode cX4_valley 77 = .ok (.iconst 0, 1) := dk_3 (dk_at dksX4_valley_3 5 rfl rfl)
theorem dX4_valley_78 : decode cX4_valley 78 = .ok (.istore_n 2, 1) := dk_61 (dk_at dksX4_valley_3 6 rfl rfl)
theorem dX4_valley_79 : decode cX4_valley 79 = .ok (.iload_n 2, 1) := dk_28 (dk_at dksX4_valley_3 7 rfl rfl)
theorem dX4_valley_80 : decode cX4_valley 80 = .ok (.bipush 20, 2) := dk_16 20 (dk_at dksX4_valley_3 8 rfl rfl)
theorem dX4_valley_82 : decode cX4_valley 82 = .ok (.if_icmp .ge 16, 3) := dk_162 0 16 (dk_at dksX4_valley_3 10 rfl rfl)
theorem dX4_valley_85 : decode cX4_valley 85 = .ok (.aload_n 0, 1) := dk_42 (dk_at dksX4_valley_3 13 rfl rfl)
theorem dX4_valley_86 : decode cX4_valley 86 = .ok (.getfield 68, 3) := dk_180 0 68 (dk_at dksX4_valley_3 14 rfl rfl)
theorem dX4_valley_89 : decode cX4_valley 89 = .ok (.iload_n 2, 1) := dk_28 (dk_at dksX4_valley_3 17 rfl rfl)
theorem dX4_valley_90 : decode cX4_valley 90 = .ok (.iconst 0, 1) := dk_3 (dk_at dksX4_valley_3 18 rfl rfl)
theorem dX4_valley_91 : decode cX4_valley 91 = .ok (.iastore, 1) := dk_79 (dk_at dksX4_valley_3 19 rfl rfl)
theorem dX4_valley_92 : decode cX4_valley 92 = .ok (.iinc 2 1, 3) := dk_132 2 1 (dk_at dksX4_valley_3 20 rfl rfl)
theorem dX4_valley_95 : decode cX4_valley 95 = .ok (.goto (-16), 3) := dk_167 255 240 (dk_at dksX4_valley_4 0 rfl rfl)
theorem dX4_valley_98 : decode cX4_valley 98 = .ok (.iconst 0, 1) := dk_3 (dk_at dksX4_valley_4 3 rfl rfl)
theorem dX4_valley_99 : decode cX4_valley 99 = .ok (.istore_n 2, 1) := dk_61 (dk_at dksX4_valley_4 4 rfl rfl)
theorem dX4_valley_100 : decode cX4_valley 100 = .ok (.iload_n 2, 1) := dk_28 (dk_at dksX4_valley_4 5 rfl rfl)
theorem dX4_valley_101 : decode cX4_valley 101 = .ok (.iconst 4, 1) := dk_7 (dk_at dksX4_valley_4 6 rfl rfl)
theorem dX4_valley_102 : decode cX4_valley 102 = .ok (.if_icmp .ge 16, 3) := dk_162 0 16 (dk_at dksX4_valley_4 7 rfl rfl)
theorem dX4_valley_105 : decode cX4_valley 105 = .ok (.aload_n 0, 1) := dk_42 (dk_at dksX4_valley_4 10 rfl rfl)
theorem dX4_valley_106 : decode cX4_valley 106 = .ok (.getfield 77, 3) := dk_180 0 77 (dk_at dksX4_valley_4 11 rfl rfl)
theorem dX4_valley_109 : decode cX4_valley 109 = .ok (.iload_n 2, 1) := dk_28 (dk_at dksX4_valley_4 14 rfl rfl)
theorem dX4_valley_110 : decode cX4_valley 110 = .ok (.iconst (-1), 1) := dk_2 (dk_at dksX4_valley_4 15 rfl rfl)
theorem dX4_valley_111 : decode cX4_valley 111 = .ok (.iastore, 1) := dk_79 (dk_at dksX4_valley_4 16 rfl rfl)
theorem dX4_valley_112 : decode cX4_valley 112 = .ok (.iinc 2 1, 3) := dk_132 2 1 (dk_at dksX4_valley_4 17 rfl rfl)
theorem dX4_valley_115 : decode cX4_valley 115 = .ok (.goto (-15), 3) := dk_167 255 241 (dk_at dksX4_valley_4 20 rfl rfl)
theorem dX4_valley_118 : decode cX4_valley 118 = .ok (.aload_n 0, 1) := dk_42 (dk_at dksX4_valley_4 23 rfl rfl)
theorem dX4_valley_119 : decode cX4_valley 119 = .ok (.invokevirtual 183, 3) := dk_182 0 183 (dk_at dksX4_valley_5 0 rfl rfl)
theorem dX4_valley_122 : decode cX4_valley 122 = .ok (.aload_n 0, 1) := dk_42 (dk_at dksX4_valley_5 3 rfl rfl)
theorem dX4_valley_123 : decode cX4_valley 123 = .ok (.invokevirtual 179, 3) := dk_182 0 179 (dk_at dksX4_valley_5 4 rfl rfl)
theorem dX4_valley_126 : decode cX4_valley 126 = .ok (.ifCond .eq 17, 3) := dk_153 0 17 (dk_at dksX4_valley_5 7 rfl rfl)
theorem dX4_valley_129 : decode cX4_valley 129 = .ok (.aload_n 0, 1) := dk_42 (dk_at dksX4_valley_5 10 rfl rfl)
theorem dX4_valley_130 : decode cX4_valley 130 = .ok (.getfield 153, 3) := dk_180 0 153 (dk_at dksX4_valley_5 11 rfl rfl)
theorem dX4_valley_133 : decode cX4_valley 133 = .ok (.ifCond .eq 10, 3) := dk_153 0 10 (dk_at dksX4_valley_5 14 rfl rfl)
theorem dX4_valley_136 : decode cX4_valley 136 = .ok (.aload_n 0, 1) := dk_42 (dk_at dksX4_valley_5 17 rfl rfl)
theorem dX4_valley_137 : decode cX4_valley 137 = .ok (.invokevirtual 274, 3) := dk_182 1 18 (dk_at dksX4_valley_5 18 rfl rfl)
theorem dX4_valley_140 : decode cX4_valley 140 = .ok (.goto (-18), 3) := dk_167 255 238 (dk_at dksX4_valley_5 21 rfl rfl)
theorem dX4_valley_143 : decode cX4_valley 143 = .ok (.aload_n 0, 1) := dk_42 (dk_at dksX4_valley_6 0 rfl rfl)
theorem dX4_valley_144 : decode cX4_valley 144 = .ok (.invokevirtual 179, 3) := dk_182 0 179 (dk_at dksX4_valley_6 1 rfl rfl)
theorem dX4_valley_147 : decode cX4_valley 147 = .ok (.ifCond .ne 18, 3) := dk_154 0 18 (dk_at dksX4_valley_6 4 rfl rfl)
theorem dX4_valley_150 : decode cX4_valley 150 = .ok (.aload_n 0, 1) := dk_42 (dk_at dksX4_valley_6 7 rfl rfl)
theorem dX4_valley_151 : decode cX4_valley 151 = .ok (.getfield 50, 3) := dk_180 0 50 (dk_at dksX4_valley_6 8 rfl rfl)
theorem dX4_valley_154 : decode cX4_valley 154 = .ok (.iconst 0, 1) := dk_3 (dk_at dksX4_valley_6 11 rfl rfl)
theorem dX4_valley_155 : decode cX4_valley 155 = .ok (.dup2, 1) := dk_92 (dk_at dksX4_valley_6 12 rfl rfl)
theorem dX4_valley_156 : decode cX4_valley 156 = .ok (.iaload, 1) := dk_46 (dk_at dksX4_valley_6 13 rfl rfl)
theorem dX4_valley_157 : decode cX4_valley 157 = .ok (.iconst 1, 1) := dk_4 (dk_at dksX4_valley_6 14 rfl rfl)
theorem dX4_valley_158 : decode cX4_valley 158 = .ok (.iadd, 1) := dk_96 (dk_at dksX4_valley_6 15 rfl rfl)
theorem dX4_valley_159 : decode cX4_valley 159 = .ok (.iastore, 1) := dk_79 (dk_at dksX4_valley_6 16 rfl rfl)
theorem dX4_valley_160 : decode cX4_valley 160 = .ok (.aload_n 0, 1) := dk_42 (dk_at dksX4_valley_6 17 rfl rfl)
theorem dX4_valley_161 : decode cX4_valley 161 = .ok (.getfield 176, 3) := dk_180 0 176 (dk_at dksX4_valley_6 18 rfl rfl)
theorem dX4_valley_164 : decode cX4_valley 164 = .ok (.ireturn, 1) := dk_172 (dk_at dksX4_valley_6 21 rfl rfl)
theorem dX4_valley_165 : decode cX4_valley 165 = .ok (.aload_n 0, 1) := dk_42 (dk_at dksX4_valley_6 22 rfl rfl)
theorem dX4_valley_166 : decode cX4_valley 166 = .ok (.aload_n 0, 1) := dk_42 (dk_at dksX4_valley_6 23 rfl rfl)
theorem dX4_valley_167 : decode cX4_valley 167 = .ok (.getfield 241, 3) := dk_180 0 241 (dk_at dksX4_valley_7 0 rfl rfl)
theorem dX4_valley_170 : decode cX4_valley 170 = .ok (.putfield 277, 3) := dk_181 1 21 (dk_at dksX4_valley_7 3 rfl rfl)
theorem dX4_valley_173 : decode cX4_valley 173 = .ok (.aload_n 0, 1) := dk_42 (dk_at dksX4_valley_7 6 rfl rfl)
theorem dX4_valley_174 : decode cX4_valley 174 = .ok (.aload_n 0, 1) := dk_42 (dk_at dksX4_valley_7 7 rfl rfl)
theorem dX4_valley_175 : decode cX4_valley 175 = .ok (.getfield 248, 3) := dk_180 0 248 (dk_at dksX4_valley_7 8 rfl rfl)
theorem dX4_valley_178 : decode cX4_valley 178 = .ok (.putfield 280, 3) := dk_181 1 24 (dk_at dksX4_valley_7 11 rfl rfl)
theorem dX4_valley_181 : decode cX4_valley 181 = .ok (.aload_n 0, 1) := dk_42 (dk_at dksX4_valley_7 14 rfl rfl)
theorem dX4_valley_182 : decode cX4_valley 182 = .ok (.aload_n 0, 1) := dk_42 (dk_at dksX4_valley_7 15 rfl rfl)
theorem dX4_valley_183 : decode cX4_valley 183 = .ok (.getfield 261, 3) := dk_180 1 5 (dk_at dksX4_valley_7 16 rfl rfl)
theorem dX4_valley_186 : decode cX4_valley 186 = .ok (.iconst (-1), 1) := dk_2 (dk_at dksX4_valley_7 19 rfl rfl)
theorem dX4_valley_187 : decode cX4_valley 187 = .ok (.if_icmp .ne 7, 3) := dk_160 0 7 (dk_at dksX4_valley_7 20 rfl rfl)
theorem dX4_valley_190 : decode cX4_valley 190 = .ok (.iconst 4, 1) := dk_7 (dk_at dksX4_valley_7 23 rfl rfl)
theorem dX4_valley_191 : decode cX4_valley 191 = .ok (.goto 7, 3) := dk_167 0 7 (dk_at dksX4_valley_8 0 rfl rfl)
theorem dX4_valley_194 : decode cX4_valley 194 = .ok (.aload_n 0, 1) := dk_42 (dk_at dksX4_valley_8 3 rfl rfl)
theorem dX4_valley_195 : decode cX4_valley 195 = .ok (.getfield 261, 3) := dk_180 1 5 (dk_at dksX4_valley_8 4 rfl rfl)
theorem dX4_valley_198 : decode cX4_valley 198 = .ok (.putfield 7, 3) := dk_181 0 7 (dk_at dksX4_valley_8 7 rfl rfl)
theorem dX4_valley_201 : decode cX4_valley 201 = .ok (.aload_n 0, 1) := dk_42 (dk_at dksX4_valley_8 10 rfl rfl)
theorem dX4_valley_202 : decode cX4_valley 202 = .ok (.aload_n 0, 1) := dk_42 (dk_at dksX4_valley_8 11 rfl rfl)
theorem dX4_valley_203 : decode cX4_valley 203 = .ok (.getfield 53, 3) := dk_180 0 53 (dk_at dksX4_valley_8 12 rfl rfl)
theorem dX4_valley_206 : decode cX4_valley 206 = .ok (.aload_n 0, 1) := dk_42 (dk_at dksX4_valley_8 15 rfl rfl)
theorem dX4_valley_207 : decode cX4_valley 207 = .ok (.getfield 13, 3) := dk_180 0 13 (dk_at dksX4_valley_8 16 rfl rfl)
theorem dX4_valley_210 : decode cX4_valley 210 = .ok (.invokevirtual 283, 3) := dk_182 1 27 (dk_at dksX4_valley_8 19 rfl rfl)
theorem dX4_valley_213 : decode cX4_valley 213 = .ok (.aload_n 0, 1) := dk_42 (dk_at dksX4_valley_8 22 rfl rfl)
theorem dX4_valley_214 : decode cX4_valley 214 = .ok (.aload_n 0, 1) := dk_42 (dk_at dksX4_valley_8 23 rfl rfl)
theorem dX4_valley_215 : decode cX4_valley 215 = .ok (.getfield 56, 3) := dk_180 0 56 (dk_at dksX4_valley_9 0 rfl rfl)
theorem dX4_valley_218 : decode cX4_valley 218 = .ok (.aload_n 0, 1) := dk_42 (dk_at dksX4_valley_9 3 rfl rfl)
theorem dX4_valley_219 : decode cX4_valley 219 = .ok (.getfield 17, 3) := dk_180 0 17 (dk_at dksX4_valley_9 4 rfl rfl)
theorem dX4_valley_222 : decode cX4_valley 222 = .ok (.invokevirtual 283, 3) := dk_182 1 27 (dk_at dksX4_valley_9 7 rfl rfl)
theorem dX4_valley_225 : decode cX4_valley 225 = .ok (.aload_n 0, 1) := dk_42 (dk_at dksX4_valley_9 10 rfl rfl)
theorem dX4_valley_226 : decode cX4_valley 226 = .ok (.aload_n 0, 1) := dk_42 (dk_at dksX4_valley_9 11 rfl rfl)
theorem dX4_valley_227 : decode cX4_valley 227 = .ok (.getfield 59, 3) := dk_180 0 59 (dk_at dksX4_valley_9 12 rfl rfl)
theorem dX4_valley_230 : decode cX4_valley 230 = .ok (.aload_n 0, 1) := dk_42 (dk_at dksX4_valley_9 15 rfl rfl)
theorem dX4_valley_231 : decode cX4_valley 231 = .ok (.getfield 20, 3) := dk_180 0 20 (dk_at dksX4_valley_9 16 rfl rfl)
theorem dX4_valley_234 : decode cX4_valley 234 = .ok (.invokevirtual 283, 3) := dk_182 1 27 (dk_at dksX4_valley_9 19 rfl rfl)
theorem dX4_valley_237 : decode cX4_valley 237 = .ok (.aload_n 0, 1) := dk_42 (dk_at dksX4_valley_9 22 rfl rfl)
theorem dX4_valley_238 : decode cX4_valley 238 = .ok (.aload_n 0, 1) := dk_42 (dk_at dksX4_valley_9 23 rfl rfl)
theorem dX4_valley_239 : decode cX4_valley 239 = .ok (.getfield 62, 3) := dk_180 0 62 (dk_at dksX4_valley_10 0 rfl rfl)
theorem dX4_valley_242 : decode cX4_valley 242 = .ok (.aload_n 0, 1) := dk_42 (dk_at dksX4_valley_10 3 rfl rfl)
theorem dX4_valley_243 : decode cX4_valley 243 = .ok (.getfield 23, 3) := dk_180 0 23 (dk_at dksX4_valley_10 4 rfl rfl)
theorem dX4_valley_246 : decode cX4_valley 246 = .ok (.invokevirtual 283, 3) := dk_182 1 27 (dk_at dksX4_valley_10 7 rfl rfl)
theorem dX4_valley_249 : decode cX4_valley 249 = .ok (.aload_n 0, 1) := dk_42 (dk_at dksX4_valley_10 10 rfl rfl)
theorem dX4_valley_250 : decode cX4_valley 250 = .ok (.aload_n 0, 1) := dk_42 (dk_at dksX4_valley_10 11 rfl rfl)
theorem dX4_valley_251 : decode cX4_valley 251 = .ok (.getfield 65, 3) := dk_180 0 65 (dk_at dksX4_valley_10 12 rfl rfl)
theorem dX4_valley_254 : decode cX4_valley 254 = .ok (.aload_n 0, 1) := dk_42 (dk_at dksX4_valley_10 15 rfl rfl)
theorem dX4_valley_255 : decode cX4_valley 255 = .ok (.getfield 26, 3) := dk_180 0 26 (dk_at dksX4_valley_10 16 rfl rfl)
theorem dX4_valley_258 : decode cX4_valley 258 = .ok (.invokevirtual 283, 3) := dk_182 1 27 (dk_at dksX4_valley_10 19 rfl rfl)
theorem dX4_valley_261 : decode cX4_valley 261 = .ok (.aload_n 0, 1) := dk_42 (dk_at dksX4_valley_10 22 rfl rfl)
theorem dX4_valley_262 : decode cX4_valley 262 = .ok (.aload_n 0, 1) := dk_42 (dk_at dksX4_valley_10 23 rfl rfl)
theorem dX4_valley_263 : decode cX4_valley 263 = .ok (.getfield 68, 3) := dk_180 0 68 (dk_at dksX4_valley_11 0 rfl rfl)
theorem dX4_valley_266 : decode cX4_valley 266 = .ok (.aload_n 0, 1) := dk_42 (dk_at dksX4_valley_11 3 rfl rfl)
theorem dX4_valley_267 : decode cX4_valley 267 = .ok (.getfield 29, 3) := dk_180 0 29 (dk_at dksX4_valley_11 4 rfl rfl)
theorem dX4_valley_270 : decode cX4_valley 270 = .ok (.invokevirtual 283, 3) := dk_182 1 27 (dk_at dksX4_valley_11 7 rfl rfl)
theorem dX4_valley_273 : decode cX4_valley 273 = .ok (.aload_n 0, 1) := dk_42 (dk_at dksX4_valley_11 10 rfl rfl)
theorem dX4_valley_274 : decode cX4_valley 274 = .ok (.aload_n 0, 1) := dk_42 (dk_at dksX4_valley_11 11 rfl rfl)
theorem dX4_valley_275 : decode cX4_valley 275 = .ok (.getfield 71, 3) := dk_180 0 71 (dk_at dksX4_valley_11 12 rfl rfl)
theorem dX4_valley_278 : decode cX4_valley 278 = .ok (.aload_n 0, 1) := dk_42 (dk_at dksX4_valley_11 15 rfl rfl)
theorem dX4_valley_279 : decode cX4_valley 279 = .ok (.getfield 32, 3) := dk_180 0 32 (dk_at dksX4_valley_11 16 rfl rfl)
theorem dX4_valley_282 : decode cX4_valley 282 = .ok (.invokevirtual 283, 3) := dk_182 1 27 (dk_at dksX4_valley_11 19 rfl rfl)
theorem dX4_valley_285 : decode cX4_valley 285 = .ok (.aload_n 0, 1) := dk_42 (dk_at dksX4_valley_11 22 rfl rfl)
theorem dX4_valley_286 : decode cX4_valley 286 = .ok (.aload_n 0, 1) := dk_42 (dk_at dksX4_valley_11 23 rfl rfl)
theorem dX4_valley_287 : decode cX4_valley 287 = .ok (.getfield 74, 3) := dk_180 0 74 (dk_at dksX4_valley_12 0 rfl rfl)
theorem dX4_valley_290 : decode cX4_valley 290 = .ok (.aload_n 0, 1) := dk_42 (dk_at dksX4_valley_12 3 rfl rfl)
theorem dX4_valley_291 : decode cX4_valley 291 = .ok (.getfield 35, 3) := dk_180 0 35 (dk_at dksX4_valley_12 4 rfl rfl)
theorem dX4_valley_294 : decode cX4_valley 294 = .ok (.invokevirtual 283, 3) := dk_182 1 27 (dk_at dksX4_valley_12 7 rfl rfl)
theorem dX4_valley_297 : decode cX4_valley 297 = .ok (.aload_n 0, 1) := dk_42 (dk_at dksX4_valley_12 10 rfl rfl)
theorem dX4_valley_298 : decode cX4_valley 298 = .ok (.aload_n 0, 1) := dk_42 (dk_at dksX4_valley_12 11 rfl rfl)
theorem dX4_valley_299 : decode cX4_valley 299 = .ok (.getfield 77, 3) := dk_180 0 77 (dk_at dksX4_valley_12 12 rfl rfl)
theorem dX4_valley_302 : decode cX4_valley 302 = .ok (.aload_n 0, 1) := dk_42 (dk_at dksX4_valley_12 15 rfl rfl)
theorem dX4_valley_303 : decode cX4_valley 303 = .ok (.getfield 38, 3) := dk_180 0 38 (dk_at dksX4_valley_12 16 rfl rfl)
theorem dX4_valley_306 : decode cX4_valley 306 = .ok (.invokevirtual 283, 3) := dk_182 1 27 (dk_at dksX4_valley_12 19 rfl rfl)
theorem dX4_valley_309 : decode cX4_valley 309 = .ok (.aload_n 0, 1) := dk_42 (dk_at dksX4_valley_12 22 rfl rfl)
theorem dX4_valley_310 : decode cX4_valley 310 = .ok (.aload_n 0, 1) := dk_42 (dk_at dksX4_valley_12 23 rfl rfl)
theorem dX4_valley_311 : decode cX4_valley 311 = .ok (.getfield 80, 3) := dk_180 0 80 (dk_at dksX4_valley_13 0 rfl rfl)
theorem dX4_valley_314 : decode cX4_valley 314 = .ok (.aload_n 0, 1) := dk_42 (dk_at dksX4_valley_13 3 rfl rfl)
theorem dX4_valley_315 : decode cX4_valley 315 = .ok (.getfield 41, 3) := dk_180 0 41 (dk_at dksX4_valley_13 4 rfl rfl)
theorem dX4_valley_318 : decode cX4_valley 318 = .ok (.invokevirtual 283, 3) := dk_182 1 27 (dk_at dksX4_valley_13 7 rfl rfl)
theorem dX4_valley_321 : decode cX4_valley 321 = .ok (.iconst 0, 1) := dk_3 (dk_at dksX4_valley_13 10 rfl rfl)
theorem dX4_valley_322 : decode cX4_valley 322 = .ok (.istore_n 2, 1) := dk_61 (dk_at dksX4_valley_13 11 rfl rfl)
theorem dX4_valley_323 : decode cX4_valley 323 = .ok (.iload_n 2, 1) := dk_28 (dk_at dksX4_valley_13 12 rfl rfl)
theorem dX4_valley_324 : decode cX4_valley 324 = .ok (.bipush 16, 2) := dk_16 16 (dk_at dksX4_valley_13 13 rfl rfl)
theorem dX4_valley_326 : decode cX4_valley 326 = .ok (.if_icmp .ge 16, 3) := dk_162 0 16 (dk_at dksX4_valley_13 15 rfl rfl)
theorem dX4_valley_329 : decode cX4_valley 329 = .ok (.aload_n 0, 1) := dk_42 (dk_at dksX4_valley_13 18 rfl rfl)
theorem dX4_valley_330 : decode cX4_valley 330 = .ok (.getfield 90, 3) := dk_180 0 90 (dk_at dksX4_valley_13 19 rfl rfl)
theorem dX4_valley_333 : decode cX4_valley 333 = .ok (.iload_n 2, 1) := dk_28 (dk_at dksX4_valley_13 22 rfl rfl)
theorem dX4_valley_334 : decode cX4_valley 334 = .ok (.iconst 0, 1) := dk_3 (dk_at dksX4_valley_13 23 rfl rfl)
theorem dX4_valley_335 : decode cX4_valley 335 = .ok (.iastore, 1) := dk_79 (dk_at dksX4_valley_14 0 rfl rfl)
theorem dX4_valley_336 : decode cX4_valley 336 = .ok (.iinc 2 1, 3) := dk_132 2 1 (dk_at dksX4_valley_14 1 rfl rfl)
theorem dX4_valley_339 : decode cX4_valley 339 = .ok (.goto (-16), 3) := dk_167 255 240 (dk_at dksX4_valley_14 4 rfl rfl)
theorem dX4_valley_342 : decode cX4_valley 342 = .ok (.aload_n 0, 1) := dk_42 (dk_at dksX4_valley_14 7 rfl rfl)
theorem dX4_valley_343 : decode cX4_valley 343 = .ok (.iconst 0, 1) := dk_3 (dk_at dksX4_valley_14 8 rfl rfl)
theorem dX4_valley_344 : decode cX4_valley 344 = .ok (.putfield 287, 3) := dk_181 1 31 (dk_at dksX4_valley_14 9 rfl rfl)
theorem dX4_valley_347 : decode cX4_valley 347 = .ok (.aload_n 0, 1) := dk_42 (dk_at dksX4_valley_14 12 rfl rfl)
theorem dX4_valley_348 : decode cX4_valley 348 = .ok (.iconst 0, 1) := dk_3 (dk_at dksX4_valley_14 13 rfl rfl)
theorem dX4_valley_349 : decode cX4_valley 349 = .ok (.putfield 290, 3) := dk_181 1 34 (dk_at dksX4_valley_14 14 rfl rfl)
theorem dX4_valley_352 : decode cX4_valley 352 = .ok (.aload_n 0, 1) := dk_42 (dk_at dksX4_valley_14 17 rfl rfl)
theorem dX4_valley_353 : decode cX4_valley 353 = .ok (.iconst 0, 1) := dk_3 (dk_at dksX4_valley_14 18 rfl rfl)
theorem dX4_valley_354 : decode cX4_valley 354 = .ok (.putfield 293, 3) := dk_181 1 37 (dk_at dksX4_valley_14 19 rfl rfl)
theorem dX4_valley_357 : decode cX4_valley 357 = .ok (.iconst 0, 1) := dk_3 (dk_at dksX4_valley_14 22 rfl rfl)
theorem dX4_valley_358 : decode cX4_valley 358 = .ok (.ireturn, 1) := dk_172 (dk_at dksX4_valley_14 23 rfl rfl)
abbrev cX4_right : ByteArray := prog_14_method_3_code
def yX4_right : MethodName := ⟨RX4, "right", "(ZI)Z"⟩
def dkwX4_right_1 : List UInt8 := [167, 0, 4, 3, 172]
abbrev dktX4_right_1 : List UInt8 := dkwX4_right_1 ++ []
def dkwX4_right_0 : List UInt8 := [42, 180, 0, 120, 154, 0, 12, 27, 154, 0, 8, 42, 28, 181, 0, 120, 42, 180, 0, 120, 154, 0, 7, 4]
abbrev dktX4_right_0 : List UInt8 := dkwX4_right_0 ++ dktX4_right_1
theorem dksX4_right_0 : cX4_right.data.toList.drop 0 = dktX4_right_0 := by decide +kernel
theorem dksX4_right_1 : cX4_right.data.toList.drop 24 = dktX4_right_1 := dk_seg dksX4_right_0 24 rfl rfl
theorem dX4_right_0 : decode cX4_right 0 = .ok (.aload_n 0, 1) := dk_42 (dk_at dksX4_right_0 0 rfl rfl)
theorem dX4_right_1 : decode cX4_right 1 = .ok (.getfield 120, 3) := dk_180 0 120 (dk_at dksX4_right_0 1 rfl rfl)
theorem dX4_right_4 : decode cX4_right 4 = .ok (.ifCond .ne 12, 3) := dk_154 0 12 (dk_at dksX4_right_0 4 rfl rfl)
theorem dX4_right_7 : decode cX4_right 7 = .ok (.iload_n 1, 1) := dk_27 (dk_at dksX4_right_0 7 rfl rfl)
theorem dX4_right_8 : decode cX4_right 8 = .ok (.ifCond .ne 8, 3) := dk_154 0 8 (dk_at dksX4_right_0 8 rfl rfl)
theorem dX4_right_11 : decode cX4_right 11 = .ok (.aload_n 0, 1) := dk_42 (dk_at dksX4_right_0 11 rfl rfl)
theorem dX4_right_12 : decode cX4_right 12 = .ok (.iload_n 2, 1) := dk_28 (dk_at dksX4_right_0 12 rfl rfl)
theorem dX4_right_13 : decode cX4_right 13 = .ok (.putfield 120, 3) := dk_181 0 120 (dk_at dksX4_right_0 13 rfl rfl)
theorem dX4_right_16 : decode cX4_right 16 = .ok (.aload_n 0, 1) := dk_42 (dk_at dksX4_right_0 16 rfl rfl)
theorem dX4_right_17 : decode cX4_right 17 = .ok (.getfield 120, 3) := dk_180 0 120 (dk_at dksX4_right_0 17 rfl rfl)
theorem dX4_right_20 : decode cX4_right 20 = .ok (.ifCond .ne 7, 3) := dk_154 0 7 (dk_at dksX4_right_0 20 rfl rfl)
theorem dX4_right_23 : decode cX4_right 23 = .ok (.iconst 1, 1) := dk_4 (dk_at dksX4_right_0 23 rfl rfl)
theorem dX4_right_24 : decode cX4_right 24 = .ok (.goto 4, 3) := dk_167 0 4 (dk_at dksX4_right_1 0 rfl rfl)
theorem dX4_right_27 : decode cX4_right 27 = .ok (.iconst 0, 1) := dk_3 (dk_at dksX4_right_1 3 rfl rfl)
theorem dX4_right_28 : decode cX4_right 28 = .ok (.ireturn, 1) := dk_172 (dk_at dksX4_right_1 4 rfl rfl)
abbrev cX4_goes : ByteArray := prog_14_method_12_code
def yX4_goes : MethodName := ⟨RX4, "goes", "()V"⟩
def dkwX4_goes_14 : List UInt8 := [167, 0, 4, 7, 181, 0, 153, 42, 42, 180, 0, 133, 42, 180, 0, 140, 100, 181, 0, 163, 177]
abbrev dktX4_goes_14 : List UInt8 := dkwX4_goes_14 ++ []
def dkwX4_goes_13 : List UInt8 := [16, 42, 159, 0, 21, 27, 16, 47, 159, 0, 15, 27, 16, 60, 159, 0, 9, 27, 16, 61, 160, 0, 7, 6]
abbrev dktX4_goes_13 : List UInt8 := dkwX4_goes_13 ++ dktX4_goes_14
def dkwX4_goes_12 : List UInt8 := [16, 40, 159, 0, 45, 27, 16, 41, 159, 0, 39, 27, 16, 43, 159, 0, 33, 27, 16, 45, 159, 0, 27, 27]
abbrev dktX4_goes_12 : List UInt8 := dkwX4_goes_12 ++ dktX4_goes_13
def dkwX4_goes_11 : List UInt8 := [181, 0, 153, 167, 0, 76, 42, 89, 180, 0, 133, 4, 96, 181, 0, 133, 42, 27, 16, 59, 159, 0, 51, 27]
abbrev dktX4_goes_11 : List UInt8 := dkwX4_goes_11 ++ dktX4_goes_12
def dkwX4_goes_10 : List UInt8 := [96, 16, 48, 100, 181, 0, 147, 42, 89, 180, 0, 133, 4, 96, 181, 0, 133, 167, 255, 196, 42, 5]
abbrev dktX4_goes_10 : List UInt8 := dkwX4_goes_10 ++ dktX4_goes_11
def dkwX4_goes_9 : List UInt8 := [180, 0, 140, 100, 7, 162, 0, 26, 42, 16, 10, 42, 180, 0, 147, 104, 42, 42, 180, 0, 133, 182, 0, 136]
abbrev dktX4_goes_9 : List UInt8 := dkwX4_goes_9 ++ dktX4_goes_10
def dkwX4_goes_8 : List UInt8 := [153, 0, 74, 42, 42, 180, 0, 133, 182, 0, 136, 184, 0, 160, 153, 0, 52, 42, 180, 0, 133, 42]
abbrev dktX4_goes_8 : List UInt8 := dkwX4_goes_8 ++ dktX4_goes_9
def dkwX4_goes_7 : List UInt8 := [180, 0, 133, 4, 96, 181, 0, 133, 167, 255, 195, 42, 4, 181, 0, 153, 167, 0, 154, 27, 184, 0, 160]
abbrev dktX4_goes_7 : List UInt8 := dkwX4_goes_7 ++ dktX4_goes_8
def dkwX4_goes_6 : List UInt8 := [180, 0, 143, 8, 121, 42, 42, 180, 0, 133, 182, 0, 136, 16, 96, 100, 133, 129, 181, 0, 143, 42, 89]
abbrev dktX4_goes_6 : List UInt8 := dkwX4_goes_6 ++ dktX4_goes_7
def dkwX4_goes_5 : List UInt8 := [184, 0, 156, 153, 0, 53, 42, 180, 0, 133, 42, 180, 0, 140, 100, 16, 7, 162, 0, 26, 42, 42]
abbrev dktX4_goes_5 : List UInt8 := dkwX4_goes_5 ++ dktX4_goes_6
def dkwX4_goes_4 : List UInt8 := [3, 181, 0, 153, 167, 0, 233, 27, 184, 0, 156, 153, 0, 75, 42, 42, 180, 0, 133, 182, 0, 136]
abbrev dktX4_goes_4 : List UInt8 := dkwX4_goes_4 ++ dktX4_goes_5
def dkwX4_goes_3 : List UInt8 := [180, 0, 133, 182, 0, 136, 60, 42, 27, 181, 0, 150, 42, 180, 0, 133, 42, 180, 0, 130, 161, 0, 11, 42]
abbrev dktX4_goes_3 : List UInt8 := dkwX4_goes_3 ++ dktX4_goes_4
def dkwX4_goes_2 : List UInt8 := [167, 255, 209, 42, 42, 180, 0, 133, 181, 0, 140, 42, 9, 181, 0, 143, 42, 3, 181, 0, 147, 42, 42]
abbrev dktX4_goes_2 : List UInt8 := dkwX4_goes_2 ++ dktX4_goes_3
def dkwX4_goes_1 : List UInt8 := [42, 42, 180, 0, 133, 182, 0, 136, 16, 10, 160, 0, 16, 42, 89, 180, 0, 133, 4, 96, 181, 0, 133]
abbrev dktX4_goes_1 : List UInt8 := dkwX4_goes_1 ++ dktX4_goes_2
def dkwX4_goes_0 : List UInt8 := [42, 180, 0, 133, 42, 180, 0, 130, 162, 0, 42, 42, 42, 180, 0, 133, 182, 0, 136, 16, 32, 159, 0, 16]
abbrev dktX4_goes_0 : List UInt8 := dkwX4_goes_0 ++ dktX4_goes_1
theorem dksX4_goes_0 : cX4_goes.data.toList.drop 0 = dktX4_goes_0 := by decide +kernel
theorem dksX4_goes_1 : cX4_goes.data.toList.drop 24 = dktX4_goes_1 := dk_seg dksX4_goes_0 24 rfl rfl
theorem dksX4_goes_2 : cX4_goes.data.toList.drop 47 = dktX4_goes_2 := dk_seg dksX4_goes_1 23 rfl rfl
theorem dksX4_goes_3 : cX4_goes.data.toList.drop 70 = dktX4_goes_3 := dk_seg dksX4_goes_2 23 rfl rfl
theorem dksX4_goes_4 : cX4_goes.data.toList.drop 94 = dktX4_goes_4 := dk_seg dksX4_goes_3 24 rfl rfl
theorem dksX4_goes_5 : cX4_goes.data.toList.drop 116 = dktX4_goes_5 := dk_seg dksX4_goes_4 22 rfl rfl
theorem dksX4_goes_6 : cX4_goes.data.toList.drop 138 = dktX4_goes_6 := dk_seg dksX4_goes_5 22 rfl rfl
theorem dksX4_goes_7 : cX4_goes.data.toList.drop 161 = dktX4_goes_7 := dk_seg dksX4_goes_6 23 rfl rfl
theorem dksX4_goes_8 : cX4_goes.data.toList.drop 184 = dktX4_goes_8 := dk_seg dksX4_goes_7 23 rfl rfl
theorem dksX4_goes_9 : cX4_goes.data.toList.drop 206 = dktX4_goes_9 := dk_seg dksX4_goes_8 22 rfl rfl
theorem dksX4_goes_10 : cX4_goes.data.toList.drop 230 = dktX4_goes_10 := dk_seg dksX4_goes_9 24 rfl rfl
theorem dksX4_goes_11 : cX4_goes.data.toList.drop 252 = dktX4_goes_11 := dk_seg dksX4_goes_10 22 rfl rfl
theorem dksX4_goes_12 : cX4_goes.data.toList.drop 276 = dktX4_goes_12 := dk_seg dksX4_goes_11 24 rfl rfl
theorem dksX4_goes_13 : cX4_goes.data.toList.drop 300 = dktX4_goes_13 := dk_seg dksX4_goes_12 24 rfl rfl
theorem dksX4_goes_14 : cX4_goes.data.toList.drop 324 = dktX4_goes_14 := dk_seg dksX4_goes_13 24 rfl rfl
theorem dX4_goes_0 : decode cX4_goes 0 = .ok (.aload_n 0, 1) := dk_42 (dk_at dksX4_goes_0 0 rfl rfl)
theorem dX4_goes_1 : decode cX4_goes 1 = .ok (.getfield 133, 3) := dk_180 0 133 (dk_at dksX4_goes_0 1 rfl rfl)
theorem dX4_goes_4 : decode cX4_goes 4 = .ok (.aload_n 0, 1) := dk_42 (dk_at dksX4_goes_0 4 rfl rfl)
theorem dX4_goes_5 : decode cX4_goes 5 = .ok (.getfield 130, 3) := dk_180 0 130 (dk_at dksX4_goes_0 5 rfl rfl)
theorem dX4_goes_8 : decode cX4_goes 8 = .ok (.if_icmp .ge 42, 3) := dk_162 0 42 (dk_at dksX4_goes_0 8 rfl rfl)
theorem dX4_goes_11 : decode cX4_goes 11 = .ok (.aload_n 0, 1) := dk_42 (dk_at dksX4_goes_0 11 rfl rfl)
theorem dX4_goes_12 : decode cX4_goes 12 = .ok (.aload_n 0, 1) := dk_42 (dk_at dksX4_goes_0 12 rfl rfl)
theorem dX4_goes_13 : decode cX4_goes 13 = .ok (.getfield 133, 3) := dk_180 0 133 (dk_at dksX4_goes_0 13 rfl rfl)
theorem dX4_goes_16 : decode cX4_goes 16 = .ok (.invokevirtual 136, 3) := dk_182 0 136 (dk_at dksX4_goes_0 16 rfl rfl)
theorem dX4_goes_19 : decode cX4_goes 19 = .ok (.bipush 32, 2) := dk_16 32 (dk_at dksX4_goes_0 19 rfl rfl)
theorem dX4_goes_21 : decode cX4_goes 21 = .ok (.if_icmp .eq 16, 3) := dk_159 0 16 (dk_at dksX4_goes_0 21 rfl rfl)
theorem dX4_goes_24 : decode cX4_goes 24 = .ok (.aload_n 0, 1) := dk_42 (dk_at dksX4_goes_1 0 rfl rfl)
theorem dX4_goes_25 : decode cX4_goes 25 = .ok (.aload_n 0, 1) := dk_42 (dk_at dksX4_goes_1 1 rfl rfl)
theorem dX4_goes_26 : decode cX4_goes 26 = .ok (.getfield 133, 3) := dk_180 0 133 (dk_at dksX4_goes_1 2 rfl rfl)
theorem dX4_goes_29 : decode cX4_goes 29 = .ok (.invokevirtual 136, 3) := dk_182 0 136 (dk_at dksX4_goes_1 5 rfl rfl)
theorem dX4_goes_32 : decode cX4_goes 32 = .ok (.bipush 10, 2) := dk_16 10 (dk_at dksX4_goes_1 8 rfl rfl)
theorem dX4_goes_34 : decode cX4_goes 34 = .ok (.if_icmp .ne 16, 3) := dk_160 0 16 (dk_at dksX4_goes_1 10 rfl rfl)
theorem dX4_goes_37 : decode cX4_goes 37 = .ok (.aload_n 0, 1) := dk_42 (dk_at dksX4_goes_1 13 rfl rfl)
theorem dX4_goes_38 : decode cX4_goes 38 = .ok (.dup, 1) := dk_89 (dk_at dksX4_goes_1 14 rfl rfl)
theorem dX4_goes_39 : decode cX4_goes 39 = .ok (.getfield 133, 3) := dk_180 0 133 (dk_at dksX4_goes_1 15 rfl rfl)
theorem dX4_goes_42 : decode cX4_goes 42 = .ok (.iconst 1, 1) := dk_4 (dk_at dksX4_goes_1 18 rfl rfl)
theorem dX4_goes_43 : decode cX4_goes 43 = .ok (.iadd, 1) := dk_96 (dk_at dksX4_goes_1 19 rfl rfl)
theorem dX4_goes_44 : decode cX4_goes 44 = .ok (.putfield 133, 3) := dk_181 0 133 (dk_at dksX4_goes_1 20 rfl rfl)
theorem dX4_goes_47 : decode cX4_goes 47 = .ok (.goto (-47), 3) := dk_167 255 209 (dk_at dksX4_goes_2 0 rfl rfl)
theorem dX4_goes_50 : decode cX4_goes 50 = .ok (.aload_n 0, 1) := dk_42 (dk_at dksX4_goes_2 3 rfl rfl)
theorem dX4_goes_51 : decode cX4_goes 51 = .ok (.aload_n 0, 1) := dk_42 (dk_at dksX4_goes_2 4 rfl rfl)
theorem dX4_goes_52 : decode cX4_goes 52 = .ok (.getfield 133, 3) := dk_180 0 133 (dk_at dksX4_goes_2 5 rfl rfl)
theorem dX4_goes_55 : decode cX4_goes 55 = .ok (.putfield 140, 3) := dk_181 0 140 (dk_at dksX4_goes_2 8 rfl rfl)
theorem dX4_goes_58 : decode cX4_goes 58 = .ok (.aload_n 0, 1) := dk_42 (dk_at dksX4_goes_2 11 rfl rfl)
theorem dX4_goes_59 : decode cX4_goes 59 = .ok (.lconst 0, 1) := dk_9 (dk_at dksX4_goes_2 12 rfl rfl)
theorem dX4_goes_60 : decode cX4_goes 60 = .ok (.putfield 143, 3) := dk_181 0 143 (dk_at dksX4_goes_2 13 rfl rfl)
theorem dX4_goes_63 : decode cX4_goes 63 = .ok (.aload_n 0, 1) := dk_42 (dk_at dksX4_goes_2 16 rfl rfl)
theorem dX4_goes_64 : decode cX4_goes 64 = .ok (.iconst 0, 1) := dk_3 (dk_at dksX4_goes_2 17 rfl rfl)
theorem dX4_goes_65 : decode cX4_goes 65 = .ok (.putfield 147, 3) := dk_181 0 147 (dk_at dksX4_goes_2 18 rfl rfl)
theorem dX4_goes_68 : decode cX4_goes 68 = .ok (.aload_n 0, 1) := dk_42 (dk_at dksX4_goes_2 21 rfl rfl)
theorem dX4_goes_69 : decode cX4_goes 69 = .ok (.aload_n 0, 1) := dk_42 (dk_at dksX4_goes_2 22 rfl rfl)
theorem dX4_goes_70 : decode cX4_goes 70 = .ok (.getfield 133, 3) := dk_180 0 133 (dk_at dksX4_goes_3 0 rfl rfl)
theorem dX4_goes_73 : decode cX4_goes 73 = .ok (.invokevirtual 136, 3) := dk_182 0 136 (dk_at dksX4_goes_3 3 rfl rfl)
theorem dX4_goes_76 : decode cX4_goes 76 = .ok (.istore_n 1, 1) := dk_60 (dk_at dksX4_goes_3 6 rfl rfl)
theorem dX4_goes_77 : decode cX4_goes 77 = .ok (.aload_n 0, 1) := dk_42 (dk_at dksX4_goes_3 7 rfl rfl)
theorem dX4_goes_78 : decode cX4_goes 78 = .ok (.iload_n 1, 1) := dk_27 (dk_at dksX4_goes_3 8 rfl rfl)
theorem dX4_goes_79 : decode cX4_goes 79 = .ok (.putfield 150, 3) := dk_181 0 150 (dk_at dksX4_goes_3 9 rfl rfl)
theorem dX4_goes_82 : decode cX4_goes 82 = .ok (.aload_n 0, 1) := dk_42 (dk_at dksX4_goes_3 12 rfl rfl)
theorem dX4_goes_83 : decode cX4_goes 83 = .ok (.getfield 133, 3) := dk_180 0 133 (dk_at dksX4_goes_3 13 rfl rfl)
theorem dX4_goes_86 : decode cX4_goes 86 = .ok (.aload_n 0, 1) := dk_42 (dk_at dksX4_goes_3 16 rfl rfl)
theorem dX4_goes_87 : decode cX4_goes 87 = .ok (.getfield 130, 3) := dk_180 0 130 (dk_at dksX4_goes_3 17 rfl rfl)
theorem dX4_goes_90 : decode cX4_goes 90 = .ok (.if_icmp .lt 11, 3) := dk_161 0 11 (dk_at dksX4_goes_3 20 rfl rfl)
theorem dX4_goes_93 : decode cX4_goes 93 = .ok (.aload_n 0, 1) := dk_42 (dk_at dksX4_goes_3 23 rfl rfl)
theorem dX4_goes_94 : decode cX4_goes 94 = .ok (.iconst 0, 1) := dk_3 (dk_at dksX4_goes_4 0 rfl rfl)
theorem dX4_goes_95 : decode cX4_goes 95 = .ok (.putfield 153, 3) := dk_181 0 153 (dk_at dksX4_goes_4 1 rfl rfl)
theorem dX4_goes_98 : decode cX4_goes 98 = .ok (.goto 233, 3) := dk_167 0 233 (dk_at dksX4_goes_4 4 rfl rfl)
theorem dX4_goes_101 : decode cX4_goes 101 = .ok (.iload_n 1, 1) := dk_27 (dk_at dksX4_goes_4 7 rfl rfl)
theorem dX4_goes_102 : decode cX4_goes 102 = .ok (.invokestatic 156, 3) := dk_184 0 156 (dk_at dksX4_goes_4 8 rfl rfl)
theorem dX4_goes_105 : decode cX4_goes 105 = .ok (.ifCond .eq 75, 3) := dk_153 0 75 (dk_at dksX4_goes_4 11 rfl rfl)
theorem dX4_goes_108 : decode cX4_goes 108 = .ok (.aload_n 0, 1) := dk_42 (dk_at dksX4_goes_4 14 rfl rfl)
theorem dX4_goes_109 : decode cX4_goes 109 = .ok (.aload_n 0, 1) := dk_42 (dk_at dksX4_goes_4 15 rfl rfl)
theorem dX4_goes_110 : decode cX4_goes 110 = .ok (.getfield 133, 3) := dk_180 0 133 (dk_at dksX4_goes_4 16 rfl rfl)
theorem dX4_goes_113 : decode cX4_goes 113 = .ok (.invokevirtual 136, 3) := dk_182 0 136 (dk_at dksX4_goes_4 19 rfl rfl)
theorem dX4_goes_116 : decode cX4_goes 116 = .ok (.invokestatic 156, 3) := dk_184 0 156 (dk_at dksX4_goes_5 0 rfl rfl)
theorem dX4_goes_119 : decode cX4_goes 119 = .ok (.ifCond .eq 53, 3) := dk_153 0 53 (dk_at dksX4_goes_5 3 rfl rfl)
theorem dX4_goes_122 : decode cX4_goes 122 = .ok (.aload_n 0, 1) := dk_42 (dk_at dksX4_goes_5 6 rfl rfl)
theorem dX4_goes_123 : decode cX4_goes 123 = .ok (.getfield 133, 3) := dk_180 0 133 (dk_at dksX4_goes_5 7 rfl rfl)
theorem dX4_goes_126 : decode cX4_goes 126 = .ok (.aload_n 0, 1) := dk_42 (dk_at dksX4_goes_5 10 rfl rfl)
theorem dX4_goes_127 : decode cX4_goes 127 = .ok (.getfield 140, 3) := dk_180 0 140 (dk_at dksX4_goes_5 11 rfl rfl)
theorem dX4_goes_130 : decode cX4_goes 130 = .ok (.isub, 1) := dk_100 (dk_at dksX4_goes_5 14 rfl rfl)
theorem dX4_goes_131 : decode cX4_goes 131 = .ok (.bipush 7, 2) := dk_16 7 (dk_at dksX4_goes_5 15 rfl rfl)
theorem dX4_goes_133 : decode cX4_goes 133 = .ok (.if_icmp .ge 26, 3) := dk_162 0 26 (dk_at dksX4_goes_5 17 rfl rfl)
theorem dX4_goes_136 : decode cX4_goes 136 = .ok (.aload_n 0, 1) := dk_42 (dk_at dksX4_goes_5 20 rfl rfl)
theorem dX4_goes_137 : decode cX4_goes 137 = .ok (.aload_n 0, 1) := dk_42 (dk_at dksX4_goes_5 21 rfl rfl)
theorem dX4_goes_138 : decode cX4_goes 138 = .ok (.getfield 143, 3) := dk_180 0 143 (dk_at dksX4_goes_6 0 rfl rfl)
theorem dX4_goes_141 : decode cX4_goes 141 = .ok (.iconst 5, 1) := dk_8 (dk_at dksX4_goes_6 3 rfl rfl)
theorem dX4_goes_142 : decode cX4_goes 142 = .ok (.lshl, 1) := dk_121 (dk_at dksX4_goes_6 4 rfl rfl)
theorem dX4_goes_143 : decode cX4_goes 143 = .ok (.aload_n 0, 1) := dk_42 (dk_at dksX4_goes_6 5 rfl rfl)
theorem dX4_goes_144 : decode cX4_goes 144 = .ok (.aload_n 0, 1) := dk_42 (dk_at dksX4_goes_6 6 rfl rfl)
theorem dX4_goes_145 : decode cX4_goes 145 = .ok (.getfield 133, 3) := dk_180 0 133 (dk_at dksX4_goes_6 7 rfl rfl)
theorem dX4_goes_148 : decode cX4_goes 148 = .ok (.invokevirtual 136, 3) := dk_182 0 136 (dk_at dksX4_goes_6 10 rfl rfl)
theorem dX4_goes_151 : decode cX4_goes 151 = .ok (.bipush 96, 2) := dk_16 96 (dk_at dksX4_goes_6 13 rfl rfl)
theorem dX4_goes_153 : decode cX4_goes 153 = .ok (.isub, 1) := dk_100 (dk_at dksX4_goes_6 15 rfl rfl)
theorem dX4_goes_154 : decode cX4_goes 154 = .ok (.i2l, 1) := dk_133 (dk_at dksX4_goes_6 16 rfl rfl)
theorem dX4_goes_155 : decode cX4_goes 155 = .ok (.lor, 1) := dk_129 (dk_at dksX4_goes_6 17 rfl rfl)
theorem dX4_goes_156 : decode cX4_goes 156 = .ok (.putfield 143, 3) := dk_181 0 143 (dk_at dksX4_goes_6 18 rfl rfl)
theorem dX4_goes_159 : decode cX4_goes 159 = .ok (.aload_n 0, 1) := dk_42 (dk_at dksX4_goes_6 21 rfl rfl)
theorem dX4_goes_160 : decode cX4_goes 160 = .ok (.dup, 1) := dk_89 (dk_at dksX4_goes_6 22 rfl rfl)
theorem dX4_goes_161 : decode cX4_goes 161 = .ok (.getfield 133, 3) := dk_180 0 133 (dk_at dksX4_goes_7 0 rfl rfl)
theorem dX4_goes_164 : decode cX4_goes 164 = .ok (.iconst 1, 1) := dk_4 (dk_at dksX4_goes_7 3 rfl rfl)
theorem dX4_goes_165 : decode cX4_goes 165 = .ok (.iadd, 1) := dk_96 (dk_at dksX4_goes_7 4 rfl rfl)
theorem dX4_goes_166 : decode cX4_goes 166 = .ok (.putfield 133, 3) := dk_181 0 133 (dk_at dksX4_goes_7 5 rfl rfl)
theorem dX4_goes_169 : decode cX4_goes 169 = .ok (.goto (-61), 3) := dk_167 255 195 (dk_at dksX4_goes_7 8 rfl rfl)
theorem dX4_goes_172 : decode cX4_goes 172 = .ok (.aload_n 0, 1) := dk_42 (dk_at dksX4_goes_7 11 rfl rfl)
theorem dX4_goes_173 : decode cX4_goes 173 = .ok (.iconst 1, 1) := dk_4 (dk_at dksX4_goes_7 12 rfl rfl)
theorem dX4_goes_174 : decode cX4_goes 174 = .ok (.putfield 153, 3) := dk_181 0 153 (dk_at dksX4_goes_7 13 rfl rfl)
theorem dX4_goes_177 : decode cX4_goes 177 = .ok (.goto 154, 3) := dk_167 0 154 (dk_at dksX4_goes_7 16 rfl rfl)
theorem dX4_goes_180 : decode cX4_goes 180 = .ok (.iload_n 1, 1) := dk_27 (dk_at dksX4_goes_7 19 rfl rfl)
theorem dX4_goes_181 : decode cX4_goes 181 = .ok (.invokestatic 160, 3) := dk_184 0 160 (dk_at dksX4_goes_7 20 rfl rfl)
theorem dX4_goes_184 : decode cX4_goes 184 = .ok (.ifCond .eq 74, 3) := dk_153 0 74 (dk_at dksX4_goes_8 0 rfl rfl)
theorem dX4_goes_187 : decode cX4_goes 187 = .ok (.aload_n 0, 1) := dk_42 (dk_at dksX4_goes_8 3 rfl rfl)
theorem dX4_goes_188 : decode cX4_goes 188 = .ok (.aload_n 0, 1) := dk_42 (dk_at dksX4_goes_8 4 rfl rfl)
theorem dX4_goes_189 : decode cX4_goes 189 = .ok (.getfield 133, 3) := dk_180 0 133 (dk_at dksX4_goes_8 5 rfl rfl)
theorem dX4_goes_192 : decode cX4_goes 192 = .ok (.invokevirtual 136, 3) := dk_182 0 136 (dk_at dksX4_goes_8 8 rfl rfl)
theorem dX4_goes_195 : decode cX4_goes 195 = .ok (.invokestatic 160, 3) := dk_184 0 160 (dk_at dksX4_goes_8 11 rfl rfl)
theorem dX4_goes_198 : decode cX4_goes 198 = .ok (.ifCond .eq 52, 3) := dk_153 0 52 (dk_at dksX4_goes_8 14 rfl rfl)
theorem dX4_goes_201 : decode cX4_goes 201 = .ok (.aload_n 0, 1) := dk_42 (dk_at dksX4_goes_8 17 rfl rfl)
theorem dX4_goes_202 : decode cX4_goes 202 = .ok (.getfield 133, 3) := dk_180 0 133 (dk_at dksX4_goes_8 18 rfl rfl)
theorem dX4_goes_205 : decode cX4_goes 205 = .ok (.aload_n 0, 1) := dk_42 (dk_at dksX4_goes_8 21 rfl rfl)
theorem dX4_goes_206 : decode cX4_goes 206 = .ok (.getfield 140, 3) := dk_180 0 140 (dk_at dksX4_goes_9 0 rfl rfl)
theorem dX4_goes_209 : decode cX4_goes 209 = .ok (.isub, 1) := dk_100 (dk_at dksX4_goes_9 3 rfl rfl)
theorem dX4_goes_210 : decode cX4_goes 210 = .ok (.iconst 4, 1) := dk_7 (dk_at dksX4_goes_9 4 rfl rfl)
theorem dX4_goes_211 : decode cX4_goes 211 = .ok (.if_icmp .ge 26, 3) := dk_162 0 26 (dk_at dksX4_goes_9 5 rfl rfl)
theorem dX4_goes_214 : decode cX4_goes 214 = .ok (.aload_n 0, 1) := dk_42 (dk_at dksX4_goes_9 8 rfl rfl)
theorem dX4_goes_215 : decode cX4_goes 215 = .ok (.bipush 10, 2) := dk_16 10 (dk_at dksX4_goes_9 9 rfl rfl)
theorem dX4_goes_217 : decode cX4_goes 217 = .ok (.aload_n 0, 1) := dk_42 (dk_at dksX4_goes_9 11 rfl rfl)
theorem dX4_goes_218 : decode cX4_goes 218 = .ok (.getfield 147, 3) := dk_180 0 147 (dk_at dksX4_goes_9 12 rfl rfl)
theorem dX4_goes_221 : decode cX4_goes 221 = .ok (.imul, 1) := dk_104 (dk_at dksX4_goes_9 15 rfl rfl)
theorem dX4_goes_222 : decode cX4_goes 222 = .ok (.aload_n 0, 1) := dk_42 (dk_at dksX4_goes_9 16 rfl rfl)
theorem dX4_goes_223 : decode cX4_goes 223 = .ok (.aload_n 0, 1) := dk_42 (dk_at dksX4_goes_9 17 rfl rfl)
theorem dX4_goes_224 : decode cX4_goes 224 = .ok (.getfield 133, 3) := dk_180 0 133 (dk_at dksX4_goes_9 18 rfl rfl)
theorem dX4_goes_227 : decode cX4_goes 227 = .ok (.invokevirtual 136, 3) := dk_182 0 136 (dk_at dksX4_goes_9 21 rfl rfl)
theorem dX4_goes_230 : decode cX4_goes 230 = .ok (.iadd, 1) := dk_96 (dk_at dksX4_goes_10 0 rfl rfl)
theorem dX4_goes_231 : decode cX4_goes 231 = .ok (.bipush 48, 2) := dk_16 48 (dk_at dksX4_goes_10 1 rfl rfl)
theorem dX4_goes_233 : decode cX4_goes 233 = .ok (.isub, 1) := dk_100 (dk_at dksX4_goes_10 3 rfl rfl)
theorem dX4_goes_234 : decode cX4_goes 234 = .ok (.putfield 147, 3) := dk_181 0 147 (dk_at dksX4_goes_10 4 rfl rfl)
theorem dX4_goes_237 : decode cX4_goes 237 = .ok (.aload_n 0, 1) := dk_42 (dk_at dksX4_goes_10 7 rfl rfl)
theorem dX4_goes_238 : decode cX4_goes 238 = .ok (.dup, 1) := dk_89 (dk_at dksX4_goes_10 8 rfl rfl)
theorem dX4_goes_239 : decode cX4_goes 239 = .ok (.getfield 133, 3) := dk_180 0 133 (dk_at dksX4_goes_10 9 rfl rfl)
theorem dX4_goes_242 : decode cX4_goes 242 = .ok (.iconst 1, 1) := dk_4 (dk_at dksX4_goes_10 12 rfl rfl)
theorem dX4_goes_243 : decode cX4_goes 243 = .ok (.iadd, 1) := dk_96 (dk_at dksX4_goes_10 13 rfl rfl)
theorem dX4_goes_244 : decode cX4_goes 244 = .ok (.putfield 133, 3) := dk_181 0 133 (dk_at dksX4_goes_10 14 rfl rfl)
theorem dX4_goes_247 : decode cX4_goes 247 = .ok (.goto (-60), 3) := dk_167 255 196 (dk_at dksX4_goes_10 17 rfl rfl)
theorem dX4_goes_250 : decode cX4_goes 250 = .ok (.aload_n 0, 1) := dk_42 (dk_at dksX4_goes_10 20 rfl rfl)
theorem dX4_goes_251 : decode cX4_goes 251 = .ok (.iconst 2, 1) := dk_5 (dk_at dksX4_goes_10 21 rfl rfl)
theorem dX4_goes_252 : decode cX4_goes 252 = .ok (.putfield 153, 3) := dk_181 0 153 (dk_at dksX4_goes_11 0 rfl rfl)
theorem dX4_goes_255 : decode cX4_goes 255 = .ok (.goto 76, 3) := dk_167 0 76 (dk_at dksX4_goes_11 3 rfl rfl)
theorem dX4_goes_258 : decode cX4_goes 258 = .ok (.aload_n 0, 1) := dk_42 (dk_at dksX4_goes_11 6 rfl rfl)
theorem dX4_goes_259 : decode cX4_goes 259 = .ok (.dup, 1) := dk_89 (dk_at dksX4_goes_11 7 rfl rfl)
theorem dX4_goes_260 : decode cX4_goes 260 = .ok (.getfield 133, 3) := dk_180 0 133 (dk_at dksX4_goes_11 8 rfl rfl)
theorem dX4_goes_263 : decode cX4_goes 263 = .ok (.iconst 1, 1) := dk_4 (dk_at dksX4_goes_11 11 rfl rfl)
theorem dX4_goes_264 : decode cX4_goes 264 = .ok (.iadd, 1) := dk_96 (dk_at dksX4_goes_11 12 rfl rfl)
theorem dX4_goes_265 : decode cX4_goes 265 = .ok (.putfield 133, 3) := dk_181 0 133 (dk_at dksX4_goes_11 13 rfl rfl)
theorem dX4_goes_268 : decode cX4_goes 268 = .ok (.aload_n 0, 1) := dk_42 (dk_at dksX4_goes_11 16 rfl rfl)
theorem dX4_goes_269 : decode cX4_goes 269 = .ok (.iload_n 1, 1) := dk_27 (dk_at dksX4_goes_11 17 rfl rfl)
theorem dX4_goes_270 : decode cX4_goes 270 = .ok (.bipush 59, 2) := dk_16 59 (dk_at dksX4_goes_11 18 rfl rfl)
theorem dX4_goes_272 : decode cX4_goes 272 = .ok (.if_icmp .eq 51, 3) := dk_159 0 51 (dk_at dksX4_goes_11 20 rfl rfl)
theorem dX4_goes_275 : decode cX4_goes 275 = .ok (.iload_n 1, 1) := dk_27 (dk_at dksX4_goes_11 23 rfl rfl)
theorem dX4_goes_276 : decode cX4_goes 276 = .ok (.bipush 40, 2) := dk_16 40 (dk_at dksX4_goes_12 0 rfl rfl)
theorem dX4_goes_278 : decode cX4_goes 278 = .ok (.if_icmp .eq 45, 3) := dk_159 0 45 (dk_at dksX4_goes_12 2 rfl rfl)
theorem dX4_goes_281 : decode cX4_goes 281 = .ok (.iload_n 1, 1) := dk_27 (dk_at dksX4_goes_12 5 rfl rfl)
theorem dX4_goes_282 : decode cX4_goes 282 = .ok (.bipush 41, 2) := dk_16 41 (dk_at dksX4_goes_12 6 rfl rfl)
theorem dX4_goes_284 : decode cX4_goes 284 = .ok (.if_icmp .eq 39, 3) := dk_159 0 39 (dk_at dksX4_goes_12 8 rfl rfl)
theorem dX4_goes_287 : decode cX4_goes 287 = .ok (.iload_n 1, 1) := dk_27 (dk_at dksX4_goes_12 11 rfl rfl)
theorem dX4_goes_288 : decode cX4_goes 288 = .ok (.bipush 43, 2) := dk_16 43 (dk_at dksX4_goes_12 12 rfl rfl)
theorem dX4_goes_290 : decode cX4_goes 290 = .ok (.if_icmp .eq 33, 3) := dk_159 0 33 (dk_at dksX4_goes_12 14 rfl rfl)
theorem dX4_goes_293 : decode cX4_goes 293 = .ok (.iload_n 1, 1) := dk_27 (dk_at dksX4_goes_12 17 rfl rfl)
theorem dX4_goes_294 : decode cX4_goes 294 = .ok (.bipush 45, 2) := dk_16 45 (dk_at dksX4_goes_12 18 rfl rfl)
theorem dX4_goes_296 : decode cX4_goes 296 = .ok (.if_icmp .eq 27, 3) := dk_159 0 27 (dk_at dksX4_goes_12 20 rfl rfl)
theorem dX4_goes_299 : decode cX4_goes 299 = .ok (.iload_n 1, 1) := dk_27 (dk_at dksX4_goes_12 23 rfl rfl)
theorem dX4_goes_300 : decode cX4_goes 300 = .ok (.bipush 42, 2) := dk_16 42 (dk_at dksX4_goes_13 0 rfl rfl)
theorem dX4_goes_302 : decode cX4_goes 302 = .ok (.if_icmp .eq 21, 3) := dk_159 0 21 (dk_at dksX4_goes_13 2 rfl rfl)
theorem dX4_goes_305 : decode cX4_goes 305 = .ok (.iload_n 1, 1) := dk_27 (dk_at dksX4_goes_13 5 rfl rfl)
theorem dX4_goes_306 : decode cX4_goes 306 = .ok (.bipush 47, 2) := dk_16 47 (dk_at dksX4_goes_13 6 rfl rfl)
theorem dX4_goes_308 : decode cX4_goes 308 = .ok (.if_icmp .eq 15, 3) := dk_159 0 15 (dk_at dksX4_goes_13 8 rfl rfl)
theorem dX4_goes_311 : decode cX4_goes 311 = .ok (.iload_n 1, 1) := dk_27 (dk_at dksX4_goes_13 11 rfl rfl)
theorem dX4_goes_312 : decode cX4_goes 312 = .ok (.bipush 60, 2) := dk_16 60 (dk_at dksX4_goes_13 12 rfl rfl)
theorem dX4_goes_314 : decode cX4_goes 314 = .ok (.if_icmp .eq 9, 3) := dk_159 0 9 (dk_at dksX4_goes_13 14 rfl rfl)
theorem dX4_goes_317 : decode cX4_goes 317 = .ok (.iload_n 1, 1) := dk_27 (dk_at dksX4_goes_13 17 rfl rfl)
theorem dX4_goes_318 : decode cX4_goes 318 = .ok (.bipush 61, 2) := dk_16 61 (dk_at dksX4_goes_13 18 rfl rfl)
theorem dX4_goes_320 : decode cX4_goes 320 = .ok (.if_icmp .ne 7, 3) := dk_160 0 7 (dk_at dksX4_goes_13 20 rfl rfl)
theorem dX4_goes_323 : decode cX4_goes 323 = .ok (.iconst 3, 1) := dk_6 (dk_at dksX4_goes_13 23 rfl rfl)
theorem dX4_goes_324 : decode cX4_goes 324 = .ok (.goto 4, 3) := dk_167 0 4 (dk_at dksX4_goes_14 0 rfl rfl)
theorem dX4_goes_327 : decode cX4_goes 327 = .ok (.iconst 4, 1) := dk_7 (dk_at dksX4_goes_14 3 rfl rfl)
theorem dX4_goes_328 : decode cX4_goes 328 = .ok (.putfield 153, 3) := dk_181 0 153 (dk_at dksX4_goes_14 4 rfl rfl)
theorem dX4_goes_331 : decode cX4_goes 331 = .ok (.aload_n 0, 1) := dk_42 (dk_at dksX4_goes_14 7 rfl rfl)
theorem dX4_goes_332 : decode cX4_goes 332 = .ok (.aload_n 0, 1) := dk_42 (dk_at dksX4_goes_14 8 rfl rfl)
theorem dX4_goes_333 : decode cX4_goes 333 = .ok (.getfield 133, 3) := dk_180 0 133 (dk_at dksX4_goes_14 9 rfl rfl)
theorem dX4_goes_336 : decode cX4_goes 336 = .ok (.aload_n 0, 1) := dk_42 (dk_at dksX4_goes_14 12 rfl rfl)
theorem dX4_goes_337 : decode cX4_goes 337 = .ok (.getfield 140, 3) := dk_180 0 140 (dk_at dksX4_goes_14 13 rfl rfl)
theorem dX4_goes_340 : decode cX4_goes 340 = .ok (.isub, 1) := dk_100 (dk_at dksX4_goes_14 16 rfl rfl)
theorem dX4_goes_341 : decode cX4_goes 341 = .ok (.putfield 163, 3) := dk_181 0 163 (dk_at dksX4_goes_14 17 rfl rfl)
theorem dX4_goes_344 : decode cX4_goes 344 = .ok (.return_, 1) := dk_177 (dk_at dksX4_goes_14 20 rfl rfl)
abbrev cX4_byteAt : ByteArray := prog_14_method_9_code
def yX4_byteAt : MethodName := ⟨RX4, "byteAt", "(I)I"⟩
def dkwX4_byteAt_0 : List UInt8 := [27, 42, 180, 0, 130, 162, 0, 12, 42, 180, 0, 44, 27, 46, 167, 0, 4, 3, 172]
abbrev dktX4_byteAt_0 : List UInt8 := dkwX4_byteAt_0 ++ []
theorem dksX4_byteAt_0 : cX4_byteAt.data.toList.drop 0 = dktX4_byteAt_0 := by decide +kernel
theorem dX4_byteAt_0 : decode cX4_byteAt 0 = .ok (.iload_n 1, 1) := dk_27 (dk_at dksX4_byteAt_0 0 rfl rfl)
theorem dX4_byteAt_1 : decode cX4_byteAt 1 = .ok (.aload_n 0, 1) := dk_42 (dk_at dksX4_byteAt_0 1 rfl rfl)
theorem dX4_byteAt_2 : decode cX4_byteAt 2 = .ok (.getfield 130, 3) := dk_180 0 130 (dk_at dksX4_byteAt_0 2 rfl rfl)
theorem dX4_byteAt_5 : decode cX4_byteAt 5 = .ok (.if_icmp .ge 12, 3) := dk_162 0 12 (dk_at dksX4_byteAt_0 5 rfl rfl)
theorem dX4_byteAt_8 : decode cX4_byteAt 8 = .ok (.aload_n 0, 1) := dk_42 (dk_at dksX4_byteAt_0 8 rfl rfl)
theorem dX4_byteAt_9 : decode cX4_byteAt 9 = .ok (.getfield 44, 3) := dk_180 0 44 (dk_at dksX4_byteAt_0 9 rfl rfl)
theorem dX4_byteAt_12 : decode cX4_byteAt 12 = .ok (.iload_n 1, 1) := dk_27 (dk_at dksX4_byteAt_0 12 rfl rfl)
theorem dX4_byteAt_13 : decode cX4_byteAt 13 = .ok (.iaload, 1) := dk_46 (dk_at dksX4_byteAt_0 13 rfl rfl)
theorem dX4_byteAt_14 : decode cX4_byteAt 14 = .ok (.goto 4, 3) := dk_167 0 4 (dk_at dksX4_byteAt_0 14 rfl rfl)
theorem dX4_byteAt_17 : decode cX4_byteAt 17 = .ok (.iconst 0, 1) := dk_3 (dk_at dksX4_byteAt_0 17 rfl rfl)
theorem dX4_byteAt_18 : decode cX4_byteAt 18 = .ok (.ireturn, 1) := dk_172 (dk_at dksX4_byteAt_0 18 rfl rfl)
abbrev cX4_isLetter : ByteArray := prog_14_method_10_code
def yX4_isLetter : MethodName := ⟨RX4, "isLetter", "(I)Z"⟩
def dkwX4_isLetter_0 : List UInt8 := [26, 16, 97, 161, 0, 13, 26, 16, 122, 163, 0, 7, 4, 167, 0, 4, 3, 172]
abbrev dktX4_isLetter_0 : List UInt8 := dkwX4_isLetter_0 ++ []
theorem dksX4_isLetter_0 : cX4_isLetter.data.toList.drop 0 = dktX4_isLetter_0 := by decide +kernel
theorem dX4_isLetter_0 : decode cX4_isLetter 0 = .ok (.iload_n 0, 1) := dk_26 (dk_at dksX4_isLetter_0 0 rfl rfl)
theorem dX4_isLetter_1 : decode cX4_isLetter 1 = .ok (.bipush 97, 2) := dk_16 97 (dk_at dksX4_isLetter_0 1 rfl rfl)
theorem dX4_isLetter_3 : decode cX4_isLetter 3 = .ok (.if_icmp .lt 13, 3) := dk_161 0 13 (dk_at dksX4_isLetter_0 3 rfl rfl)
theorem dX4_isLetter_6 : decode cX4_isLetter 6 = .ok (.iload_n 0, 1) := dk_26 (dk_at dksX4_isLetter_0 6 rfl rfl)
theorem dX4_isLetter_7 : decode cX4_isLetter 7 = .ok (.bipush 122, 2) := dk_16 122 (dk_at dksX4_isLetter_0 7 rfl rfl)
theorem dX4_isLetter_9 : decode cX4_isLetter 9 = .ok (.if_icmp .gt 7, 3) := dk_163 0 7 (dk_at dksX4_isLetter_0 9 rfl rfl)
theorem dX4_isLetter_12 : decode cX4_isLetter 12 = .ok (.iconst 1, 1) := dk_4 (dk_at dksX4_isLetter_0 12 rfl rfl)
theorem dX4_isLetter_13 : decode cX4_isLetter 13 = .ok (.goto 4, 3) := dk_167 0 4 (dk_at dksX4_isLetter_0 13 rfl rfl)
theorem dX4_isLetter_16 : decode cX4_isLetter 16 = .ok (.iconst 0, 1) := dk_3 (dk_at dksX4_isLetter_0 16 rfl rfl)
theorem dX4_isLetter_17 : decode cX4_isLetter 17 = .ok (.ireturn, 1) := dk_172 (dk_at dksX4_isLetter_0 17 rfl rfl)
abbrev cX4_isDigit : ByteArray := prog_14_method_11_code
def yX4_isDigit : MethodName := ⟨RX4, "isDigit", "(I)Z"⟩
def dkwX4_isDigit_0 : List UInt8 := [26, 16, 48, 161, 0, 13, 26, 16, 57, 163, 0, 7, 4, 167, 0, 4, 3, 172]
abbrev dktX4_isDigit_0 : List UInt8 := dkwX4_isDigit_0 ++ []
theorem dksX4_isDigit_0 : cX4_isDigit.data.toList.drop 0 = dktX4_isDigit_0 := by decide +kernel
theorem dX4_isDigit_0 : decode cX4_isDigit 0 = .ok (.iload_n 0, 1) := dk_26 (dk_at dksX4_isDigit_0 0 rfl rfl)
theorem dX4_isDigit_1 : decode cX4_isDigit 1 = .ok (.bipush 48, 2) := dk_16 48 (dk_at dksX4_isDigit_0 1 rfl rfl)
theorem dX4_isDigit_3 : decode cX4_isDigit 3 = .ok (.if_icmp .lt 13, 3) := dk_161 0 13 (dk_at dksX4_isDigit_0 3 rfl rfl)
theorem dX4_isDigit_6 : decode cX4_isDigit 6 = .ok (.iload_n 0, 1) := dk_26 (dk_at dksX4_isDigit_0 6 rfl rfl)
theorem dX4_isDigit_7 : decode cX4_isDigit 7 = .ok (.bipush 57, 2) := dk_16 57 (dk_at dksX4_isDigit_0 7 rfl rfl)
theorem dX4_isDigit_9 : decode cX4_isDigit 9 = .ok (.if_icmp .gt 7, 3) := dk_163 0 7 (dk_at dksX4_isDigit_0 9 rfl rfl)
theorem dX4_isDigit_12 : decode cX4_isDigit 12 = .ok (.iconst 1, 1) := dk_4 (dk_at dksX4_isDigit_0 12 rfl rfl)
theorem dX4_isDigit_13 : decode cX4_isDigit 13 = .ok (.goto 4, 3) := dk_167 0 4 (dk_at dksX4_isDigit_0 13 rfl rfl)
theorem dX4_isDigit_16 : decode cX4_isDigit 16 = .ok (.iconst 0, 1) := dk_3 (dk_at dksX4_isDigit_0 16 rfl rfl)
theorem dX4_isDigit_17 : decode cX4_isDigit 17 = .ok (.ireturn, 1) := dk_172 (dk_at dksX4_isDigit_0 17 rfl rfl)
abbrev cX4_isGood : ByteArray := prog_14_method_17_code
def yX4_isGood : MethodName := ⟨RX4, "isGood", "()Z"⟩
def dkwX4_isGood_0 : List UInt8 := [42, 180, 0, 176, 154, 0, 7, 4, 167, 0, 4, 3, 172]
abbrev dktX4_isGood_0 : List UInt8 := dkwX4_isGood_0 ++ []
theorem dksX4_isGood_0 : cX4_isGood.data.toList.drop 0 = dktX4_isGood_0 := by decide +kernel
theorem dX4_isGood_0 : decode cX4_isGood 0 = .ok (.aload_n 0, 1) := dk_42 (dk_at dksX4_isGood_0 0 rfl rfl)
theorem dX4_isGood_1 : decode cX4_isGood 1 = .ok (.getfield 176, 3) := dk_180 0 176 (dk_at dksX4_isGood_0 1 rfl rfl)
theorem dX4_isGood_4 : decode cX4_isGood 4 = .ok (.ifCond .ne 7, 3) := dk_154 0 7 (dk_at dksX4_isGood_0 4 rfl rfl)
theorem dX4_isGood_7 : decode cX4_isGood 7 = .ok (.iconst 1, 1) := dk_4 (dk_at dksX4_isGood_0 7 rfl rfl)
theorem dX4_isGood_8 : decode cX4_isGood 8 = .ok (.goto 4, 3) := dk_167 0 4 (dk_at dksX4_isGood_0 8 rfl rfl)
theorem dX4_isGood_11 : decode cX4_isGood 11 = .ok (.iconst 0, 1) := dk_3 (dk_at dksX4_isGood_0 11 rfl rfl)
theorem dX4_isGood_12 : decode cX4_isGood 12 = .ok (.ireturn, 1) := dk_172 (dk_at dksX4_isGood_0 12 rfl rfl)
abbrev cX4_line : ByteArray := prog_14_method_35_code
def yX4_line : MethodName := ⟨RX4, "line", "()V"⟩
def dkwX4_line_7 : List UInt8 := [182, 0, 186, 42, 42, 16, 59, 182, 0, 217, 182, 1, 11, 177]
abbrev dktX4_line_7 : List UInt8 := dkwX4_line_7 ++ []
def dkwX4_line_6 : List UInt8 := [16, 19, 159, 0, 9, 27, 16, 20, 160, 0, 14, 42, 27, 16, 19, 100, 182, 1, 8, 167, 0, 8, 42, 4]
abbrev dktX4_line_6 : List UInt8 := dkwX4_line_6 ++ dktX4_line_7
def dkwX4_line_5 : List UInt8 := [154, 0, 4, 177, 42, 182, 0, 183, 42, 42, 4, 16, 9, 182, 0, 244, 181, 1, 5, 167, 0, 31, 27]
abbrev dktX4_line_5 : List UInt8 := dkwX4_line_5 ++ dktX4_line_6
def dkwX4_line_4 : List UInt8 := [27, 16, 18, 160, 0, 42, 42, 180, 1, 5, 2, 159, 0, 8, 42, 8, 182, 0, 186, 42, 182, 0, 179]
abbrev dktX4_line_4 : List UInt8 := dkwX4_line_4 ++ dktX4_line_5
def dkwX4_line_3 : List UInt8 := [182, 0, 179, 154, 0, 4, 177, 42, 182, 0, 183, 42, 89, 180, 0, 248, 4, 96, 181, 0, 248, 167, 0, 76]
abbrev dktX4_line_3 : List UInt8 := dkwX4_line_3 ++ dktX4_line_4
def dkwX4_line_2 : List UInt8 := [167, 0, 120, 27, 16, 17, 160, 0, 41, 42, 180, 0, 248, 8, 160, 0, 8, 42, 5, 182, 0, 186, 42]
abbrev dktX4_line_2 : List UInt8 := dkwX4_line_2 ++ dktX4_line_3
def dkwX4_line_1 : List UInt8 := [167, 0, 143, 27, 16, 13, 161, 0, 20, 27, 16, 16, 163, 0, 14, 42, 27, 16, 13, 100, 182, 1, 2]
abbrev dktX4_line_1 : List UInt8 := dkwX4_line_1 ++ dktX4_line_2
def dkwX4_line_0 : List UInt8 := [42, 182, 0, 204, 60, 27, 16, 10, 161, 0, 17, 27, 16, 12, 163, 0, 11, 42, 27, 182, 0, 255]
abbrev dktX4_line_0 : List UInt8 := dkwX4_line_0 ++ dktX4_line_1
theorem dksX4_line_0 : cX4_line.data.toList.drop 0 = dktX4_line_0 := by decide +kernel
theorem dksX4_line_1 : cX4_line.data.toList.drop 22 = dktX4_line_1 := dk_seg dksX4_line_0 22 rfl rfl
theorem dksX4_line_2 : cX4_line.data.toList.drop 45 = dktX4_line_2 := dk_seg dksX4_line_1 23 rfl rfl
theorem dksX4_line_3 : cX4_line.data.toList.drop 68 = dktX4_line_3 := dk_seg dksX4_line_2 23 rfl rfl
theorem dksX4_line_4 : cX4_line.data.toList.drop 92 = dktX4_line_4 := dk_seg dksX4_line_3 24 rfl rfl
theorem dksX4_line_5 : cX4_line.data.toList.drop 115 = dktX4_line_5 := dk_seg dksX4_line_4 23 rfl rfl
theorem dksX4_line_6 : cX4_line.data.toList.drop 138 = dktX4_line_6 := dk_seg dksX4_line_5 23 rfl rfl
theorem dksX4_line_7 : cX4_line.data.toList.drop 162 = dktX4_line_7 := dk_seg dksX4_line_6 24 rfl rfl
theorem dX4_line_0 : decode cX4_line 0 = .ok (.aload_n 0, 1) := dk_42 (dk_at dksX4_line_0 0 rfl rfl)
theorem dX4_line_1 : decode cX4_line 1 = .ok (.invokevirtual 204, 3) := dk_182 0 204 (dk_at dksX4_line_0 1 rfl rfl)
theorem dX4_line_4 : decode cX4_line 4 = .ok (.istore_n 1, 1) := dk_60 (dk_at dksX4_line_0 4 rfl rfl)
theorem dX4_line_5 : decode cX4_line 5 = .ok (.iload_n 1, 1) := dk_27 (dk_at dksX4_line_0 5 rfl rfl)
theorem dX4_line_6 : decode cX4_line 6 = .ok (.bipush 10, 2) := dk_16 10 (dk_at dksX4_line_0 6 rfl rfl)
theorem dX4_line_8 : decode cX4_line 8 = .ok (.if_icmp .lt 17, 3) := dk_161 0 17 (dk_at dksX4_line_0 8 rfl rfl)
theorem dX4_line_11 : decode cX4_line 11 = .ok (.iload_n 1, 1) := dk_27 (dk_at dksX4_line_0 11 rfl rfl)
theorem dX4_line_12 : decode cX4_line 12 = .ok (.bipush 12, 2) := dk_16 12 (dk_at dksX4_line_0 12 rfl rfl)
theorem dX4_line_14 : decode cX4_line 14 = .ok (.if_icmp .gt 11, 3) := dk_163 0 11 (dk_at dksX4_line_0 14 rfl rfl)
theorem dX4_line_17 : decode cX4_line 17 = .ok (.aload_n 0, 1) := dk_42 (dk_at dksX4_line_0 17 rfl rfl)
theorem dX4_line_18 : decode cX4_line 18 = .ok (.iload_n 1, 1) := dk_27 (dk_at dksX4_line_0 18 rfl rfl)
theorem dX4_line_19 : decode cX4_line 19 = .ok (.invokevirtual 255, 3) := dk_182 0 255 (dk_at dksX4_line_0 19 rfl rfl)
theorem dX4_line_22 : decode cX4_line 22 = .ok (.goto 143, 3) := dk_167 0 143 (dk_at dksX4_line_1 0 rfl rfl)
theorem dX4_line_25 : decode cX4_line 25 = .ok (.iload_n 1, 1) := dk_27 (dk_at dksX4_line_1 3 rfl rfl)
theorem dX4_line_26 : decode cX4_line 26 = .ok (.bipush 13, 2) := dk_16 13 (dk_at dksX4_line_1 4 rfl rfl)
theorem dX4_line_28 : decode cX4_line 28 = .ok (.if_icmp .lt 20, 3) := dk_161 0 20 (dk_at dksX4_line_1 6 rfl rfl)
theorem dX4_line_31 : decode cX4_line 31 = .ok (.iload_n 1, 1) := dk_27 (dk_at dksX4_line_1 9 rfl rfl)
theorem dX4_line_32 : decode cX4_line 32 = .ok (.bipush 16, 2) := dk_16 16 (dk_at dksX4_line_1 10 rfl rfl)
theorem dX4_line_34 : decode cX4_line 34 = .ok (.if_icmp .gt 14, 3) := dk_163 0 14 (dk_at dksX4_line_1 12 rfl rfl)
theorem dX4_line_37 : decode cX4_line 37 = .ok (.aload_n 0, 1) := dk_42 (dk_at dksX4_line_1 15 rfl rfl)
theorem dX4_line_38 : decode cX4_line 38 = .ok (.iload_n 1, 1) := dk_27 (dk_at dksX4_line_1 16 rfl rfl)
theorem dX4_line_39 : decode cX4_line 39 = .ok (.bipush 13, 2) := dk_16 13 (dk_at dksX4_line_1 17 rfl rfl)
theorem dX4_line_41 : decode cX4_line 41 = .ok (.isub, 1) := dk_100 (dk_at dksX4_line_1 19 rfl rfl)
theorem dX4_line_42 : decode cX4_line 42 = .ok (.invokevirtual 258, 3) := dk_182 1 2 (dk_at dksX4_line_1 20 rfl rfl)
theorem dX4_line_45 : decode cX4_line 45 = .ok (.goto 120, 3) := dk_167 0 120 (dk_at dksX4_line_2 0 rfl rfl)
theorem dX4_line_48 : decode cX4_line 48 = .ok (.iload_n 1, 1) := dk_27 (dk_at dksX4_line_2 3 rfl rfl)
theorem dX4_line_49 : decode cX4_line 49 = .ok (.bipush 17, 2) := dk_16 17 (dk_at dksX4_line_2 4 rfl rfl)
theorem dX4_line_51 : decode cX4_line 51 = .ok (.if_icmp .ne 41, 3) := dk_160 0 41 (dk_at dksX4_line_2 6 rfl rfl)
theorem dX4_line_54 : decode cX4_line 54 = .ok (.aload_n 0, 1) := dk_42 (dk_at dksX4_line_2 9 rfl rfl)
theorem dX4_line_55 : decode cX4_line 55 = .ok (.getfield 248, 3) := dk_180 0 248 (dk_at dksX4_line_2 10 rfl rfl)
theorem dX4_line_58 : decode cX4_line 58 = .ok (.iconst 5, 1) := dk_8 (dk_at dksX4_line_2 13 rfl rfl)
theorem dX4_line_59 : decode cX4_line 59 = .ok (.if_icmp .ne 8, 3) := dk_160 0 8 (dk_at dksX4_line_2 14 rfl rfl)
theorem dX4_line_62 : decode cX4_line 62 = .ok (.aload_n 0, 1) := dk_42 (dk_at dksX4_line_2 17 rfl rfl)
theorem dX4_line_63 : decode cX4_line 63 = .ok (.iconst 2, 1) := dk_5 (dk_at dksX4_line_2 18 rfl rfl)
theorem dX4_line_64 : decode cX4_line 64 = .ok (.invokevirtual 186, 3) := dk_182 0 186 (dk_at dksX4_line_2 19 rfl rfl)
theorem dX4_line_67 : decode cX4_line 67 = .ok (.aload_n 0, 1) := dk_42 (dk_at dksX4_line_2 22 rfl rfl)
theorem dX4_line_68 : decode cX4_line 68 = .ok (.invokevirtual 179, 3) := dk_182 0 179 (dk_at dksX4_line_3 0 rfl rfl)
theorem dX4_line_71 : decode cX4_line 71 = .ok (.ifCond .ne 4, 3) := dk_154 0 4 (dk_at dksX4_line_3 3 rfl rfl)
theorem dX4_line_74 : decode cX4_line 74 = .ok (.return_, 1) := dk_177 (dk_at dksX4_line_3 6 rfl rfl)
theorem dX4_line_75 : decode cX4_line 75 = .ok (.aload_n 0, 1) := dk_42 (dk_at dksX4_line_3 7 rfl rfl)
theorem dX4_line_76 : decode cX4_line 76 = .ok (.invokevirtual 183, 3) := dk_182 0 183 (dk_at dksX4_line_3 8 rfl rfl)
theorem dX4_line_79 : decode cX4_line 79 = .ok (.aload_n 0, 1) := dk_42 (dk_at dksX4_line_3 11 rfl rfl)
theorem dX4_line_80 : decode cX4_line 80 = .ok (.dup, 1) := dk_89 (dk_at dksX4_line_3 12 rfl rfl)
theorem dX4_line_81 : decode cX4_line 81 = .ok (.getfield 248, 3) := dk_180 0 248 (dk_at dksX4_line_3 13 rfl rfl)
theorem dX4_line_84 : decode cX4_line 84 = .ok (.iconst 1, 1) := dk_4 (dk_at dksX4_line_3 16 rfl rfl)
theorem dX4_line_85 : decode cX4_line 85 = .ok (.iadd, 1) := dk_96 (dk_at dksX4_line_3 17 rfl rfl)
theorem dX4_line_86 : decode cX4_line 86 = .ok (.putfield 248, 3) := dk_181 0 248 (dk_at dksX4_line_3 18 rfl rfl)
theorem dX4_line_89 : decode cX4_line 89 = .ok (.goto 76, 3) := dk_167 0 76 (dk_at dksX4_line_3 21 rfl rfl)
theorem dX4_line_92 : decode cX4_line 92 = .ok (.iload_n 1, 1) := dk_27 (dk_at dksX4_line_4 0 rfl rfl)
theorem dX4_line_93 : decode cX4_line 93 = .ok (.bipush 18, 2) := dk_16 18 (dk_at dksX4_line_4 1 rfl rfl)
theorem dX4_line_95 : decode cX4_line 95 = .ok (.if_icmp .ne 42, 3) := dk_160 0 42 (dk_at dksX4_line_4 3 rfl rfl)
theorem dX4_line_98 : decode cX4_line 98 = .ok (.aload_n 0, 1) := dk_42 (dk_at dksX4_line_4 6 rfl rfl)
theorem dX4_line_99 : decode cX4_line 99 = .ok (.getfield 261, 3) := dk_180 1 5 (dk_at dksX4_line_4 7 rfl rfl)
theorem dX4_line_102 : decode cX4_line 102 = .ok (.iconst (-1), 1) := dk_2 (dk_at dksX4_line_4 10 rfl rfl)
theorem dX4_line_103 : decode cX4_line 103 = .ok (.if_icmp .eq 8, 3) := dk_159 0 8 (dk_at dksX4_line_4 11 rfl rfl)
theorem dX4_line_106 : decode cX4_line 106 = .ok (.aload_n 0, 1) := dk_42 (dk_at dksX4_line_4 14 rfl rfl)
theorem dX4_line_107 : decode cX4_line 107 = .ok (.iconst 5, 1) := dk_8 (dk_at dksX4_line_4 15 rfl rfl)
theorem dX4_line_108 : decode cX4_line 108 = .ok (.invokevirtual 186, 3) := dk_182 0 186 (dk_at dksX4_line_4 16 rfl rfl)
theorem dX4_line_111 : decode cX4_line 111 = .ok (.aload_n 0, 1) := dk_42 (dk_at dksX4_line_4 19 rfl rfl)
theorem dX4_line_112 : decode cX4_line 112 = .ok (.invokevirtual 179, 3) := dk_182 0 179 (dk_at dksX4_line_4 20 rfl rfl)
theorem dX4_line_115 : decode cX4_line 115 = .ok (.ifCond .ne 4, 3) := dk_154 0 4 (dk_at dksX4_line_5 0 rfl rfl)
theorem dX4_line_118 : decode cX4_line 118 = .ok (.return_, 1) := dk_177 (dk_at dksX4_line_5 3 rfl rfl)
theorem dX4_line_119 : decode cX4_line 119 = .ok (.aload_n 0, 1) := dk_42 (dk_at dksX4_line_5 4 rfl rfl)
theorem dX4_line_120 : decode cX4_line 120 = .ok (.invokevirtual 183, 3) := dk_182 0 183 (dk_at dksX4_line_5 5 rfl rfl)
theorem dX4_line_123 : decode cX4_line 123 = .ok (.aload_n 0, 1) := dk_42 (dk_at dksX4_line_5 8 rfl rfl)
theorem dX4_line_124 : decode cX4_line 124 = .ok (.aload_n 0, 1) := dk_42 (dk_at dksX4_line_5 9 rfl rfl)
theorem dX4_line_125 : decode cX4_line 125 = .ok (.iconst 1, 1) := dk_4 (dk_at dksX4_line_5 10 rfl rfl)
theorem dX4_line_126 : decode cX4_line 126 = .ok (.bipush 9, 2) := dk_16 9 (dk_at dksX4_line_5 11 rfl rfl)
theorem dX4_line_128 : decode cX4_line 128 = .ok (.invokevirtual 244, 3) := dk_182 0 244 (dk_at dksX4_line_5 13 rfl rfl)
theorem dX4_line_131 : decode cX4_line 131 = .ok (.putfield 261, 3) := dk_181 1 5 (dk_at dksX4_line_5 16 rfl rfl)
theorem dX4_line_134 : decode cX4_line 134 = .ok (.goto 31, 3) := dk_167 0 31 (dk_at dksX4_line_5 19 rfl rfl)
theorem dX4_line_137 : decode cX4_line 137 = .ok (.iload_n 1, 1) := dk_27 (dk_at dksX4_line_5 22 rfl rfl)
theorem dX4_line_138 : decode cX4_line 138 = .ok (.bipush 19, 2) := dk_16 19 (dk_at dksX4_line_6 0 rfl rfl)
theorem dX4_line_140 : decode cX4_line 140 = .ok (.if_icmp .eq 9, 3) := dk_159 0 9 (dk_at dksX4_line_6 2 rfl rfl)
theorem dX4_line_143 : decode cX4_line 143 = .ok (.iload_n 1, 1) := dk_27 (dk_at dksX4_line_6 5 rfl rfl)
theorem dX4_line_144 : decode cX4_line 144 = .ok (.bipush 20, 2) := dk_16 20 (dk_at dksX4_line_6 6 rfl rfl)
theorem dX4_line_146 : decode cX4_line 146 = .ok (.if_icmp .ne 14, 3) := dk_160 0 14 (dk_at dksX4_line_6 8 rfl rfl)
theorem dX4_line_149 : decode cX4_line 149 = .ok (.aload_n 0, 1) := dk_42 (dk_at dksX4_line_6 11 rfl rfl)
theorem dX4_line_150 : decode cX4_line 150 = .ok (.iload_n 1, 1) := dk_27 (dk_at dksX4_line_6 12 rfl rfl)
theorem dX4_line_151 : decode cX4_line 151 = .ok (.bipush 19, 2) := dk_16 19 (dk_at dksX4_line_6 13 rfl rfl)
theorem dX4_line_153 : decode cX4_line 153 = .ok (.isub, 1) := dk_100 (dk_at dksX4_line_6 15 rfl rfl)
theorem dX4_line_154 : decode cX4_line 154 = .ok (.invokevirtual 264, 3) := dk_182 1 8 (dk_at dksX4_line_6 16 rfl rfl)
theorem dX4_line_157 : decode cX4_line 157 = .ok (.goto 8, 3) := dk_167 0 8 (dk_at dksX4_line_6 19 rfl rfl)
theorem dX4_line_160 : decode cX4_line 160 = .ok (.aload_n 0, 1) := dk_42 (dk_at dksX4_line_6 22 rfl rfl)
theorem dX4_line_161 : decode cX4_line 161 = .ok (.iconst 1, 1) := dk_4 (dk_at dksX4_line_6 23 rfl rfl)
theorem dX4_line_162 : decode cX4_line 162 = .ok (.invokevirtual 186, 3) := dk_182 0 186 (dk_at dksX4_line_7 0 rfl rfl)
theorem dX4_line_165 : decode cX4_line 165 = .ok (.aload_n 0, 1) := dk_42 (dk_at dksX4_line_7 3 rfl rfl)
theorem dX4_line_166 : decode cX4_line 166 = .ok (.aload_n 0, 1) := dk_42 (dk_at dksX4_line_7 4 rfl rfl)
theorem dX4_line_167 : decode cX4_line 167 = .ok (.bipush 59, 2) := dk_16 59 (dk_at dksX4_line_7 5 rfl rfl)
theorem dX4_line_169 : decode cX4_line 169 = .ok (.invokevirtual 217, 3) := dk_182 0 217 (dk_at dksX4_line_7 7 rfl rfl)
theorem dX4_line_172 : decode cX4_line 172 = .ok (.invokevirtual 267, 3) := dk_182 1 11 (dk_at dksX4_line_7 10 rfl rfl)
theorem dX4_line_175 : decode cX4_line 175 = .ok (.return_, 1) := dk_177 (dk_at dksX4_line_7 13 rfl rfl)
abbrev cX4_knownWord : ByteArray := prog_14_method_15_code
def yX4_knownWord : MethodName := ⟨RX4, "knownWord", "()I"⟩
def dkwX4_knownWord_2 : List UInt8 := [172]
abbrev dktX4_knownWord_2 : List UInt8 := dkwX4_knownWord_2 ++ []
def dkwX4_knownWord_1 : List UInt8 := [162, 0, 23, 27, 184, 0, 172, 42, 180, 0, 143, 148, 154, 0, 5, 27, 172, 132, 1, 1, 167, 255, 233, 2]
abbrev dktX4_knownWord_1 : List UInt8 := dkwX4_knownWord_1 ++ dktX4_knownWord_2
def dkwX4_knownWord_0 : List UInt8 := [42, 180, 0, 153, 4, 160, 0, 12, 42, 180, 0, 163, 16, 7, 164, 0, 5, 2, 172, 3, 60, 27, 16, 24]
abbrev dktX4_knownWord_0 : List UInt8 := dkwX4_knownWord_0 ++ dktX4_knownWord_1
theorem dksX4_knownWord_0 : cX4_knownWord.data.toList.drop 0 = dktX4_knownWord_0 := by decide +kernel
theorem dksX4_knownWord_1 : cX4_knownWord.data.toList.drop 24 = dktX4_knownWord_1 := dk_seg dksX4_knownWord_0 24 rfl rfl
theorem dksX4_knownWord_2 : cX4_knownWord.data.toList.drop 48 = dktX4_knownWord_2 := dk_seg dksX4_knownWord_1 24 rfl rfl
theorem dX4_knownWord_0 : decode cX4_knownWord 0 = .ok (.aload_n 0, 1) := dk_42 (dk_at dksX4_knownWord_0 0 rfl rfl)
theorem dX4_knownWord_1 : decode cX4_knownWord 1 = .ok (.getfield 153, 3) := dk_180 0 153 (dk_at dksX4_knownWord_0 1 rfl rfl)
theorem dX4_knownWord_4 : decode cX4_knownWord 4 = .ok (.iconst 1, 1) := dk_4 (dk_at dksX4_knownWord_0 4 rfl rfl)
theorem dX4_knownWord_5 : decode cX4_knownWord 5 = .ok (.if_icmp .ne 12, 3) := dk_160 0 12 (dk_at dksX4_knownWord_0 5 rfl rfl)
theorem dX4_knownWord_8 : decode cX4_knownWord 8 = .ok (.aload_n 0, 1) := dk_42 (dk_at dksX4_knownWord_0 8 rfl rfl)
theorem dX4_knownWord_9 : decode cX4_knownWord 9 = .ok (.getfield 163, 3) := dk_180 0 163 (dk_at dksX4_knownWord_0 9 rfl rfl)
theorem dX4_knownWord_12 : decode cX4_knownWord 12 = .ok (.bipush 7, 2) := dk_16 7 (dk_at dksX4_knownWord_0 12 rfl rfl)
theorem dX4_knownWord_14 : decode cX4_knownWord 14 = .ok (.if_icmp .le 5, 3) := dk_164 0 5 (dk_at dksX4_knownWord_0 14 rfl rfl)
theorem dX4_knownWord_17 : decode cX4_knownWord 17 = .ok (.iconst (-1), 1) := dk_2 (dk_at dksX4_knownWord_0 17 rfl rfl)
theorem dX4_knownWord_18 : decode cX4_knownWord 18 = .ok (.ireturn, 1) := dk_172 (dk_at dksX4_knownWord_0 18 rfl rfl)
theorem dX4_knownWord_19 : decode cX4_knownWord 19 = .ok (.iconst 0, 1) := dk_3 (dk_at dksX4_knownWord_0 19 rfl rfl)
theorem dX4_knownWord_20 : decode cX4_knownWord 20 = .ok (.istore_n 1, 1) := dk_60 (dk_at dksX4_knownWord_0 20 rfl rfl)
theorem dX4_knownWord_21 : decode cX4_knownWord 21 = .ok (.iload_n 1, 1) := dk_27 (dk_at dksX4_knownWord_0 21 rfl rfl)
theorem dX4_knownWord_22 : decode cX4_knownWord 22 = .ok (.bipush 24, 2) := dk_16 24 (dk_at dksX4_knownWord_0 22 rfl rfl)
theorem dX4_knownWord_24 : decode cX4_knownWord 24 = .ok (.if_icmp .ge 23, 3) := dk_162 0 23 (dk_at dksX4_knownWord_1 0 rfl rfl)
theorem dX4_knownWord_27 : decode cX4_knownWord 27 = .ok (.iload_n 1, 1) := dk_27 (dk_at dksX4_knownWord_1 3 rfl rfl)
theorem dX4_knownWord_28 : decode cX4_knownWord 28 = .ok (.invokestatic 172, 3) := dk_184 0 172 (dk_at dksX4_knownWord_1 4 rfl rfl)
theorem dX4_knownWord_31 : decode cX4_knownWord 31 = .ok (.aload_n 0, 1) := dk_42 (dk_at dksX4_knownWord_1 7 rfl rfl)
theorem dX4_knownWord_32 : decode cX4_knownWord 32 = .ok (.getfield 143, 3) := dk_180 0 143 (dk_at dksX4_knownWord_1 8 rfl rfl)
theorem dX4_knownWord_35 : decode cX4_knownWord 35 = .ok (.lcmp, 1) := dk_148 (dk_at dksX4_knownWord_1 11 rfl rfl)
theorem dX4_knownWord_36 : decode cX4_knownWord 36 = .ok (.ifCond .ne 5, 3) := dk_154 0 5 (dk_at dksX4_knownWord_1 12 rfl rfl)
theorem dX4_knownWord_39 : decode cX4_knownWord 39 = .ok (.iload_n 1, 1) := dk_27 (dk_at dksX4_knownWord_1 15 rfl rfl)
theorem dX4_knownWord_40 : decode cX4_knownWord 40 = .ok (.ireturn, 1) := dk_172 (dk_at dksX4_knownWord_1 16 rfl rfl)
theorem dX4_knownWord_41 : decode cX4_knownWord 41 = .ok (.iinc 1 1, 3) := dk_132 1 1 (dk_at dksX4_knownWord_1 17 rfl rfl)
theorem dX4_knownWord_44 : decode cX4_knownWord 44 = .ok (.goto (-23), 3) := dk_167 255 233 (dk_at dksX4_knownWord_1 20 rfl rfl)
theorem dX4_knownWord_47 : decode cX4_knownWord 47 = .ok (.iconst (-1), 1) := dk_2 (dk_at dksX4_knownWord_1 23 rfl rfl)
theorem dX4_knownWord_48 : decode cX4_knownWord 48 = .ok (.ireturn, 1) := dk_172 (dk_at dksX4_knownWord_2 0 rfl rfl)
abbrev cX4_letters : ByteArray := prog_14_method_14_code
def yX4_letters : MethodName := ⟨RX4, "letters", "(I)J"⟩
def dkwX4_letters_17 : List UInt8 := [184, 0, 168, 173, 16, 110, 16, 111, 16, 116, 3, 3, 3, 3, 184, 0, 168, 173]
abbrev dktX4_letters_17 : List UInt8 := dkwX4_letters_17 ++ []
def dkwX4_letters_16 : List UInt8 := [16, 97, 16, 110, 16, 100, 3, 3, 3, 3, 184, 0, 168, 173, 16, 111, 16, 114, 3, 3, 3, 3, 3]
abbrev dktX4_letters_16 : List UInt8 := dkwX4_letters_16 ++ dktX4_letters_17
def dkwX4_letters_15 : List UInt8 := [16, 99, 16, 101, 3, 3, 184, 0, 168, 173, 16, 97, 16, 105, 16, 109, 3, 3, 3, 3, 184, 0, 168, 173]
abbrev dktX4_letters_15 : List UInt8 := dkwX4_letters_15 ++ dktX4_letters_16
def dkwX4_letters_14 : List UInt8 := [173, 16, 101, 16, 118, 16, 101, 16, 114, 16, 121, 3, 3, 184, 0, 168, 173, 16, 116, 16, 114, 16, 117]
abbrev dktX4_letters_14 : List UInt8 := dkwX4_letters_14 ++ dktX4_letters_15
def dkwX4_letters_13 : List UInt8 := [16, 115, 3, 3, 3, 184, 0, 168, 173, 16, 112, 16, 105, 16, 101, 16, 99, 16, 101, 3, 3, 184, 0, 168]
abbrev dktX4_letters_13 : List UInt8 := dkwX4_letters_13 ++ dktX4_letters_14
def dkwX4_letters_12 : List UInt8 := [173, 16, 116, 16, 101, 16, 110, 16, 111, 16, 114, 3, 3, 184, 0, 168, 173, 16, 98, 16, 97, 16, 115]
abbrev dktX4_letters_12 : List UInt8 := dkwX4_letters_12 ++ dktX4_letters_13
def dkwX4_letters_11 : List UInt8 := [16, 97, 16, 110, 16, 111, 184, 0, 168, 173, 16, 97, 16, 108, 16, 116, 16, 111, 3, 3, 3, 184, 0, 168]
abbrev dktX4_letters_11 : List UInt8 := dkwX4_letters_11 ++ dktX4_letters_12
def dkwX4_letters_10 : List UInt8 := [16, 101, 16, 117, 16, 116, 16, 114, 16, 97, 16, 108, 184, 0, 168, 173, 16, 115, 16, 111, 16, 112, 16, 114]
abbrev dktX4_letters_10 : List UInt8 := dkwX4_letters_10 ++ dktX4_letters_11
def dkwX4_letters_9 : List UInt8 := [3, 184, 0, 168, 173, 16, 115, 16, 111, 16, 117, 16, 116, 16, 104, 3, 3, 184, 0, 168, 173, 16, 110]
abbrev dktX4_letters_9 : List UInt8 := dkwX4_letters_9 ++ dktX4_letters_10
def dkwX4_letters_8 : List UInt8 := [16, 111, 16, 110, 16, 101, 3, 3, 3, 184, 0, 168, 173, 16, 110, 16, 111, 16, 114, 16, 116, 16, 104, 3]
abbrev dktX4_letters_8 : List UInt8 := dkwX4_letters_8 ++ dktX4_letters_9
def dkwX4_letters_7 : List UInt8 := [184, 0, 168, 173, 16, 115, 16, 105, 16, 110, 16, 103, 16, 101, 16, 114, 3, 184, 0, 168, 173, 16, 116]
abbrev dktX4_letters_7 : List UInt8 := dkwX4_letters_7 ++ dktX4_letters_8
def dkwX4_letters_6 : List UInt8 := [16, 105, 16, 108, 16, 108, 3, 3, 184, 0, 168, 173, 16, 112, 16, 97, 16, 114, 16, 116, 3, 3, 3]
abbrev dktX4_letters_6 : List UInt8 := dkwX4_letters_6 ++ dktX4_letters_7
def dkwX4_letters_5 : List UInt8 := [3, 184, 0, 168, 173, 16, 99, 16, 97, 16, 110, 3, 3, 3, 3, 184, 0, 168, 173, 16, 115, 16, 107]
abbrev dktX4_letters_5 : List UInt8 := dkwX4_letters_5 ++ dktX4_letters_6
def dkwX4_letters_4 : List UInt8 := [16, 104, 16, 101, 16, 114, 3, 3, 184, 0, 168, 173, 16, 102, 16, 97, 16, 108, 16, 108, 16, 101, 16, 110]
abbrev dktX4_letters_4 : List UInt8 := dkwX4_letters_4 ++ dktX4_letters_5
def dkwX4_letters_3 : List UInt8 := [3, 184, 0, 168, 173, 16, 111, 16, 119, 16, 110, 3, 3, 3, 3, 184, 0, 168, 173, 16, 111, 16, 116]
abbrev dktX4_letters_3 : List UInt8 := dkwX4_letters_3 ++ dktX4_letters_4
def dkwX4_letters_2 : List UInt8 := [16, 100, 16, 97, 16, 121, 3, 3, 3, 3, 184, 0, 168, 173, 16, 115, 16, 117, 16, 110, 16, 103, 3, 3]
abbrev dktX4_letters_2 : List UInt8 := dkwX4_letters_2 ++ dktX4_letters_3
def dkwX4_letters_1 : List UInt8 := [170, 0, 0, 0, 0, 1, 207, 0, 0, 0, 0, 0, 0, 0, 22, 0, 0, 0, 107, 0, 0, 0, 121, 0, 0, 0, 136, 0, 0, 0, 150, 0, 0, 0, 166, 0, 0, 0, 183, 0, 0, 0, 197, 0, 0, 0, 213, 0, 0, 0, 228, 0, 0, 0, 245, 0, 0, 1, 4, 0, 0, 1, 20, 0, 0, 1, 36, 0, 0, 1, 54, 0, 0, 1, 72, 0, 0, 1, 87, 0, 0, 1, 103, 0, 0, 1, 118, 0, 0, 1, 134, 0, 0, 1, 150, 0, 0, 1, 166, 0, 0, 1, 180, 0, 0, 1, 194]
abbrev dktX4_letters_1 : List UInt8 := dkwX4_letters_1 ++ dktX4_letters_2
def dkwX4_letters_0 : List UInt8 := [26]
abbrev dktX4_letters_0 : List UInt8 := dkwX4_letters_0 ++ dktX4_letters_1
theorem dksX4_letters_0 : cX4_letters.data.toList.drop 0 = dktX4_letters_0 := by decide +kernel
theorem dksX4_letters_1 : cX4_letters.data.toList.drop 1 = dktX4_letters_1 := dk_seg dksX4_letters_0 1 rfl rfl
theorem dksX4_letters_2 : cX4_letters.data.toList.drop 108 = dktX4_letters_2 := dk_seg dksX4_letters_1 107 rfl rfl
theorem dksX4_letters_3 : cX4_letters.data.toList.drop 132 = dktX4_letters_3 := dk_seg dksX4_letters_2 24 rfl rfl
theorem dksX4_letters_4 : cX4_letters.data.toList.drop 155 = dktX4_letters_4 := dk_seg dksX4_letters_3 23 rfl rfl
theorem dksX4_letters_5 : cX4_letters.data.toList.drop 179 = dktX4_letters_5 := dk_seg dksX4_letters_4 24 rfl rfl
theorem dksX4_letters_6 : cX4_letters.data.toList.drop 202 = dktX4_letters_6 := dk_seg dksX4_letters_5 23 rfl rfl
theorem dksX4_letters_7 : cX4_letters.data.toList.drop 225 = dktX4_letters_7 := dk_seg dksX4_letters_6 23 rfl rfl
theorem dksX4_letters_8 : cX4_letters.data.toList.drop 248 = dktX4_letters_8 := dk_seg dksX4_letters_7 23 rfl rfl
theorem dksX4_letters_9 : cX4_letters.data.toList.drop 272 = dktX4_letters_9 := dk_seg dksX4_letters_8 24 rfl rfl
theorem dksX4_letters_10 : cX4_letters.data.toList.drop 295 = dktX4_letters_10 := dk_seg dksX4_letters_9 23 rfl rfl
theorem dksX4_letters_11 : cX4_letters.data.toList.drop 319 = dktX4_letters_11 := dk_seg dksX4_letters_10 24 rfl rfl
theorem dksX4_letters_12 : cX4_letters.data.toList.drop 343 = dktX4_letters_12 := dk_seg dksX4_letters_11 24 rfl rfl
theorem dksX4_letters_13 : cX4_letters.data.toList.drop 366 = dktX4_letters_13 := dk_seg dksX4_letters_12 23 rfl rfl
theorem dksX4_letters_14 : cX4_letters.data.toList.drop 390 = dktX4_letters_14 := dk_seg dksX4_letters_13 24 rfl rfl
theorem dksX4_letters_15 : cX4_letters.data.toList.drop 413 = dktX4_letters_15 := dk_seg dksX4_letters_14 23 rfl rfl
theorem dksX4_letters_16 : cX4_letters.data.toList.drop 437 = dktX4_letters_16 := dk_seg dksX4_letters_15 24 rfl rfl
theorem dksX4_letters_17 : cX4_letters.data.toList.drop 460 = dktX4_letters_17 := dk_seg dksX4_letters_16 23 rfl rfl
theorem dX4_letters_0 : decode cX4_letters 0 = .ok (.iload_n 0, 1) := dk_26 (dk_at dksX4_letters_0 0 rfl rfl)
theorem dX4_letters_1 : decode cX4_letters 1 = .ok (.tableswitch 463 0 22 #[107, 121, 136, 150, 166, 183, 197, 213, 228, 245, 260, 276, 292, 310, 328, 343, 359, 374, 390, 406, 422, 436, 450], 107) := by decide +kernel
theorem dX4_letters_108 : decode cX4_letters 108 = .ok (.bipush 100, 2) := dk_16 100 (dk_at dksX4_letters_2 0 rfl rfl)
theorem dX4_letters_110 : decode cX4_letters 110 = .ok (.bipush 97, 2) := dk_16 97 (dk_at dksX4_letters_2 2 rfl rfl)
theorem dX4_letters_112 : decode cX4_letters 112 = .ok (.bipush 121, 2) := dk_16 121 (dk_at dksX4_letters_2 4 rfl rfl)
theorem dX4_letters_114 : decode cX4_letters 114 = .ok (.iconst 0, 1) := dk_3 (dk_at dksX4_letters_2 6 rfl rfl)
theorem dX4_letters_115 : decode cX4_letters 115 = .ok (.iconst 0, 1) := dk_3 (dk_at dksX4_letters_2 7 rfl rfl)
theorem dX4_letters_116 : decode cX4_letters 116 = .ok (.iconst 0, 1) := dk_3 (dk_at dksX4_letters_2 8 rfl rfl)
theorem dX4_letters_117 : decode cX4_letters 117 = .ok (.iconst 0, 1) := dk_3 (dk_at dksX4_letters_2 9 rfl rfl)
theorem dX4_letters_118 : decode cX4_letters 118 = .ok (.invokestatic 168, 3) := dk_184 0 168 (dk_at dksX4_letters_2 10 rfl rfl)
theorem dX4_letters_121 : decode cX4_letters 121 = .ok (.lreturn, 1) := dk_173 (dk_at dksX4_letters_2 13 rfl rfl)
theorem dX4_letters_122 : decode cX4_letters 122 = .ok (.bipush 115, 2) := dk_16 115 (dk_at dksX4_letters_2 14 rfl rfl)
theorem dX4_letters_124 : decode cX4_letters 124 = .ok (.bipush 117, 2) := dk_16 117 (dk_at dksX4_letters_2 16 rfl rfl)
theorem dX4_letters_126 : decode cX4_letters 126 = .ok (.bipush 110, 2) := dk_16 110 (dk_at dksX4_letters_2 18 rfl rfl)
theorem dX4_letters_128 : decode cX4_letters 128 = .ok (.bipush 103, 2) := dk_16 103 (dk_at dksX4_letters_2 20 rfl rfl)
theorem dX4_letters_130 : decode cX4_letters 130 = .ok (.iconst 0, 1) := dk_3 (dk_at dksX4_letters_2 22 rfl rfl)
theorem dX4_letters_131 : decode cX4_letters 131 = .ok (.iconst 0, 1) := dk_3 (dk_at dksX4_letters_2 23 rfl rfl)
theorem dX4_letters_132 : decode cX4_letters 132 = .ok (.iconst 0, 1) := dk_3 (dk_at dksX4_letters_3 0 rfl rfl)
theorem dX4_letters_133 : decode cX4_letters 133 = .ok (.invokestatic 168, 3) := dk_184 0 168 (dk_at dksX4_letters_3 1 rfl rfl)
theorem dX4_letters_136 : decode cX4_letters 136 = .ok (.lreturn, 1) := dk_173 (dk_at dksX4_letters_3 4 rfl rfl)
theorem dX4_letters_137 : decode cX4_letters 137 = .ok (.bipush 111, 2) := dk_16 111 (dk_at dksX4_letters_3 5 rfl rfl)
theorem dX4_letters_139 : decode cX4_letters 139 = .ok (.bipush 119, 2) := dk_16 119 (dk_at dksX4_letters_3 7 rfl rfl)
theorem dX4_letters_141 : decode cX4_letters 141 = .ok (.bipush 110, 2) := dk_16 110 (dk_at dksX4_letters_3 9 rfl rfl)
theorem dX4_letters_143 : decode cX4_letters 143 = .ok (.iconst 0, 1) := dk_3 (dk_at dksX4_letters_3 11 rfl rfl)
theorem dX4_letters_144 : decode cX4_letters 144 = .ok (.iconst 0, 1) := dk_3 (dk_at dksX4_letters_3 12 rfl rfl)
theorem dX4_letters_145 : decode cX4_letters 145 = .ok (.iconst 0, 1) := dk_3 (dk_at dksX4_letters_3 13 rfl rfl)
theorem dX4_letters_146 : decode cX4_letters 146 = .ok (.iconst 0, 1) := dk_3 (dk_at dksX4_letters_3 14 rfl rfl)
theorem dX4_letters_147 : decode cX4_letters 147 = .ok (.invokestatic 168, 3) := dk_184 0 168 (dk_at dksX4_letters_3 15 rfl rfl)
theorem dX4_letters_150 : decode cX4_letters 150 = .ok (.lreturn, 1) := dk_173 (dk_at dksX4_letters_3 18 rfl rfl)
theorem dX4_letters_151 : decode cX4_letters 151 = .ok (.bipush 111, 2) := dk_16 111 (dk_at dksX4_letters_3 19 rfl rfl)
theorem dX4_letters_153 : decode cX4_letters 153 = .ok (.bipush 116, 2) := dk_16 116 (dk_at dksX4_letters_3 21 rfl rfl)
theorem dX4_letters_155 : decode cX4_letters 155 = .ok (.bipush 104, 2) := dk_16 104 (dk_at dksX4_letters_4 0 rfl rfl)
theorem dX4_letters_157 : decode cX4_letters 157 = .ok (.bipush 101, 2) := dk_16 101 (dk_at dksX4_letters_4 2 rfl rfl)
theorem dX4_letters_159 : decode cX4_letters 159 = .ok (.bipush 114, 2) := dk_16 114 (dk_at dksX4_letters_4 4 rfl rfl)
theorem dX4_letters_161 : decode cX4_letters 161 = .ok (.iconst 0, 1) := dk_3 (dk_at dksX4_letters_4 6 rfl rfl)
theorem dX4_letters_162 : decode cX4_letters 162 = .ok (.iconst 0, 1) := dk_3 (dk_at dksX4_letters_4 7 rfl rfl)
theorem dX4_letters_163 : decode cX4_letters 163 = .ok (.invokestatic 168, 3) := dk_184 0 168 (dk_at dksX4_letters_4 8 rfl rfl)
theorem dX4_letters_166 : decode cX4_letters 166 = .ok (.lreturn, 1) := dk_173 (dk_at dksX4_letters_4 11 rfl rfl)
theorem dX4_letters_167 : decode cX4_letters 167 = .ok (.bipush 102, 2) := dk_16 102 (dk_at dksX4_letters_4 12 rfl rfl)
theorem dX4_letters_169 : decode cX4_letters 169 = .ok (.bipush 97, 2) := dk_16 97 (dk_at dksX4_letters_4 14 rfl rfl)
theorem dX4_letters_171 : decode cX4_letters 171 = .ok (.bipush 108, 2) := dk_16 108 (dk_at dksX4_letters_4 16 rfl rfl)
theorem dX4_letters_173 : decode cX4_letters 173 = .ok (.bipush 108, 2) := dk_16 108 (dk_at dksX4_letters_4 18 rfl rfl)
theorem dX4_letters_175 : decode cX4_letters 175 = .ok (.bipush 101, 2) := dk_16 101 (dk_at dksX4_letters_4 20 rfl rfl)
theorem dX4_letters_177 : decode cX4_letters 177 = .ok (.bipush 110, 2) := dk_16 110 (dk_at dksX4_letters_4 22 rfl rfl)
theorem dX4_letters_179 : decode cX4_letters 179 = .ok (.iconst 0, 1) := dk_3 (dk_at dksX4_letters_5 0 rfl rfl)
theorem dX4_letters_180 : decode cX4_letters 180 = .ok (.invokestatic 168, 3) := dk_184 0 168 (dk_at dksX4_letters_5 1 rfl rfl)
theorem dX4_letters_183 : decode cX4_letters 183 = .ok (.lreturn, 1) := dk_173 (dk_at dksX4_letters_5 4 rfl rfl)
theorem dX4_letters_184 : decode cX4_letters 184 = .ok (.bipush 99, 2) := dk_16 99 (dk_at dksX4_letters_5 5 rfl rfl)
theorem dX4_letters_186 : decode cX4_letters 186 = .ok (.bipush 97, 2) := dk_16 97 (dk_at dksX4_letters_5 7 rfl rfl)
theorem dX4_letters_188 : decode cX4_letters 188 = .ok (.bipush 110, 2) := dk_16 110 (dk_at dksX4_letters_5 9 rfl rfl)
theorem dX4_letters_190 : decode cX4_letters 190 = .ok (.iconst 0, 1) := dk_3 (dk_at dksX4_letters_5 11 rfl rfl)
theorem dX4_letters_191 : decode cX4_letters 191 = .ok (.iconst 0, 1) := dk_3 (dk_at dksX4_letters_5 12 rfl rfl)
theorem dX4_letters_192 : decode cX4_letters 192 = .ok (.iconst 0, 1) := dk_3 (dk_at dksX4_letters_5 13 rfl rfl)
theorem dX4_letters_193 : decode cX4_letters 193 = .ok (.iconst 0, 1) := dk_3 (dk_at dksX4_letters_5 14 rfl rfl)
theorem dX4_letters_194 : decode cX4_letters 194 = .ok (.invokestatic 168, 3) := dk_184 0 168 (dk_at dksX4_letters_5 15 rfl rfl)
theorem dX4_letters_197 : decode cX4_letters 197 = .ok (.lreturn, 1) := dk_173 (dk_at dksX4_letters_5 18 rfl rfl)
theorem dX4_letters_198 : decode cX4_letters 198 = .ok (.bipush 115, 2) := dk_16 115 (dk_at dksX4_letters_5 19 rfl rfl)
theorem dX4_letters_200 : decode cX4_letters 200 = .ok (.bipush 107, 2) := dk_16 107 (dk_at dksX4_letters_5 21 rfl rfl)
theorem dX4_letters_202 : decode cX4_letters 202 = .ok (.bipush 105, 2) := dk_16 105 (dk_at dksX4_letters_6 0 rfl rfl)
theorem dX4_letters_204 : decode cX4_letters 204 = .ok (.bipush 108, 2) := dk_16 108 (dk_at dksX4_letters_6 2 rfl rfl)
theorem dX4_letters_206 : decode cX4_letters 206 = .ok (.bipush 108, 2) := dk_16 108 (dk_at dksX4_letters_6 4 rfl rfl)
theorem dX4_letters_208 : decode cX4_letters 208 = .ok (.iconst 0, 1) := dk_3 (dk_at dksX4_letters_6 6 rfl rfl)
theorem dX4_letters_209 : decode cX4_letters 209 = .ok (.iconst 0, 1) := dk_3 (dk_at dksX4_letters_6 7 rfl rfl)
theorem dX4_letters_210 : decode cX4_letters 210 = .ok (.invokestatic 168, 3) := dk_184 0 168 (dk_at dksX4_letters_6 8 rfl rfl)
theorem dX4_letters_213 : decode cX4_letters 213 = .ok (.lreturn, 1) := dk_173 (dk_at dksX4_letters_6 11 rfl rfl)
theorem dX4_letters_214 : decode cX4_letters 214 = .ok (.bipush 112, 2) := dk_16 112 (dk_at dksX4_letters_6 12 rfl rfl)
theorem dX4_letters_216 : decode cX4_letters 216 = .ok (.bipush 97, 2) := dk_16 97 (dk_at dksX4_letters_6 14 rfl rfl)
theorem dX4_letters_218 : decode cX4_letters 218 = .ok (.bipush 114, 2) := dk_16 114 (dk_at dksX4_letters_6 16 rfl rfl)
theorem dX4_letters_220 : decode cX4_letters 220 = .ok (.bipush 116, 2) := dk_16 116 (dk_at dksX4_letters_6 18 rfl rfl)
theorem dX4_letters_222 : decode cX4_letters 222 = .ok (.iconst 0, 1) := dk_3 (dk_at dksX4_letters_6 20 rfl rfl)
theorem dX4_letters_223 : decode cX4_letters 223 = .ok (.iconst 0, 1) := dk_3 (dk_at dksX4_letters_6 21 rfl rfl)
theorem dX4_letters_224 : decode cX4_letters 224 = .ok (.iconst 0, 1) := dk_3 (dk_at dksX4_letters_6 22 rfl rfl)
theorem dX4_letters_225 : decode cX4_letters 225 = .ok (.invokestatic 168, 3) := dk_184 0 168 (dk_at dksX4_letters_7 0 rfl rfl)
theorem dX4_letters_228 : decode cX4_letters 228 = .ok (.lreturn, 1) := dk_173 (dk_at dksX4_letters_7 3 rfl rfl)
theorem dX4_letters_229 : decode cX4_letters 229 = .ok (.bipush 115, 2) := dk_16 115 (dk_at dksX4_letters_7 4 rfl rfl)
theorem dX4_letters_231 : decode cX4_letters 231 = .ok (.bipush 105, 2) := dk_16 105 (dk_at dksX4_letters_7 6 rfl rfl)
theorem dX4_letters_233 : decode cX4_letters 233 = .ok (.bipush 110, 2) := dk_16 110 (dk_at dksX4_letters_7 8 rfl rfl)
theorem dX4_letters_235 : decode cX4_letters 235 = .ok (.bipush 103, 2) := dk_16 103 (dk_at dksX4_letters_7 10 rfl rfl)
theorem dX4_letters_237 : decode cX4_letters 237 = .ok (.bipush 101, 2) := dk_16 101 (dk_at dksX4_letters_7 12 rfl rfl)
theorem dX4_letters_239 : decode cX4_letters 239 = .ok (.bipush 114, 2) := dk_16 114 (dk_at dksX4_letters_7 14 rfl rfl)
theorem dX4_letters_241 : decode cX4_letters 241 = .ok (.iconst 0, 1) := dk_3 (dk_at dksX4_letters_7 16 rfl rfl)
theorem dX4_letters_242 : decode cX4_letters 242 = .ok (.invokestatic 168, 3) := dk_184 0 168 (dk_at dksX4_letters_7 17 rfl rfl)
theorem dX4_letters_245 : decode cX4_letters 245 = .ok (.lreturn, 1) := dk_173 (dk_at dksX4_letters_7 20 rfl rfl)
theorem dX4_letters_246 : decode cX4_letters 246 = .ok (.bipush 116, 2) := dk_16 116 (dk_at dksX4_letters_7 21 rfl rfl)
theorem dX4_letters_248 : decode cX4_letters 248 = .ok (.bipush 111, 2) := dk_16 111 (dk_at dksX4_letters_8 0 rfl rfl)
theorem dX4_letters_250 : decode cX4_letters 250 = .ok (.bipush 110, 2) := dk_16 110 (dk_at dksX4_letters_8 2 rfl rfl)
theorem dX4_letters_252 : decode cX4_letters 252 = .ok (.bipush 101, 2) := dk_16 101 (dk_at dksX4_letters_8 4 rfl rfl)
theorem dX4_letters_254 : decode cX4_letters 254 = .ok (.iconst 0, 1) := dk_3 (dk_at dksX4_letters_8 6 rfl rfl)
theorem dX4_letters_255 : decode cX4_letters 255 = .ok (.iconst 0, 1) := dk_3 (dk_at dksX4_letters_8 7 rfl rfl)
theorem dX4_letters_256 : decode cX4_letters 256 = .ok (.iconst 0, 1) := dk_3 (dk_at dksX4_letters_8 8 rfl rfl)
theorem dX4_letters_257 : decode cX4_letters 257 = .ok (.invokestatic 168, 3) := dk_184 0 168 (dk_at dksX4_letters_8 9 rfl rfl)
theorem dX4_letters_260 : decode cX4_letters 260 = .ok (.lreturn, 1) := dk_173 (dk_at dksX4_letters_8 12 rfl rfl)
theorem dX4_letters_261 : decode cX4_letters 261 = .ok (.bipush 110, 2) := dk_16 110 (dk_at dksX4_letters_8 13 rfl rfl)
theorem dX4_letters_263 : decode cX4_letters 263 = .ok (.bipush 111, 2) := dk_16 111 (dk_at dksX4_letters_8 15 rfl rfl)
theorem dX4_letters_265 : decode cX4_letters 265 = .ok (.bipush 114, 2) := dk_16 114 (dk_at dksX4_letters_8 17 rfl rfl)
theorem dX4_letters_267 : decode cX4_letters 267 = .ok (.bipush 116, 2) := dk_16 116 (dk_at dksX4_letters_8 19 rfl rfl)
theorem dX4_letters_269 : decode cX4_letters 269 = .ok (.bipush 104, 2) := dk_16 104 (dk_at dksX4_letters_8 21 rfl rfl)
theorem dX4_letters_271 : decode cX4_letters 271 = .ok (.iconst 0, 1) := dk_3 (dk_at dksX4_letters_8 23 rfl rfl)
theorem dX4_letters_272 : decode cX4_letters 272 = .ok (.iconst 0, 1) := dk_3 (dk_at dksX4_letters_9 0 rfl rfl)
theorem dX4_letters_273 : decode cX4_letters 273 = .ok (.invokestatic 168, 3) := dk_184 0 168 (dk_at dksX4_letters_9 1 rfl rfl)
theorem dX4_letters_276 : decode cX4_letters 276 = .ok (.lreturn, 1) := dk_173 (dk_at dksX4_letters_9 4 rfl rfl)
theorem dX4_letters_277 : decode cX4_letters 277 = .ok (.bipush 115, 2) := dk_16 115 (dk_at dksX4_letters_9 5 rfl rfl)
theorem dX4_letters_279 : decode cX4_letters 279 = .ok (.bipush 111, 2) := dk_16 111 (dk_at dksX4_letters_9 7 rfl rfl)
theorem dX4_letters_281 : decode cX4_letters 281 = .ok (.bipush 117, 2) := dk_16 117 (dk_at dksX4_letters_9 9 rfl rfl)
theorem dX4_letters_283 : decode cX4_letters 283 = .ok (.bipush 116, 2) := dk_16 116 (dk_at dksX4_letters_9 11 rfl rfl)
theorem dX4_letters_285 : decode cX4_letters 285 = .ok (.bipush 104, 2) := dk_16 104 (dk_at dksX4_letters_9 13 rfl rfl)
theorem dX4_letters_287 : decode cX4_letters 287 = .ok (.iconst 0, 1) := dk_3 (dk_at dksX4_letters_9 15 rfl rfl)
theorem dX4_letters_288 : decode cX4_letters 288 = .ok (.iconst 0, 1) := dk_3 (dk_at dksX4_letters_9 16 rfl rfl)
theorem dX4_letters_289 : decode cX4_letters 289 = .ok (.invokestatic 168, 3) := dk_184 0 168 (dk_at dksX4_letters_9 17 rfl rfl)
theorem dX4_letters_292 : decode cX4_letters 292 = .ok (.lreturn, 1) := dk_173 (dk_at dksX4_letters_9 20 rfl rfl)
theorem dX4_letters_293 : decode cX4_letters 293 = .ok (.bipush 110, 2) := dk_16 110 (dk_at dksX4_letters_9 21 rfl rfl)
theorem dX4_letters_295 : decode cX4_letters 295 = .ok (.bipush 101, 2) := dk_16 101 (dk_at dksX4_letters_10 0 rfl rfl)
theorem dX4_letters_297 : decode cX4_letters 297 = .ok (.bipush 117, 2) := dk_16 117 (dk_at dksX4_letters_10 2 rfl rfl)
theorem dX4_letters_299 : decode cX4_letters 299 = .ok (.bipush 116, 2) := dk_16 116 (dk_at dksX4_letters_10 4 rfl rfl)
theorem dX4_letters_301 : decode cX4_letters 301 = .ok (.bipush 114, 2) := dk_16 114 (dk_at dksX4_letters_10 6 rfl rfl)
theorem dX4_letters_303 : decode cX4_letters 303 = .ok (.bipush 97, 2) := dk_16 97 (dk_at dksX4_letters_10 8 rfl rfl)
theorem dX4_letters_305 : decode cX4_letters 305 = .ok (.bipush 108, 2) := dk_16 108 (dk_at dksX4_letters_10 10 rfl rfl)
theorem dX4_letters_307 : decode cX4_letters 307 = .ok (.invokestatic 168, 3) := dk_184 0 168 (dk_at dksX4_letters_10 12 rfl rfl)
theorem dX4_letters_310 : decode cX4_letters 310 = .ok (.lreturn, 1) := dk_173 (dk_at dksX4_letters_10 15 rfl rfl)
theorem dX4_letters_311 : decode cX4_letters 311 = .ok (.bipush 115, 2) := dk_16 115 (dk_at dksX4_letters_10 16 rfl rfl)
theorem dX4_letters_313 : decode cX4_letters 313 = .ok (.bipush 111, 2) := dk_16 111 (dk_at dksX4_letters_10 18 rfl rfl)
theorem dX4_letters_315 : decode cX4_letters 315 = .ok (.bipush 112, 2) := dk_16 112 (dk_at dksX4_letters_10 20 rfl rfl)
theorem dX4_letters_317 : decode cX4_letters 317 = .ok (.bipush 114, 2) := dk_16 114 (dk_at dksX4_letters_10 22 rfl rfl)
theorem dX4_letters_319 : decode cX4_letters 319 = .ok (.bipush 97, 2) := dk_16 97 (dk_at dksX4_letters_11 0 rfl rfl)
theorem dX4_letters_321 : decode cX4_letters 321 = .ok (.bipush 110, 2) := dk_16 110 (dk_at dksX4_letters_11 2 rfl rfl)
theorem dX4_letters_323 : decode cX4_letters 323 = .ok (.bipush 111, 2) := dk_16 111 (dk_at dksX4_letters_11 4 rfl rfl)
theorem dX4_letters_325 : decode cX4_letters 325 = .ok (.invokestatic 168, 3) := dk_184 0 168 (dk_at dksX4_letters_11 6 rfl rfl)
theorem dX4_letters_328 : decode cX4_letters 328 = .ok (.lreturn, 1) := dk_173 (dk_at dksX4_letters_11 9 rfl rfl)
theorem dX4_letters_329 : decode cX4_letters 329 = .ok (.bipush 97, 2) := dk_16 97 (dk_at dksX4_letters_11 10 rfl rfl)
theorem dX4_letters_331 : decode cX4_letters 331 = .ok (.bipush 108, 2) := dk_16 108 (dk_at dksX4_letters_11 12 rfl rfl)
theorem dX4_letters_333 : decode cX4_letters 333 = .ok (.bipush 116, 2) := dk_16 116 (dk_at dksX4_letters_11 14 rfl rfl)
theorem dX4_letters_335 : decode cX4_letters 335 = .ok (.bipush 111, 2) := dk_16 111 (dk_at dksX4_letters_11 16 rfl rfl)
theorem dX4_letters_337 : decode cX4_letters 337 = .ok (.iconst 0, 1) := dk_3 (dk_at dksX4_letters_11 18 rfl rfl)
theorem dX4_letters_338 : decode cX4_letters 338 = .ok (.iconst 0, 1) := dk_3 (dk_at dksX4_letters_11 19 rfl rfl)
theorem dX4_letters_339 : decode cX4_letters 339 = .ok (.iconst 0, 1) := dk_3 (dk_at dksX4_letters_11 20 rfl rfl)
theorem dX4_letters_340 : decode cX4_letters 340 = .ok (.invokestatic 168, 3) := dk_184 0 168 (dk_at dksX4_letters_11 21 rfl rfl)
theorem dX4_letters_343 : decode cX4_letters 343 = .ok (.lreturn, 1) := dk_173 (dk_at dksX4_letters_12 0 rfl rfl)
theorem dX4_letters_344 : decode cX4_letters 344 = .ok (.bipush 116, 2) := dk_16 116 (dk_at dksX4_letters_12 1 rfl rfl)
theorem dX4_letters_346 : decode cX4_letters 346 = .ok (.bipush 101, 2) := dk_16 101 (dk_at dksX4_letters_12 3 rfl rfl)
theorem dX4_letters_348 : decode cX4_letters 348 = .ok (.bipush 110, 2) := dk_16 110 (dk_at dksX4_letters_12 5 rfl rfl)
theorem dX4_letters_350 : decode cX4_letters 350 = .ok (.bipush 111, 2) := dk_16 111 (dk_at dksX4_letters_12 7 rfl rfl)
theorem dX4_letters_352 : decode cX4_letters 352 = .ok (.bipush 114, 2) := dk_16 114 (dk_at dksX4_letters_12 9 rfl rfl)
theorem dX4_letters_354 : decode cX4_letters 354 = .ok (.iconst 0, 1) := dk_3 (dk_at dksX4_letters_12 11 rfl rfl)
theorem dX4_letters_355 : decode cX4_letters 355 = .ok (.iconst 0, 1) := dk_3 (dk_at dksX4_letters_12 12 rfl rfl)
theorem dX4_letters_356 : decode cX4_letters 356 = .ok (.invokestatic 168, 3) := dk_184 0 168 (dk_at dksX4_letters_12 13 rfl rfl)
theorem dX4_letters_359 : decode cX4_letters 359 = .ok (.lreturn, 1) := dk_173 (dk_at dksX4_letters_12 16 rfl rfl)
theorem dX4_letters_360 : decode cX4_letters 360 = .ok (.bipush 98, 2) := dk_16 98 (dk_at dksX4_letters_12 17 rfl rfl)
theorem dX4_letters_362 : decode cX4_letters 362 = .ok (.bipush 97, 2) := dk_16 97 (dk_at dksX4_letters_12 19 rfl rfl)
theorem dX4_letters_364 : decode cX4_letters 364 = .ok (.bipush 115, 2) := dk_16 115 (dk_at dksX4_letters_12 21 rfl rfl)
theorem dX4_letters_366 : decode cX4_letters 366 = .ok (.bipush 115, 2) := dk_16 115 (dk_at dksX4_letters_13 0 rfl rfl)
theorem dX4_letters_368 : decode cX4_letters 368 = .ok (.iconst 0, 1) := dk_3 (dk_at dksX4_letters_13 2 rfl rfl)
theorem dX4_letters_369 : decode cX4_letters 369 = .ok (.iconst 0, 1) := dk_3 (dk_at dksX4_letters_13 3 rfl rfl)
theorem dX4_letters_370 : decode cX4_letters 370 = .ok (.iconst 0, 1) := dk_3 (dk_at dksX4_letters_13 4 rfl rfl)
theorem dX4_letters_371 : decode cX4_letters 371 = .ok (.invokestatic 168, 3) := dk_184 0 168 (dk_at dksX4_letters_13 5 rfl rfl)
theorem dX4_letters_374 : decode cX4_letters 374 = .ok (.lreturn, 1) := dk_173 (dk_at dksX4_letters_13 8 rfl rfl)
theorem dX4_letters_375 : decode cX4_letters 375 = .ok (.bipush 112, 2) := dk_16 112 (dk_at dksX4_letters_13 9 rfl rfl)
theorem dX4_letters_377 : decode cX4_letters 377 = .ok (.bipush 105, 2) := dk_16 105 (dk_at dksX4_letters_13 11 rfl rfl)
theorem dX4_letters_379 : decode cX4_letters 379 = .ok (.bipush 101, 2) := dk_16 101 (dk_at dksX4_letters_13 13 rfl rfl)
theorem dX4_letters_381 : decode cX4_letters 381 = .ok (.bipush 99, 2) := dk_16 99 (dk_at dksX4_letters_13 15 rfl rfl)
theorem dX4_letters_383 : decode cX4_letters 383 = .ok (.bipush 101, 2) := dk_16 101 (dk_at dksX4_letters_13 17 rfl rfl)
theorem dX4_letters_385 : decode cX4_letters 385 = .ok (.iconst 0, 1) := dk_3 (dk_at dksX4_letters_13 19 rfl rfl)
theorem dX4_letters_386 : decode cX4_letters 386 = .ok (.iconst 0, 1) := dk_3 (dk_at dksX4_letters_13 20 rfl rfl)
theorem dX4_letters_387 : decode cX4_letters 387 = .ok (.invokestatic 168, 3) := dk_184 0 168 (dk_at dksX4_letters_13 21 rfl rfl)
theorem dX4_letters_390 : decode cX4_letters 390 = .ok (.lreturn, 1) := dk_173 (dk_at dksX4_letters_14 0 rfl rfl)
theorem dX4_letters_391 : decode cX4_letters 391 = .ok (.bipush 101, 2) := dk_16 101 (dk_at dksX4_letters_14 1 rfl rfl)
theorem dX4_letters_393 : decode cX4_letters 393 = .ok (.bipush 118, 2) := dk_16 118 (dk_at dksX4_letters_14 3 rfl rfl)
theorem dX4_letters_395 : decode cX4_letters 395 = .ok (.bipush 101, 2) := dk_16 101 (dk_at dksX4_letters_14 5 rfl rfl)
theorem dX4_letters_397 : decode cX4_letters 397 = .ok (.bipush 114, 2) := dk_16 114 (dk_at dksX4_letters_14 7 rfl rfl)
theorem dX4_letters_399 : decode cX4_letters 399 = .ok (.bipush 121, 2) := dk_16 121 (dk_at dksX4_letters_14 9 rfl rfl)
theorem dX4_letters_401 : decode cX4_letters 401 = .ok (.iconst 0, 1) := dk_3 (dk_at dksX4_letters_14 11 rfl rfl)
theorem dX4_letters_402 : decode cX4_letters 402 = .ok (.iconst 0, 1) := dk_3 (dk_at dksX4_letters_14 12 rfl rfl)
theorem dX4_letters_403 : decode cX4_letters 403 = .ok (.invokestatic 168, 3) := dk_184 0 168 (dk_at dksX4_letters_14 13 rfl rfl)
theorem dX4_letters_406 : decode cX4_letters 406 = .ok (.lreturn, 1) := dk_173 (dk_at dksX4_letters_14 16 rfl rfl)
theorem dX4_letters_407 : decode cX4_letters 407 = .ok (.bipush 116, 2) := dk_16 116 (dk_at dksX4_letters_14 17 rfl rfl)
theorem dX4_letters_409 : decode cX4_letters 409 = .ok (.bipush 114, 2) := dk_16 114 (dk_at dksX4_letters_14 19 rfl rfl)
theorem dX4_letters_411 : decode cX4_letters 411 = .ok (.bipush 117, 2) := dk_16 117 (dk_at dksX4_letters_14 21 rfl rfl)
theorem dX4_letters_413 : decode cX4_letters 413 = .ok (.bipush 99, 2) := dk_16 99 (dk_at dksX4_letters_15 0 rfl rfl)
theorem dX4_letters_415 : decode cX4_letters 415 = .ok (.bipush 101, 2) := dk_16 101 (dk_at dksX4_letters_15 2 rfl rfl)
theorem dX4_letters_417 : decode cX4_letters 417 = .ok (.iconst 0, 1) := dk_3 (dk_at dksX4_letters_15 4 rfl rfl)
theorem dX4_letters_418 : decode cX4_letters 418 = .ok (.iconst 0, 1) := dk_3 (dk_at dksX4_letters_15 5 rfl rfl)
theorem dX4_letters_419 : decode cX4_letters 419 = .ok (.invokestatic 168, 3) := dk_184 0 168 (dk_at dksX4_letters_15 6 rfl rfl)
theorem dX4_letters_422 : decode cX4_letters 422 = .ok (.lreturn, 1) := dk_173 (dk_at dksX4_letters_15 9 rfl rfl)
theorem dX4_letters_423 : decode cX4_letters 423 = .ok (.bipush 97, 2) := dk_16 97 (dk_at dksX4_letters_15 10 rfl rfl)
theorem dX4_letters_425 : decode cX4_letters 425 = .ok (.bipush 105, 2) := dk_16 105 (dk_at dksX4_letters_15 12 rfl rfl)
theorem dX4_letters_427 : decode cX4_letters 427 = .ok (.bipush 109, 2) := dk_16 109 (dk_at dksX4_letters_15 14 rfl rfl)
theorem dX4_letters_429 : decode cX4_letters 429 = .ok (.iconst 0, 1) := dk_3 (dk_at dksX4_letters_15 16 rfl rfl)
theorem dX4_letters_430 : decode cX4_letters 430 = .ok (.iconst 0, 1) := dk_3 (dk_at dksX4_letters_15 17 rfl rfl)
theorem dX4_letters_431 : decode cX4_letters 431 = .ok (.iconst 0, 1) := dk_3 (dk_at dksX4_letters_15 18 rfl rfl)
theorem dX4_letters_432 : decode cX4_letters 432 = .ok (.iconst 0, 1) := dk_3 (dk_at dksX4_letters_15 19 rfl rfl)
theorem dX4_letters_433 : decode cX4_letters 433 = .ok (.invokestatic 168, 3) := dk_184 0 168 (dk_at dksX4_letters_15 20 rfl rfl)
theorem dX4_letters_436 : decode cX4_letters 436 = .ok (.lreturn, 1) := dk_173 (dk_at dksX4_letters_15 23 rfl rfl)
theorem dX4_letters_437 : decode cX4_letters 437 = .ok (.bipush 97, 2) := dk_16 97 (dk_at dksX4_letters_16 0 rfl rfl)
theorem dX4_letters_439 : decode cX4_letters 439 = .ok (.bipush 110, 2) := dk_16 110 (dk_at dksX4_letters_16 2 rfl rfl)
theorem dX4_letters_441 : decode cX4_letters 441 = .ok (.bipush 100, 2) := dk_16 100 (dk_at dksX4_letters_16 4 rfl rfl)
theorem dX4_letters_443 : decode cX4_letters 443 = .ok (.iconst 0, 1) := dk_3 (dk_at dksX4_letters_16 6 rfl rfl)
theorem dX4_letters_444 : decode cX4_letters 444 = .ok (.iconst 0, 1) := dk_3 (dk_at dksX4_letters_16 7 rfl rfl)
theorem dX4_letters_445 : decode cX4_letters 445 = .ok (.iconst 0, 1) := dk_3 (dk_at dksX4_letters_16 8 rfl rfl)
theorem dX4_letters_446 : decode cX4_letters 446 = .ok (.iconst 0, 1) := dk_3 (dk_at dksX4_letters_16 9 rfl rfl)
theorem dX4_letters_447 : decode cX4_letters 447 = .ok (.invokestatic 168, 3) := dk_184 0 168 (dk_at dksX4_letters_16 10 rfl rfl)
theorem dX4_letters_450 : decode cX4_letters 450 = .ok (.lreturn, 1) := dk_173 (dk_at dksX4_letters_16 13 rfl rfl)
theorem dX4_letters_451 : decode cX4_letters 451 = .ok (.bipush 111, 2) := dk_16 111 (dk_at dksX4_letters_16 14 rfl rfl)
theorem dX4_letters_453 : decode cX4_letters 453 = .ok (.bipush 114, 2) := dk_16 114 (dk_at dksX4_letters_16 16 rfl rfl)
theorem dX4_letters_455 : decode cX4_letters 455 = .ok (.iconst 0, 1) := dk_3 (dk_at dksX4_letters_16 18 rfl rfl)
theorem dX4_letters_456 : decode cX4_letters 456 = .ok (.iconst 0, 1) := dk_3 (dk_at dksX4_letters_16 19 rfl rfl)
theorem dX4_letters_457 : decode cX4_letters 457 = .ok (.iconst 0, 1) := dk_3 (dk_at dksX4_letters_16 20 rfl rfl)
theorem dX4_letters_458 : decode cX4_letters 458 = .ok (.iconst 0, 1) := dk_3 (dk_at dksX4_letters_16 21 rfl rfl)
theorem dX4_letters_459 : decode cX4_letters 459 = .ok (.iconst 0, 1) := dk_3 (dk_at dksX4_letters_16 22 rfl rfl)
theorem dX4_letters_460 : decode cX4_letters 460 = .ok (.invokestatic 168, 3) := dk_184 0 168 (dk_at dksX4_letters_17 0 rfl rfl)
theorem dX4_letters_463 : decode cX4_letters 463 = .ok (.lreturn, 1) := dk_173 (dk_at dksX4_letters_17 3 rfl rfl)
theorem dX4_letters_464 : decode cX4_letters 464 = .ok (.bipush 110, 2) := dk_16 110 (dk_at dksX4_letters_17 4 rfl rfl)
theorem dX4_letters_466 : decode cX4_letters 466 = .ok (.bipush 111, 2) := dk_16 111 (dk_at dksX4_letters_17 6 rfl rfl)
theorem dX4_letters_468 : decode cX4_letters 468 = .ok (.bipush 116, 2) := dk_16 116 (dk_at dksX4_letters_17 8 rfl rfl)
theorem dX4_letters_470 : decode cX4_letters 470 = .ok (.iconst 0, 1) := dk_3 (dk_at dksX4_letters_17 10 rfl rfl)
theorem dX4_letters_471 : decode cX4_letters 471 = .ok (.iconst 0, 1) := dk_3 (dk_at dksX4_letters_17 11 rfl rfl)
theorem dX4_letters_472 : decode cX4_letters 472 = .ok (.iconst 0, 1) := dk_3 (dk_at dksX4_letters_17 12 rfl rfl)
theorem dX4_letters_473 : decode cX4_letters 473 = .ok (.iconst 0, 1) := dk_3 (dk_at dksX4_letters_17 13 rfl rfl)
theorem dX4_letters_474 : decode cX4_letters 474 = .ok (.invokestatic 168, 3) := dk_184 0 168 (dk_at dksX4_letters_17 14 rfl rfl)
theorem dX4_letters_477 : decode cX4_letters 477 = .ok (.lreturn, 1) := dk_173 (dk_at dksX4_letters_17 17 rfl rfl)
abbrev cX4_spelled : ByteArray := prog_14_method_13_code
def yX4_spelled : MethodName := ⟨RX4, "spelled", "(IIIIIII)J"⟩
def dkwX4_spelled_4 : List UInt8 := [16, 96, 100, 133, 129, 55, 7, 22, 7, 173]
abbrev dktX4_spelled_4 : List UInt8 := dkwX4_spelled_4 ++ []
def dkwX4_spelled_3 : List UInt8 := [22, 7, 8, 121, 21, 5, 16, 96, 100, 133, 129, 55, 7, 21, 6, 153, 0, 16, 22, 7, 8, 121, 21, 6]
abbrev dktX4_spelled_3 : List UInt8 := dkwX4_spelled_3 ++ dktX4_spelled_4
def dkwX4_spelled_2 : List UInt8 := [21, 4, 153, 0, 16, 22, 7, 8, 121, 21, 4, 16, 96, 100, 133, 129, 55, 7, 21, 5, 153, 0, 16]
abbrev dktX4_spelled_2 : List UInt8 := dkwX4_spelled_2 ++ dktX4_spelled_3
def dkwX4_spelled_1 : List UInt8 := [28, 16, 96, 100, 133, 129, 55, 7, 29, 153, 0, 15, 22, 7, 8, 121, 29, 16, 96, 100, 133, 129, 55, 7]
abbrev dktX4_spelled_1 : List UInt8 := dkwX4_spelled_1 ++ dktX4_spelled_2
def dkwX4_spelled_0 : List UInt8 := [26, 133, 20, 0, 166, 101, 8, 121, 27, 16, 96, 100, 133, 129, 55, 7, 28, 153, 0, 15, 22, 7, 8, 121]
abbrev dktX4_spelled_0 : List UInt8 := dkwX4_spelled_0 ++ dktX4_spelled_1
theorem dksX4_spelled_0 : cX4_spelled.data.toList.drop 0 = dktX4_spelled_0 := by decide +kernel
theorem dksX4_spelled_1 : cX4_spelled.data.toList.drop 24 = dktX4_spelled_1 := dk_seg dksX4_spelled_0 24 rfl rfl
theorem dksX4_spelled_2 : cX4_spelled.data.toList.drop 48 = dktX4_spelled_2 := dk_seg dksX4_spelled_1 24 rfl rfl
theorem dksX4_spelled_3 : cX4_spelled.data.toList.drop 71 = dktX4_spelled_3 := dk_seg dksX4_spelled_2 23 rfl rfl
theorem dksX4_spelled_4 : cX4_spelled.data.toList.drop 95 = dktX4_spelled_4 := dk_seg dksX4_spelled_3 24 rfl rfl
theorem dX4_spelled_0 : decode cX4_spelled 0 = .ok (.iload_n 0, 1) := dk_26 (dk_at dksX4_spelled_0 0 rfl rfl)
theorem dX4_spelled_1 : decode cX4_spelled 1 = .ok (.i2l, 1) := dk_133 (dk_at dksX4_spelled_0 1 rfl rfl)
theorem dX4_spelled_2 : decode cX4_spelled 2 = .ok (.ldc2_w 166, 3) := dk_20 0 166 (dk_at dksX4_spelled_0 2 rfl rfl)
theorem dX4_spelled_5 : decode cX4_spelled 5 = .ok (.lsub, 1) := dk_101 (dk_at dksX4_spelled_0 5 rfl rfl)
theorem dX4_spelled_6 : decode cX4_spelled 6 = .ok (.iconst 5, 1) := dk_8 (dk_at dksX4_spelled_0 6 rfl rfl)
theorem dX4_spelled_7 : decode cX4_spelled 7 = .ok (.lshl, 1) := dk_121 (dk_at dksX4_spelled_0 7 rfl rfl)
theorem dX4_spelled_8 : decode cX4_spelled 8 = .ok (.iload_n 1, 1) := dk_27 (dk_at dksX4_spelled_0 8 rfl rfl)
theorem dX4_spelled_9 : decode cX4_spelled 9 = .ok (.bipush 96, 2) := dk_16 96 (dk_at dksX4_spelled_0 9 rfl rfl)
theorem dX4_spelled_11 : decode cX4_spelled 11 = .ok (.isub, 1) := dk_100 (dk_at dksX4_spelled_0 11 rfl rfl)
theorem dX4_spelled_12 : decode cX4_spelled 12 = .ok (.i2l, 1) := dk_133 (dk_at dksX4_spelled_0 12 rfl rfl)
theorem dX4_spelled_13 : decode cX4_spelled 13 = .ok (.lor, 1) := dk_129 (dk_at dksX4_spelled_0 13 rfl rfl)
theorem dX4_spelled_14 : decode cX4_spelled 14 = .ok (.lstore 7, 2) := dk_55 7 (dk_at dksX4_spelled_0 14 rfl rfl)
theorem dX4_spelled_16 : decode cX4_spelled 16 = .ok (.iload_n 2, 1) := dk_28 (dk_at dksX4_spelled_0 16 rfl rfl)
theorem dX4_spelled_17 : decode cX4_spelled 17 = .ok (.ifCond .eq 15, 3) := dk_153 0 15 (dk_at dksX4_spelled_0 17 rfl rfl)
theorem dX4_spelled_20 : decode cX4_spelled 20 = .ok (.lload 7, 2) := dk_22 7 (dk_at dksX4_spelled_0 20 rfl rfl)
theorem dX4_spelled_22 : decode cX4_spelled 22 = .ok (.iconst 5, 1) := dk_8 (dk_at dksX4_spelled_0 22 rfl rfl)
theorem dX4_spelled_23 : decode cX4_spelled 23 = .ok (.lshl, 1) := dk_121 (dk_at dksX4_spelled_0 23 rfl rfl)
theorem dX4_spelled_24 : decode cX4_spelled 24 = .ok (.iload_n 2, 1) := dk_28 (dk_at dksX4_spelled_1 0 rfl rfl)
theorem dX4_spelled_25 : decode cX4_spelled 25 = .ok (.bipush 96, 2) := dk_16 96 (dk_at dksX4_spelled_1 1 rfl rfl)
theorem dX4_spelled_27 : decode cX4_spelled 27 = .ok (.isub, 1) := dk_100 (dk_at dksX4_spelled_1 3 rfl rfl)
theorem dX4_spelled_28 : decode cX4_spelled 28 = .ok (.i2l, 1) := dk_133 (dk_at dksX4_spelled_1 4 rfl rfl)
theorem dX4_spelled_29 : decode cX4_spelled 29 = .ok (.lor, 1) := dk_129 (dk_at dksX4_spelled_1 5 rfl rfl)
theorem dX4_spelled_30 : decode cX4_spelled 30 = .ok (.lstore 7, 2) := dk_55 7 (dk_at dksX4_spelled_1 6 rfl rfl)
theorem dX4_spelled_32 : decode cX4_spelled 32 = .ok (.iload_n 3, 1) := dk_29 (dk_at dksX4_spelled_1 8 rfl rfl)
theorem dX4_spelled_33 : decode cX4_spelled 33 = .ok (.ifCond .eq 15, 3) := dk_153 0 15 (dk_at dksX4_spelled_1 9 rfl rfl)
theorem dX4_spelled_36 : decode cX4_spelled 36 = .ok (.lload 7, 2) := dk_22 7 (dk_at dksX4_spelled_1 12 rfl rfl)
theorem dX4_spelled_38 : decode cX4_spelled 38 = .ok (.iconst 5, 1) := dk_8 (dk_at dksX4_spelled_1 14 rfl rfl)
theorem dX4_spelled_39 : decode cX4_spelled 39 = .ok (.lshl, 1) := dk_121 (dk_at dksX4_spelled_1 15 rfl rfl)
theorem dX4_spelled_40 : decode cX4_spelled 40 = .ok (.iload_n 3, 1) := dk_29 (dk_at dksX4_spelled_1 16 rfl rfl)
theorem dX4_spelled_41 : decode cX4_spelled 41 = .ok (.bipush 96, 2) := dk_16 96 (dk_at dksX4_spelled_1 17 rfl rfl)
theorem dX4_spelled_43 : decode cX4_spelled 43 = .ok (.isub, 1) := dk_100 (dk_at dksX4_spelled_1 19 rfl rfl)
theorem dX4_spelled_44 : decode cX4_spelled 44 = .ok (.i2l, 1) := dk_133 (dk_at dksX4_spelled_1 20 rfl rfl)
theorem dX4_spelled_45 : decode cX4_spelled 45 = .ok (.lor, 1) := dk_129 (dk_at dksX4_spelled_1 21 rfl rfl)
theorem dX4_spelled_46 : decode cX4_spelled 46 = .ok (.lstore 7, 2) := dk_55 7 (dk_at dksX4_spelled_1 22 rfl rfl)
theorem dX4_spelled_48 : decode cX4_spelled 48 = .ok (.iload 4, 2) := dk_21 4 (dk_at dksX4_spelled_2 0 rfl rfl)
theorem dX4_spelled_50 : decode cX4_spelled 50 = .ok (.ifCond .eq 16, 3) := dk_153 0 16 (dk_at dksX4_spelled_2 2 rfl rfl)
theorem dX4_spelled_53 : decode cX4_spelled 53 = .ok (.lload 7, 2) := dk_22 7 (dk_at dksX4_spelled_2 5 rfl rfl)
theorem dX4_spelled_55 : decode cX4_spelled 55 = .ok (.iconst 5, 1) := dk_8 (dk_at dksX4_spelled_2 7 rfl rfl)
theorem dX4_spelled_56 : decode cX4_spelled 56 = .ok (.lshl, 1) := dk_121 (dk_at dksX4_spelled_2 8 rfl rfl)
theorem dX4_spelled_57 : decode cX4_spelled 57 = .ok (.iload 4, 2) := dk_21 4 (dk_at dksX4_spelled_2 9 rfl rfl)
theorem dX4_spelled_59 : decode cX4_spelled 59 = .ok (.bipush 96, 2) := dk_16 96 (dk_at dksX4_spelled_2 11 rfl rfl)
theorem dX4_spelled_61 : decode cX4_spelled 61 = .ok (.isub, 1) := dk_100 (dk_at dksX4_spelled_2 13 rfl rfl)
theorem dX4_spelled_62 : decode cX4_spelled 62 = .ok (.i2l, 1) := dk_133 (dk_at dksX4_spelled_2 14 rfl rfl)
theorem dX4_spelled_63 : decode cX4_spelled 63 = .ok (.lor, 1) := dk_129 (dk_at dksX4_spelled_2 15 rfl rfl)
theorem dX4_spelled_64 : decode cX4_spelled 64 = .ok (.lstore 7, 2) := dk_55 7 (dk_at dksX4_spelled_2 16 rfl rfl)
theorem dX4_spelled_66 : decode cX4_spelled 66 = .ok (.iload 5, 2) := dk_21 5 (dk_at dksX4_spelled_2 18 rfl rfl)
theorem dX4_spelled_68 : decode cX4_spelled 68 = .ok (.ifCond .eq 16, 3) := dk_153 0 16 (dk_at dksX4_spelled_2 20 rfl rfl)
theorem dX4_spelled_71 : decode cX4_spelled 71 = .ok (.lload 7, 2) := dk_22 7 (dk_at dksX4_spelled_3 0 rfl rfl)
theorem dX4_spelled_73 : decode cX4_spelled 73 = .ok (.iconst 5, 1) := dk_8 (dk_at dksX4_spelled_3 2 rfl rfl)
theorem dX4_spelled_74 : decode cX4_spelled 74 = .ok (.lshl, 1) := dk_121 (dk_at dksX4_spelled_3 3 rfl rfl)
theorem dX4_spelled_75 : decode cX4_spelled 75 = .ok (.iload 5, 2) := dk_21 5 (dk_at dksX4_spelled_3 4 rfl rfl)
theorem dX4_spelled_77 : decode cX4_spelled 77 = .ok (.bipush 96, 2) := dk_16 96 (dk_at dksX4_spelled_3 6 rfl rfl)
theorem dX4_spelled_79 : decode cX4_spelled 79 = .ok (.isub, 1) := dk_100 (dk_at dksX4_spelled_3 8 rfl rfl)
theorem dX4_spelled_80 : decode cX4_spelled 80 = .ok (.i2l, 1) := dk_133 (dk_at dksX4_spelled_3 9 rfl rfl)
theorem dX4_spelled_81 : decode cX4_spelled 81 = .ok (.lor, 1) := dk_129 (dk_at dksX4_spelled_3 10 rfl rfl)
theorem dX4_spelled_82 : decode cX4_spelled 82 = .ok (.lstore 7, 2) := dk_55 7 (dk_at dksX4_spelled_3 11 rfl rfl)
theorem dX4_spelled_84 : decode cX4_spelled 84 = .ok (.iload 6, 2) := dk_21 6 (dk_at dksX4_spelled_3 13 rfl rfl)
theorem dX4_spelled_86 : decode cX4_spelled 86 = .ok (.ifCond .eq 16, 3) := dk_153 0 16 (dk_at dksX4_spelled_3 15 rfl rfl)
theorem dX4_spelled_89 : decode cX4_spelled 89 = .ok (.lload 7, 2) := dk_22 7 (dk_at dksX4_spelled_3 18 rfl rfl)
theorem dX4_spelled_91 : decode cX4_spelled 91 = .ok (.iconst 5, 1) := dk_8 (dk_at dksX4_spelled_3 20 rfl rfl)
theorem dX4_spelled_92 : decode cX4_spelled 92 = .ok (.lshl, 1) := dk_121 (dk_at dksX4_spelled_3 21 rfl rfl)
theorem dX4_spelled_93 : decode cX4_spelled 93 = .ok (.iload 6, 2) := dk_21 6 (dk_at dksX4_spelled_3 22 rfl rfl)
theorem dX4_spelled_95 : decode cX4_spelled 95 = .ok (.bipush 96, 2) := dk_16 96 (dk_at dksX4_spelled_4 0 rfl rfl)
theorem dX4_spelled_97 : decode cX4_spelled 97 = .ok (.isub, 1) := dk_100 (dk_at dksX4_spelled_4 2 rfl rfl)
theorem dX4_spelled_98 : decode cX4_spelled 98 = .ok (.i2l, 1) := dk_133 (dk_at dksX4_spelled_4 3 rfl rfl)
theorem dX4_spelled_99 : decode cX4_spelled 99 = .ok (.lor, 1) := dk_129 (dk_at dksX4_spelled_4 4 rfl rfl)
theorem dX4_spelled_100 : decode cX4_spelled 100 = .ok (.lstore 7, 2) := dk_55 7 (dk_at dksX4_spelled_4 5 rfl rfl)
theorem dX4_spelled_102 : decode cX4_spelled 102 = .ok (.lload 7, 2) := dk_22 7 (dk_at dksX4_spelled_4 7 rfl rfl)
theorem dX4_spelled_104 : decode cX4_spelled 104 = .ok (.lreturn, 1) := dk_173 (dk_at dksX4_spelled_4 9 rfl rfl)
abbrev cX4_readsSinger : ByteArray := prog_14_method_32_code
def yX4_readsSinger : MethodName := ⟨RX4, "readsSinger", "(I)V"⟩
def dkwX4_readsSinger_6 : List UInt8 := [4, 96, 181, 0, 241, 177]
abbrev dktX4_readsSinger_6 : List UInt8 := dkwX4_readsSinger_6 ++ []
def dkwX4_readsSinger_5 : List UInt8 := [180, 0, 65, 28, 42, 3, 16, 9, 182, 0, 244, 79, 42, 182, 0, 179, 153, 0, 13, 42, 89, 180, 0, 241]
abbrev dktX4_readsSinger_5 : List UInt8 := dkwX4_readsSinger_5 ++ dktX4_readsSinger_6
def dkwX4_readsSinger_4 : List UInt8 := [182, 0, 244, 79, 42, 180, 0, 62, 28, 42, 42, 180, 0, 59, 28, 46, 16, 48, 182, 0, 244, 79, 42]
abbrev dktX4_readsSinger_4 : List UInt8 := dkwX4_readsSinger_4 ++ dktX4_readsSinger_5
def dkwX4_readsSinger_3 : List UInt8 := [42, 180, 0, 56, 28, 29, 16, 13, 100, 79, 42, 182, 0, 183, 42, 180, 0, 59, 28, 42, 3, 16, 48]
abbrev dktX4_readsSinger_3 : List UInt8 := dkwX4_readsSinger_3 ++ dktX4_readsSinger_4
def dkwX4_readsSinger_2 : List UInt8 := [16, 13, 161, 0, 9, 29, 16, 16, 164, 0, 8, 42, 4, 182, 0, 186, 42, 182, 0, 179, 154, 0, 4, 177]
abbrev dktX4_readsSinger_2 : List UInt8 := dkwX4_readsSinger_2 ++ dktX4_readsSinger_3
def dkwX4_readsSinger_1 : List UInt8 := [182, 0, 183, 42, 180, 0, 241, 61, 42, 180, 0, 53, 28, 27, 16, 10, 100, 79, 42, 182, 0, 204, 62, 29]
abbrev dktX4_readsSinger_1 : List UInt8 := dkwX4_readsSinger_1 ++ dktX4_readsSinger_2
def dkwX4_readsSinger_0 : List UInt8 := [42, 180, 0, 241, 16, 14, 160, 0, 8, 42, 5, 182, 0, 186, 42, 182, 0, 179, 154, 0, 4, 177, 42]
abbrev dktX4_readsSinger_0 : List UInt8 := dkwX4_readsSinger_0 ++ dktX4_readsSinger_1
theorem dksX4_readsSinger_0 : cX4_readsSinger.data.toList.drop 0 = dktX4_readsSinger_0 := by decide +kernel
theorem dksX4_readsSinger_1 : cX4_readsSinger.data.toList.drop 23 = dktX4_readsSinger_1 := dk_seg dksX4_readsSinger_0 23 rfl rfl
theorem dksX4_readsSinger_2 : cX4_readsSinger.data.toList.drop 47 = dktX4_readsSinger_2 := dk_seg dksX4_readsSinger_1 24 rfl rfl
theorem dksX4_readsSinger_3 : cX4_readsSinger.data.toList.drop 71 = dktX4_readsSinger_3 := dk_seg dksX4_readsSinger_2 24 rfl rfl
theorem dksX4_readsSinger_4 : cX4_readsSinger.data.toList.drop 94 = dktX4_readsSinger_4 := dk_seg dksX4_readsSinger_3 23 rfl rfl
theorem dksX4_readsSinger_5 : cX4_readsSinger.data.toList.drop 117 = dktX4_readsSinger_5 := dk_seg dksX4_readsSinger_4 23 rfl rfl
theorem dksX4_readsSinger_6 : cX4_readsSinger.data.toList.drop 141 = dktX4_readsSinger_6 := dk_seg dksX4_readsSinger_5 24 rfl rfl
theorem dX4_readsSinger_0 : decode cX4_readsSinger 0 = .ok (.aload_n 0, 1) := dk_42 (dk_at dksX4_readsSinger_0 0 rfl rfl)
theorem dX4_readsSinger_1 : decode cX4_readsSinger 1 = .ok (.getfield 241, 3) := dk_180 0 241 (dk_at dksX4_readsSinger_0 1 rfl rfl)
theorem dX4_readsSinger_4 : decode cX4_readsSinger 4 = .ok (.bipush 14, 2) := dk_16 14 (dk_at dksX4_readsSinger_0 4 rfl rfl)
theorem dX4_readsSinger_6 : decode cX4_readsSinger 6 = .ok (.if_icmp .ne 8, 3) := dk_160 0 8 (dk_at dksX4_readsSinger_0 6 rfl rfl)
theorem dX4_readsSinger_9 : decode cX4_readsSinger 9 = .ok (.aload_n 0, 1) := dk_42 (dk_at dksX4_readsSinger_0 9 rfl rfl)
theorem dX4_readsSinger_10 : decode cX4_readsSinger 10 = .ok (.iconst 2, 1) := dk_5 (dk_at dksX4_readsSinger_0 10 rfl rfl)
theorem dX4_readsSinger_11 : decode cX4_readsSinger 11 = .ok (.invokevirtual 186, 3) := dk_182 0 186 (dk_at dksX4_readsSinger_0 11 rfl rfl)
theorem dX4_readsSinger_14 : decode cX4_readsSinger 14 = .ok (.aload_n 0, 1) := dk_42 (dk_at dksX4_readsSinger_0 14 rfl rfl)
theorem dX4_readsSinger_15 : decode cX4_readsSinger 15 = .ok (.invokevirtual 179, 3) := dk_182 0 179 (dk_at dksX4_readsSinger_0 15 rfl rfl)
theorem dX4_readsSinger_18 : decode cX4_readsSinger 18 = .ok (.ifCond .ne 4, 3) := dk_154 0 4 (dk_at dksX4_readsSinger_0 18 rfl rfl)
theorem dX4_readsSinger_21 : decode cX4_readsSinger 21 = .ok (.return_, 1) := dk_177 (dk_at dksX4_readsSinger_0 21 rfl rfl)
theorem dX4_readsSinger_22 : decode cX4_readsSinger 22 = .ok (.aload_n 0, 1) := dk_42 (dk_at dksX4_readsSinger_0 22 rfl rfl)
theorem dX4_readsSinger_23 : decode cX4_readsSinger 23 = .ok (.invokevirtual 183, 3) := dk_182 0 183 (dk_at dksX4_readsSinger_1 0 rfl rfl)
theorem dX4_readsSinger_26 : decode cX4_readsSinger 26 = .ok (.aload_n 0, 1) := dk_42 (dk_at dksX4_readsSinger_1 3 rfl rfl)
theorem dX4_readsSinger_27 : decode cX4_readsSinger 27 = .ok (.getfield 241, 3) := dk_180 0 241 (dk_at dksX4_readsSinger_1 4 rfl rfl)
theorem dX4_readsSinger_30 : decode cX4_readsSinger 30 = .ok (.istore_n 2, 1) := dk_61 (dk_at dksX4_readsSinger_1 7 rfl rfl)
theorem dX4_readsSinger_31 : decode cX4_readsSinger 31 = .ok (.aload_n 0, 1) := dk_42 (dk_at dksX4_readsSinger_1 8 rfl rfl)
theorem dX4_readsSinger_32 : decode cX4_readsSinger 32 = .ok (.getfield 53, 3) := dk_180 0 53 (dk_at dksX4_readsSinger_1 9 rfl rfl)
theorem dX4_readsSinger_35 : decode cX4_readsSinger 35 = .ok (.iload_n 2, 1) := dk_28 (dk_at dksX4_readsSinger_1 12 rfl rfl)
theorem dX4_readsSinger_36 : decode cX4_readsSinger 36 = .ok (.iload_n 1, 1) := dk_27 (dk_at dksX4_readsSinger_1 13 rfl rfl)
theorem dX4_readsSinger_37 : decode cX4_readsSinger 37 = .ok (.bipush 10, 2) := dk_16 10 (dk_at dksX4_readsSinger_1 14 rfl rfl)
theorem dX4_readsSinger_39 : decode cX4_readsSinger 39 = .ok (.isub, 1) := dk_100 (dk_at dksX4_readsSinger_1 16 rfl rfl)
theorem dX4_readsSinger_40 : decode cX4_readsSinger 40 = .ok (.iastore, 1) := dk_79 (dk_at dksX4_readsSinger_1 17 rfl rfl)
theorem dX4_readsSinger_41 : decode cX4_readsSinger 41 = .ok (.aload_n 0, 1) := dk_42 (dk_at dksX4_readsSinger_1 18 rfl rfl)
theorem dX4_readsSinger_42 : decode cX4_readsSinger 42 = .ok (.invokevirtual 204, 3) := dk_182 0 204 (dk_at dksX4_readsSinger_1 19 rfl rfl)
theorem dX4_readsSinger_45 : decode cX4_readsSinger 45 = .ok (.istore_n 3, 1) := dk_62 (dk_at dksX4_readsSinger_1 22 rfl rfl)
theorem dX4_readsSinger_46 : decode cX4_readsSinger 46 = .ok (.iload_n 3, 1) := dk_29 (dk_at dksX4_readsSinger_1 23 rfl rfl)
theorem dX4_readsSinger_47 : decode cX4_readsSinger 47 = .ok (.bipush 13, 2) := dk_16 13 (dk_at dksX4_readsSinger_2 0 rfl rfl)
theorem dX4_readsSinger_49 : decode cX4_readsSinger 49 = .ok (.if_icmp .lt 9, 3) := dk_161 0 9 (dk_at dksX4_readsSinger_2 2 rfl rfl)
theorem dX4_readsSinger_52 : decode cX4_readsSinger 52 = .ok (.iload_n 3, 1) := dk_29 (dk_at dksX4_readsSinger_2 5 rfl rfl)
theorem dX4_readsSinger_53 : decode cX4_readsSinger 53 = .ok (.bipush 16, 2) := dk_16 16 (dk_at dksX4_readsSinger_2 6 rfl rfl)
theorem dX4_readsSinger_55 : decode cX4_readsSinger 55 = .ok (.if_icmp .le 8, 3) := dk_164 0 8 (dk_at dksX4_readsSinger_2 8 rfl rfl)
theorem dX4_readsSinger_58 : decode cX4_readsSinger 58 = .ok (.aload_n 0, 1) := dk_42 (dk_at dksX4_readsSinger_2 11 rfl rfl)
theorem dX4_readsSinger_59 : decode cX4_readsSinger 59 = .ok (.iconst 1, 1) := dk_4 (dk_at dksX4_readsSinger_2 12 rfl rfl)
theorem dX4_readsSinger_60 : decode cX4_readsSinger 60 = .ok (.invokevirtual 186, 3) := dk_182 0 186 (dk_at dksX4_readsSinger_2 13 rfl rfl)
theorem dX4_readsSinger_63 : decode cX4_readsSinger 63 = .ok (.aload_n 0, 1) := dk_42 (dk_at dksX4_readsSinger_2 16 rfl rfl)
theorem dX4_readsSinger_64 : decode cX4_readsSinger 64 = .ok (.invokevirtual 179, 3) := dk_182 0 179 (dk_at dksX4_readsSinger_2 17 rfl rfl)
theorem dX4_readsSinger_67 : decode cX4_readsSinger 67 = .ok (.ifCond .ne 4, 3) := dk_154 0 4 (dk_at dksX4_readsSinger_2 20 rfl rfl)
theorem dX4_readsSinger_70 : decode cX4_readsSinger 70 = .ok (.return_, 1) := dk_177 (dk_at dksX4_readsSinger_2 23 rfl rfl)
theorem dX4_readsSinger_71 : decode cX4_readsSinger 71 = .ok (.aload_n 0, 1) := dk_42 (dk_at dksX4_readsSinger_3 0 rfl rfl)
theorem dX4_readsSinger_72 : decode cX4_readsSinger 72 = .ok (.getfield 56, 3) := dk_180 0 56 (dk_at dksX4_readsSinger_3 1 rfl rfl)
theorem dX4_readsSinger_75 : decode cX4_readsSinger 75 = .ok (.iload_n 2, 1) := dk_28 (dk_at dksX4_readsSinger_3 4 rfl rfl)
theorem dX4_readsSinger_76 : decode cX4_readsSinger 76 = .ok (.iload_n 3, 1) := dk_29 (dk_at dksX4_readsSinger_3 5 rfl rfl)
theorem dX4_readsSinger_77 : decode cX4_readsSinger 77 = .ok (.bipush 13, 2) := dk_16 13 (dk_at dksX4_readsSinger_3 6 rfl rfl)
theorem dX4_readsSinger_79 : decode cX4_readsSinger 79 = .ok (.isub, 1) := dk_100 (dk_at dksX4_readsSinger_3 8 rfl rfl)
theorem dX4_readsSinger_80 : decode cX4_readsSinger 80 = .ok (.iastore, 1) := dk_79 (dk_at dksX4_readsSinger_3 9 rfl rfl)
theorem dX4_readsSinger_81 : decode cX4_readsSinger 81 = .ok (.aload_n 0, 1) := dk_42 (dk_at dksX4_readsSinger_3 10 rfl rfl)
theorem dX4_readsSinger_82 : decode cX4_readsSinger 82 = .ok (.invokevirtual 183, 3) := dk_182 0 183 (dk_at dksX4_readsSinger_3 11 rfl rfl)
theorem dX4_readsSinger_85 : decode cX4_readsSinger 85 = .ok (.aload_n 0, 1) := dk_42 (dk_at dksX4_readsSinger_3 14 rfl rfl)
theorem dX4_readsSinger_86 : decode cX4_readsSinger 86 = .ok (.getfield 59, 3) := dk_180 0 59 (dk_at dksX4_readsSinger_3 15 rfl rfl)
theorem dX4_readsSinger_89 : decode cX4_readsSinger 89 = .ok (.iload_n 2, 1) := dk_28 (dk_at dksX4_readsSinger_3 18 rfl rfl)
theorem dX4_readsSinger_90 : decode cX4_readsSinger 90 = .ok (.aload_n 0, 1) := dk_42 (dk_at dksX4_readsSinger_3 19 rfl rfl)
theorem dX4_readsSinger_91 : decode cX4_readsSinger 91 = .ok (.iconst 0, 1) := dk_3 (dk_at dksX4_readsSinger_3 20 rfl rfl)
theorem dX4_readsSinger_92 : decode cX4_readsSinger 92 = .ok (.bipush 48, 2) := dk_16 48 (dk_at dksX4_readsSinger_3 21 rfl rfl)
theorem dX4_readsSinger_94 : decode cX4_readsSinger 94 = .ok (.invokevirtual 244, 3) := dk_182 0 244 (dk_at dksX4_readsSinger_4 0 rfl rfl)
theorem dX4_readsSinger_97 : decode cX4_readsSinger 97 = .ok (.iastore, 1) := dk_79 (dk_at dksX4_readsSinger_4 3 rfl rfl)
theorem dX4_readsSinger_98 : decode cX4_readsSinger 98 = .ok (.aload_n 0, 1) := dk_42 (dk_at dksX4_readsSinger_4 4 rfl rfl)
theorem dX4_readsSinger_99 : decode cX4_readsSinger 99 = .ok (.getfield 62, 3) := dk_180 0 62 (dk_at dksX4_readsSinger_4 5 rfl rfl)
theorem dX4_readsSinger_102 : decode cX4_readsSinger 102 = .ok (.iload_n 2, 1) := dk_28 (dk_at dksX4_readsSinger_4 8 rfl rfl)
theorem dX4_readsSinger_103 : decode cX4_readsSinger 103 = .ok (.aload_n 0, 1) := dk_42 (dk_at dksX4_readsSinger_4 9 rfl rfl)
theorem dX4_readsSinger_104 : decode cX4_readsSinger 104 = .ok (.aload_n 0, 1) := dk_42 (dk_at dksX4_readsSinger_4 10 rfl rfl)
theorem dX4_readsSinger_105 : decode cX4_readsSinger 105 = .ok (.getfield 59, 3) := dk_180 0 59 (dk_at dksX4_readsSinger_4 11 rfl rfl)
theorem dX4_readsSinger_108 : decode cX4_readsSinger 108 = .ok (.iload_n 2, 1) := dk_28 (dk_at dksX4_readsSinger_4 14 rfl rfl)
theorem dX4_readsSinger_109 : decode cX4_readsSinger 109 = .ok (.iaload, 1) := dk_46 (dk_at dksX4_readsSinger_4 15 rfl rfl)
theorem dX4_readsSinger_110 : decode cX4_readsSinger 110 = .ok (.bipush 48, 2) := dk_16 48 (dk_at dksX4_readsSinger_4 16 rfl rfl)
theorem dX4_readsSinger_112 : decode cX4_readsSinger 112 = .ok (.invokevirtual 244, 3) := dk_182 0 244 (dk_at dksX4_readsSinger_4 18 rfl rfl)
theorem dX4_readsSinger_115 : decode cX4_readsSinger 115 = .ok (.iastore, 1) := dk_79 (dk_at dksX4_readsSinger_4 21 rfl rfl)
theorem dX4_readsSinger_116 : decode cX4_readsSinger 116 = .ok (.aload_n 0, 1) := dk_42 (dk_at dksX4_readsSinger_4 22 rfl rfl)
theorem dX4_readsSinger_117 : decode cX4_readsSinger 117 = .ok (.getfield 65, 3) := dk_180 0 65 (dk_at dksX4_readsSinger_5 0 rfl rfl)
theorem dX4_readsSinger_120 : decode cX4_readsSinger 120 = .ok (.iload_n 2, 1) := dk_28 (dk_at dksX4_readsSinger_5 3 rfl rfl)
theorem dX4_readsSinger_121 : decode cX4_readsSinger 121 = .ok (.aload_n 0, 1) := dk_42 (dk_at dksX4_readsSinger_5 4 rfl rfl)
theorem dX4_readsSinger_122 : decode cX4_readsSinger 122 = .ok (.iconst 0, 1) := dk_3 (dk_at dksX4_readsSinger_5 5 rfl rfl)
theorem dX4_readsSinger_123 : decode cX4_readsSinger 123 = .ok (.bipush 9, 2) := dk_16 9 (dk_at dksX4_readsSinger_5 6 rfl rfl)
theorem dX4_readsSinger_125 : decode cX4_readsSinger 125 = .ok (.invokevirtual 244, 3) := dk_182 0 244 (dk_at dksX4_readsSinger_5 8 rfl rfl)
theorem dX4_readsSinger_128 : decode cX4_readsSinger 128 = .ok (.iastore, 1) := dk_79 (dk_at dksX4_readsSinger_5 11 rfl rfl)
theorem dX4_readsSinger_129 : decode cX4_readsSinger 129 = .ok (.aload_n 0, 1) := dk_42 (dk_at dksX4_readsSinger_5 12 rfl rfl)
theorem dX4_readsSinger_130 : decode cX4_readsSinger 130 = .ok (.invokevirtual 179, 3) := dk_182 0 179 (dk_at dksX4_readsSinger_5 13 rfl rfl)
theorem dX4_readsSinger_133 : decode cX4_readsSinger 133 = .ok (.ifCond .eq 13, 3) := dk_153 0 13 (dk_at dksX4_readsSinger_5 16 rfl rfl)
theorem dX4_readsSinger_136 : decode cX4_readsSinger 136 = .ok (.aload_n 0, 1) := dk_42 (dk_at dksX4_readsSinger_5 19 rfl rfl)
theorem dX4_readsSinger_137 : decode cX4_readsSinger 137 = .ok (.dup, 1) := dk_89 (dk_at dksX4_readsSinger_5 20 rfl rfl)
theorem dX4_readsSinger_138 : decode cX4_readsSinger 138 = .ok (.getfield 241, 3) := dk_180 0 241 (dk_at dksX4_readsSinger_5 21 rfl rfl)
theorem dX4_readsSinger_141 : decode cX4_readsSinger 141 = .ok (.iconst 1, 1) := dk_4 (dk_at dksX4_readsSinger_6 0 rfl rfl)
theorem dX4_readsSinger_142 : decode cX4_readsSinger 142 = .ok (.iadd, 1) := dk_96 (dk_at dksX4_readsSinger_6 1 rfl rfl)
theorem dX4_readsSinger_143 : decode cX4_readsSinger 143 = .ok (.putfield 241, 3) := dk_181 0 241 (dk_at dksX4_readsSinger_6 2 rfl rfl)
theorem dX4_readsSinger_146 : decode cX4_readsSinger 146 = .ok (.return_, 1) := dk_177 (dk_at dksX4_readsSinger_6 5 rfl rfl)
abbrev cX4_wrong : ByteArray := prog_14_method_16_code
def yX4_wrong : MethodName := ⟨RX4, "wrong", "(I)V"⟩
def dkwX4_wrong_0 : List UInt8 := [42, 180, 0, 176, 153, 0, 4, 177, 42, 27, 181, 0, 176, 42, 42, 180, 0, 140, 181, 0, 47, 177]
abbrev dktX4_wrong_0 : List UInt8 := dkwX4_wrong_0 ++ []
theorem dksX4_wrong_0 : cX4_wrong.data.toList.drop 0 = dktX4_wrong_0 := by decide +kernel
theorem dX4_wrong_0 : decode cX4_wrong 0 = .ok (.aload_n 0, 1) := dk_42 (dk_at dksX4_wrong_0 0 rfl rfl)
theorem dX4_wrong_1 : decode cX4_wrong 1 = .ok (.getfield 176, 3) := dk_180 0 176 (dk_at dksX4_wrong_0 1 rfl rfl)
theorem dX4_wrong_4 : decode cX4_wrong 4 = .ok (.ifCond .eq 4, 3) := dk_153 0 4 (dk_at dksX4_wrong_0 4 rfl rfl)
theorem dX4_wrong_7 : decode cX4_wrong 7 = .ok (.return_, 1) := dk_177 (dk_at dksX4_wrong_0 7 rfl rfl)
theorem dX4_wrong_8 : decode cX4_wrong 8 = .ok (.aload_n 0, 1) := dk_42 (dk_at dksX4_wrong_0 8 rfl rfl)
theorem dX4_wrong_9 : decode cX4_wrong 9 = .ok (.iload_n 1, 1) := dk_27 (dk_at dksX4_wrong_0 9 rfl rfl)
theorem dX4_wrong_10 : decode cX4_wrong 10 = .ok (.putfield 176, 3) := dk_181 0 176 (dk_at dksX4_wrong_0 10 rfl rfl)
theorem dX4_wrong_13 : decode cX4_wrong 13 = .ok (.aload_n 0, 1) := dk_42 (dk_at dksX4_wrong_0 13 rfl rfl)
theorem dX4_wrong_14 : decode cX4_wrong 14 = .ok (.aload_n 0, 1) := dk_42 (dk_at dksX4_wrong_0 14 rfl rfl)
theorem dX4_wrong_15 : decode cX4_wrong 15 = .ok (.getfield 140, 3) := dk_180 0 140 (dk_at dksX4_wrong_0 15 rfl rfl)
theorem dX4_wrong_18 : decode cX4_wrong 18 = .ok (.putfield 47, 3) := dk_181 0 47 (dk_at dksX4_wrong_0 18 rfl rfl)
theorem dX4_wrong_21 : decode cX4_wrong 21 = .ok (.return_, 1) := dk_177 (dk_at dksX4_wrong_0 21 rfl rfl)
abbrev cX4_number : ByteArray := prog_14_method_20_code
def yX4_number : MethodName := ⟨RX4, "number", "(II)I"⟩
def dkwX4_number_3 : List UInt8 := [29, 172]
abbrev dktX4_number_3 : List UInt8 := dkwX4_number_3 ++ []
def dkwX4_number_2 : List UInt8 := [164, 0, 8, 42, 5, 182, 0, 186, 42, 180, 0, 147, 62, 42, 182, 0, 179, 153, 0, 7, 42, 182, 0, 183]
abbrev dktX4_number_2 : List UInt8 := dkwX4_number_2 ++ dktX4_number_3
def dkwX4_number_1 : List UInt8 := [167, 0, 32, 42, 180, 0, 163, 7, 163, 0, 19, 42, 180, 0, 147, 27, 161, 0, 11, 42, 180, 0, 147, 28]
abbrev dktX4_number_1 : List UInt8 := dkwX4_number_1 ++ dktX4_number_2
def dkwX4_number_0 : List UInt8 := [42, 182, 0, 179, 154, 0, 5, 3, 172, 42, 180, 0, 153, 5, 159, 0, 11, 42, 4, 182, 0, 186]
abbrev dktX4_number_0 : List UInt8 := dkwX4_number_0 ++ dktX4_number_1
theorem dksX4_number_0 : cX4_number.data.toList.drop 0 = dktX4_number_0 := by decide +kernel
theorem dksX4_number_1 : cX4_number.data.toList.drop 22 = dktX4_number_1 := dk_seg dksX4_number_0 22 rfl rfl
theorem dksX4_number_2 : cX4_number.data.toList.drop 46 = dktX4_number_2 := dk_seg dksX4_number_1 24 rfl rfl
theorem dksX4_number_3 : cX4_number.data.toList.drop 70 = dktX4_number_3 := dk_seg dksX4_number_2 24 rfl rfl
theorem dX4_number_0 : decode cX4_number 0 = .ok (.aload_n 0, 1) := dk_42 (dk_at dksX4_number_0 0 rfl rfl)
theorem dX4_number_1 : decode cX4_number 1 = .ok (.invokevirtual 179, 3) := dk_182 0 179 (dk_at dksX4_number_0 1 rfl rfl)
theorem dX4_number_4 : decode cX4_number 4 = .ok (.ifCond .ne 5, 3) := dk_154 0 5 (dk_at dksX4_number_0 4 rfl rfl)
theorem dX4_number_7 : decode cX4_number 7 = .ok (.iconst 0, 1) := dk_3 (dk_at dksX4_number_0 7 rfl rfl)
theorem dX4_number_8 : decode cX4_number 8 = .ok (.ireturn, 1) := dk_172 (dk_at dksX4_number_0 8 rfl rfl)
theorem dX4_number_9 : decode cX4_number 9 = .ok (.aload_n 0, 1) := dk_42 (dk_at dksX4_number_0 9 rfl rfl)
theorem dX4_number_10 : decode cX4_number 10 = .ok (.getfield 153, 3) := dk_180 0 153 (dk_at dksX4_number_0 10 rfl rfl)
theorem dX4_number_13 : decode cX4_number 13 = .ok (.iconst 2, 1) := dk_5 (dk_at dksX4_number_0 13 rfl rfl)
theorem dX4_number_14 : decode cX4_number 14 = .ok (.if_icmp .eq 11, 3) := dk_159 0 11 (dk_at dksX4_number_0 14 rfl rfl)
theorem dX4_number_17 : decode cX4_number 17 = .ok (.aload_n 0, 1) := dk_42 (dk_at dksX4_number_0 17 rfl rfl)
theorem dX4_number_18 : decode cX4_number 18 = .ok (.iconst 1, 1) := dk_4 (dk_at dksX4_number_0 18 rfl rfl)
theorem dX4_number_19 : decode cX4_number 19 = .ok (.invokevirtual 186, 3) := dk_182 0 186 (dk_at dksX4_number_0 19 rfl rfl)
theorem dX4_number_22 : decode cX4_number 22 = .ok (.goto 32, 3) := dk_167 0 32 (dk_at dksX4_number_1 0 rfl rfl)
theorem dX4_number_25 : decode cX4_number 25 = .ok (.aload_n 0, 1) := dk_42 (dk_at dksX4_number_1 3 rfl rfl)
theorem dX4_number_26 : decode cX4_number 26 = .ok (.getfield 163, 3) := dk_180 0 163 (dk_at dksX4_number_1 4 rfl rfl)
theorem dX4_number_29 : decode cX4_number 29 = .ok (.iconst 4, 1) := dk_7 (dk_at dksX4_number_1 7 rfl rfl)
theorem dX4_number_30 : decode cX4_number 30 = .ok (.if_icmp .gt 19, 3) := dk_163 0 19 (dk_at dksX4_number_1 8 rfl rfl)
theorem dX4_number_33 : decode cX4_number 33 = .ok (.aload_n 0, 1) := dk_42 (dk_at dksX4_number_1 11 rfl rfl)
theorem dX4_number_34 : decode cX4_number 34 = .ok (.getfield 147, 3) := dk_180 0 147 (dk_at dksX4_number_1 12 rfl rfl)
theorem dX4_number_37 : decode cX4_number 37 = .ok (.iload_n 1, 1) := dk_27 (dk_at dksX4_number_1 15 rfl rfl)
theorem dX4_number_38 : decode cX4_number 38 = .ok (.if_icmp .lt 11, 3) := dk_161 0 11 (dk_at dksX4_number_1 16 rfl rfl)
theorem dX4_number_41 : decode cX4_number 41 = .ok (.aload_n 0, 1) := dk_42 (dk_at dksX4_number_1 19 rfl rfl)
theorem dX4_number_42 : decode cX4_number 42 = .ok (.getfield 147, 3) := dk_180 0 147 (dk_at dksX4_number_1 20 rfl rfl)
theorem dX4_number_45 : decode cX4_number 45 = .ok (.iload_n 2, 1) := dk_28 (dk_at dksX4_number_1 23 rfl rfl)
theorem dX4_number_46 : decode cX4_number 46 = .ok (.if_icmp .le 8, 3) := dk_164 0 8 (dk_at dksX4_number_2 0 rfl rfl)
theorem dX4_number_49 : decode cX4_number 49 = .ok (.aload_n 0, 1) := dk_42 (dk_at dksX4_number_2 3 rfl rfl)
theorem dX4_number_50 : decode cX4_number 50 = .ok (.iconst 2, 1) := dk_5 (dk_at dksX4_number_2 4 rfl rfl)
theorem dX4_number_51 : decode cX4_number 51 = .ok (.invokevirtual 186, 3) := dk_182 0 186 (dk_at dksX4_number_2 5 rfl rfl)
theorem dX4_number_54 : decode cX4_number 54 = .ok (.aload_n 0, 1) := dk_42 (dk_at dksX4_number_2 8 rfl rfl)
theorem dX4_number_55 : decode cX4_number 55 = .ok (.getfield 147, 3) := dk_180 0 147 (dk_at dksX4_number_2 9 rfl rfl)
theorem dX4_number_58 : decode cX4_number 58 = .ok (.istore_n 3, 1) := dk_62 (dk_at dksX4_number_2 12 rfl rfl)
theorem dX4_number_59 : decode cX4_number 59 = .ok (.aload_n 0, 1) := dk_42 (dk_at dksX4_number_2 13 rfl rfl)
theorem dX4_number_60 : decode cX4_number 60 = .ok (.invokevirtual 179, 3) := dk_182 0 179 (dk_at dksX4_number_2 14 rfl rfl)
theorem dX4_number_63 : decode cX4_number 63 = .ok (.ifCond .eq 7, 3) := dk_153 0 7 (dk_at dksX4_number_2 17 rfl rfl)
theorem dX4_number_66 : decode cX4_number 66 = .ok (.aload_n 0, 1) := dk_42 (dk_at dksX4_number_2 20 rfl rfl)
theorem dX4_number_67 : decode cX4_number 67 = .ok (.invokevirtual 183, 3) := dk_182 0 183 (dk_at dksX4_number_2 21 rfl rfl)
theorem dX4_number_70 : decode cX4_number 70 = .ok (.iload_n 3, 1) := dk_29 (dk_at dksX4_number_3 0 rfl rfl)
theorem dX4_number_71 : decode cX4_number 71 = .ok (.ireturn, 1) := dk_172 (dk_at dksX4_number_3 1 rfl rfl)
abbrev cX4_readsRow : ByteArray := prog_14_method_33_code
def yX4_readsRow : MethodName := ⟨RX4, "readsRow", "(I)V"⟩
def dkwX4_readsRow_7 : List UInt8 := [167, 0, 4, 3, 54, 4, 167, 255, 160, 42, 180, 0, 68, 28, 29, 79, 177]
abbrev dktX4_readsRow_7 : List UInt8 := dkwX4_readsRow_7 ++ []
def dkwX4_readsRow_6 : List UInt8 := [96, 21, 5, 79, 42, 180, 0, 71, 28, 92, 46, 4, 96, 79, 42, 180, 0, 153, 5, 160, 0, 7, 4]
abbrev dktX4_readsRow_6 : List UInt8 := dkwX4_readsRow_6 ++ dktX4_readsRow_7
def dkwX4_readsRow_5 : List UInt8 := [54, 5, 42, 182, 0, 179, 154, 0, 4, 177, 42, 180, 0, 74, 16, 12, 28, 104, 42, 180, 0, 71, 28, 46]
abbrev dktX4_readsRow_5 : List UInt8 := dkwX4_readsRow_5 ++ dktX4_readsRow_6
def dkwX4_readsRow_4 : List UInt8 := [160, 0, 16, 42, 180, 0, 153, 5, 160, 0, 8, 42, 5, 182, 0, 186, 42, 3, 16, 48, 182, 0, 244]
abbrev dktX4_readsRow_4 : List UInt8 := dkwX4_readsRow_4 ++ dktX4_readsRow_5
def dkwX4_readsRow_3 : List UInt8 := [54, 4, 21, 4, 153, 0, 97, 42, 182, 0, 179, 153, 0, 90, 42, 180, 0, 71, 28, 46, 16, 12]
abbrev dktX4_readsRow_3 : List UInt8 := dkwX4_readsRow_3 ++ dktX4_readsRow_4
def dkwX4_readsRow_2 : List UInt8 := [154, 0, 4, 177, 42, 182, 0, 183, 42, 4, 7, 182, 0, 244, 62, 42, 180, 0, 71, 28, 3, 79, 4]
abbrev dktX4_readsRow_2 : List UInt8 := dkwX4_readsRow_2 ++ dktX4_readsRow_3
def dkwX4_readsRow_1 : List UInt8 := [182, 0, 179, 153, 0, 17, 42, 180, 0, 68, 28, 46, 158, 0, 8, 42, 7, 182, 0, 186, 42, 182, 0, 179]
abbrev dktX4_readsRow_1 : List UInt8 := dkwX4_readsRow_1 ++ dktX4_readsRow_2
def dkwX4_readsRow_0 : List UInt8 := [42, 180, 0, 248, 154, 0, 8, 42, 4, 182, 0, 186, 7, 42, 180, 0, 248, 104, 7, 100, 27, 96, 61, 42]
abbrev dktX4_readsRow_0 : List UInt8 := dkwX4_readsRow_0 ++ dktX4_readsRow_1
theorem dksX4_readsRow_0 : cX4_readsRow.data.toList.drop 0 = dktX4_readsRow_0 := by decide +kernel
theorem dksX4_readsRow_1 : cX4_readsRow.data.toList.drop 24 = dktX4_readsRow_1 := dk_seg dksX4_readsRow_0 24 rfl rfl
theorem dksX4_readsRow_2 : cX4_readsRow.data.toList.drop 48 = dktX4_readsRow_2 := dk_seg dksX4_readsRow_1 24 rfl rfl
theorem dksX4_readsRow_3 : cX4_readsRow.data.toList.drop 71 = dktX4_readsRow_3 := dk_seg dksX4_readsRow_2 23 rfl rfl
theorem dksX4_readsRow_4 : cX4_readsRow.data.toList.drop 93 = dktX4_readsRow_4 := dk_seg dksX4_readsRow_3 22 rfl rfl
theorem dksX4_readsRow_5 : cX4_readsRow.data.toList.drop 116 = dktX4_readsRow_5 := dk_seg dksX4_readsRow_4 23 rfl rfl
theorem dksX4_readsRow_6 : cX4_readsRow.data.toList.drop 140 = dktX4_readsRow_6 := dk_seg dksX4_readsRow_5 24 rfl rfl
theorem dksX4_readsRow_7 : cX4_readsRow.data.toList.drop 163 = dktX4_readsRow_7 := dk_seg dksX4_readsRow_6 23 rfl rfl
theorem dX4_readsRow_0 : decode cX4_readsRow 0 = .ok (.aload_n 0, 1) := dk_42 (dk_at dksX4_readsRow_0 0 rfl rfl)
theorem dX4_readsRow_1 : decode cX4_readsRow 1 = .ok (.getfield 248, 3) := dk_180 0 248 (dk_at dksX4_readsRow_0 1 rfl rfl)
theorem dX4_readsRow_4 : decode cX4_readsRow 4 = .ok (.ifCond .ne 8, 3) := dk_154 0 8 (dk_at dksX4_readsRow_0 4 rfl rfl)
theorem dX4_readsRow_7 : decode cX4_readsRow 7 = .ok (.aload_n 0, 1) := dk_42 (dk_at dksX4_readsRow_0 7 rfl rfl)
theorem dX4_readsRow_8 : decode cX4_readsRow 8 = .ok (.iconst 1, 1) := dk_4 (dk_at dksX4_readsRow_0 8 rfl rfl)
theorem dX4_readsRow_9 : decode cX4_readsRow 9 = .ok (.invokevirtual 186, 3) := dk_182 0 186 (dk_at dksX4_readsRow_0 9 rfl rfl)
theorem dX4_readsRow_12 : decode cX4_readsRow 12 = .ok (.iconst 4, 1) := dk_7 (dk_at dksX4_readsRow_0 12 rfl rfl)
theorem dX4_readsRow_13 : decode cX4_readsRow 13 = .ok (.aload_n 0, 1) := dk_42 (dk_at dksX4_readsRow_0 13 rfl rfl)
theorem dX4_readsRow_14 : decode cX4_readsRow 14 = .ok (.getfield 248, 3) := dk_180 0 248 (dk_at dksX4_readsRow_0 14 rfl rfl)
theorem dX4_readsRow_17 : decode cX4_readsRow 17 = .ok (.imul, 1) := dk_104 (dk_at dksX4_readsRow_0 17 rfl rfl)
theorem dX4_readsRow_18 : decode cX4_readsRow 18 = .ok (.iconst 4, 1) := dk_7 (dk_at dksX4_readsRow_0 18 rfl rfl)
theorem dX4_readsRow_19 : decode cX4_readsRow 19 = .ok (.isub, 1) := dk_100 (dk_at dksX4_readsRow_0 19 rfl rfl)
theorem dX4_readsRow_20 : decode cX4_readsRow 20 = .ok (.iload_n 1, 1) := dk_27 (dk_at dksX4_readsRow_0 20 rfl rfl)
theorem dX4_readsRow_21 : decode cX4_readsRow 21 = .ok (.iadd, 1) := dk_96 (dk_at dksX4_readsRow_0 21 rfl rfl)
theorem dX4_readsRow_22 : decode cX4_readsRow 22 = .ok (.istore_n 2, 1) := dk_61 (dk_at dksX4_readsRow_0 22 rfl rfl)
theorem dX4_readsRow_23 : decode cX4_readsRow 23 = .ok (.aload_n 0, 1) := dk_42 (dk_at dksX4_readsRow_0 23 rfl rfl)
theorem dX4_readsRow_24 : decode cX4_readsRow 24 = .ok (.invokevirtual 179, 3) := dk_182 0 179 (dk_at dksX4_readsRow_1 0 rfl rfl)
theorem dX4_readsRow_27 : decode cX4_readsRow 27 = .ok (.ifCond .eq 17, 3) := dk_153 0 17 (dk_at dksX4_readsRow_1 3 rfl rfl)
theorem dX4_readsRow_30 : decode cX4_readsRow 30 = .ok (.aload_n 0, 1) := dk_42 (dk_at dksX4_readsRow_1 6 rfl rfl)
theorem dX4_readsRow_31 : decode cX4_readsRow 31 = .ok (.getfield 68, 3) := dk_180 0 68 (dk_at dksX4_readsRow_1 7 rfl rfl)
theorem dX4_readsRow_34 : decode cX4_readsRow 34 = .ok (.iload_n 2, 1) := dk_28 (dk_at dksX4_readsRow_1 10 rfl rfl)
theorem dX4_readsRow_35 : decode cX4_readsRow 35 = .ok (.iaload, 1) := dk_46 (dk_at dksX4_readsRow_1 11 rfl rfl)
theorem dX4_readsRow_36 : decode cX4_readsRow 36 = .ok (.ifCond .le 8, 3) := dk_158 0 8 (dk_at dksX4_readsRow_1 12 rfl rfl)
theorem dX4_readsRow_39 : decode cX4_readsRow 39 = .ok (.aload_n 0, 1) := dk_42 (dk_at dksX4_readsRow_1 15 rfl rfl)
theorem dX4_readsRow_40 : decode cX4_readsRow 40 = .ok (.iconst 4, 1) := dk_7 (dk_at dksX4_readsRow_1 16 rfl rfl)
theorem dX4_readsRow_41 : decode cX4_readsRow 41 = .ok (.invokevirtual 186, 3) := dk_182 0 186 (dk_at dksX4_readsRow_1 17 rfl rfl)
theorem dX4_readsRow_44 : decode cX4_readsRow 44 = .ok (.aload_n 0, 1) := dk_42 (dk_at dksX4_readsRow_1 20 rfl rfl)
theorem dX4_readsRow_45 : decode cX4_readsRow 45 = .ok (.invokevirtual 179, 3) := dk_182 0 179 (dk_at dksX4_readsRow_1 21 rfl rfl)
theorem dX4_readsRow_48 : decode cX4_readsRow 48 = .ok (.ifCond .ne 4, 3) := dk_154 0 4 (dk_at dksX4_readsRow_2 0 rfl rfl)
theorem dX4_readsRow_51 : decode cX4_readsRow 51 = .ok (.return_, 1) := dk_177 (dk_at dksX4_readsRow_2 3 rfl rfl)
theorem dX4_readsRow_52 : decode cX4_readsRow 52 = .ok (.aload_n 0, 1) := dk_42 (dk_at dksX4_readsRow_2 4 rfl rfl)
theorem dX4_readsRow_53 : decode cX4_readsRow 53 = .ok (.invokevirtual 183, 3) := dk_182 0 183 (dk_at dksX4_readsRow_2 5 rfl rfl)
theorem dX4_readsRow_56 : decode cX4_readsRow 56 = .ok (.aload_n 0, 1) := dk_42 (dk_at dksX4_readsRow_2 8 rfl rfl)
theorem dX4_readsRow_57 : decode cX4_readsRow 57 = .ok (.iconst 1, 1) := dk_4 (dk_at dksX4_readsRow_2 9 rfl rfl)
theorem dX4_readsRow_58 : decode cX4_readsRow 58 = .ok (.iconst 4, 1) := dk_7 (dk_at dksX4_readsRow_2 10 rfl rfl)
theorem dX4_readsRow_59 : decode cX4_readsRow 59 = .ok (.invokevirtual 244, 3) := dk_182 0 244 (dk_at dksX4_readsRow_2 11 rfl rfl)
theorem dX4_readsRow_62 : decode cX4_readsRow 62 = .ok (.istore_n 3, 1) := dk_62 (dk_at dksX4_readsRow_2 14 rfl rfl)
theorem dX4_readsRow_63 : decode cX4_readsRow 63 = .ok (.aload_n 0, 1) := dk_42 (dk_at dksX4_readsRow_2 15 rfl rfl)
theorem dX4_readsRow_64 : decode cX4_readsRow 64 = .ok (.getfield 71, 3) := dk_180 0 71 (dk_at dksX4_readsRow_2 16 rfl rfl)
theorem dX4_readsRow_67 : decode cX4_readsRow 67 = .ok (.iload_n 2, 1) := dk_28 (dk_at dksX4_readsRow_2 19 rfl rfl)
theorem dX4_readsRow_68 : decode cX4_readsRow 68 = .ok (.iconst 0, 1) := dk_3 (dk_at dksX4_readsRow_2 20 rfl rfl)
theorem dX4_readsRow_69 : decode cX4_readsRow 69 = .ok (.iastore, 1) := dk_79 (dk_at dksX4_readsRow_2 21 rfl rfl)
theorem dX4_readsRow_70 : decode cX4_readsRow 70 = .ok (.iconst 1, 1) := dk_4 (dk_at dksX4_readsRow_2 22 rfl rfl)
theorem dX4_readsRow_71 : decode cX4_readsRow 71 = .ok (.istore 4, 2) := dk_54 4 (dk_at dksX4_readsRow_3 0 rfl rfl)
theorem dX4_readsRow_73 : decode cX4_readsRow 73 = .ok (.iload 4, 2) := dk_21 4 (dk_at dksX4_readsRow_3 2 rfl rfl)
theorem dX4_readsRow_75 : decode cX4_readsRow 75 = .ok (.ifCond .eq 97, 3) := dk_153 0 97 (dk_at dksX4_readsRow_3 4 rfl rfl)
theorem dX4_readsRow_78 : decode cX4_readsRow 78 = .ok (.aload_n 0, 1) := dk_42 (dk_at dksX4_readsRow_3 7 rfl rfl)
theorem dX4_readsRow_79 : decode cX4_readsRow 79 = .ok (.invokevirtual 179, 3) := dk_182 0 179 (dk_at dksX4_readsRow_3 8 rfl rfl)
theorem dX4_readsRow_82 : decode cX4_readsRow 82 = .ok (.ifCond .eq 90, 3) := dk_153 0 90 (dk_at dksX4_readsRow_3 11 rfl rfl)
theorem dX4_readsRow_85 : decode cX4_readsRow 85 = .ok (.aload_n 0, 1) := dk_42 (dk_at dksX4_readsRow_3 14 rfl rfl)
theorem dX4_readsRow_86 : decode cX4_readsRow 86 = .ok (.getfield 71, 3) := dk_180 0 71 (dk_at dksX4_readsRow_3 15 rfl rfl)
theorem dX4_readsRow_89 : decode cX4_readsRow 89 = .ok (.iload_n 2, 1) := dk_28 (dk_at dksX4_readsRow_3 18 rfl rfl)
theorem dX4_readsRow_90 : decode cX4_readsRow 90 = .ok (.iaload, 1) := dk_46 (dk_at dksX4_readsRow_3 19 rfl rfl)
theorem dX4_readsRow_91 : decode cX4_readsRow 91 = .ok (.bipush 12, 2) := dk_16 12 (dk_at dksX4_readsRow_3 20 rfl rfl)
theorem dX4_readsRow_93 : decode cX4_readsRow 93 = .ok (.if_icmp .ne 16, 3) := dk_160 0 16 (dk_at dksX4_readsRow_4 0 rfl rfl)
theorem dX4_readsRow_96 : decode cX4_readsRow 96 = .ok (.aload_n 0, 1) := dk_42 (dk_at dksX4_readsRow_4 3 rfl rfl)
theorem dX4_readsRow_97 : decode cX4_readsRow 97 = .ok (.getfield 153, 3) := dk_180 0 153 (dk_at dksX4_readsRow_4 4 rfl rfl)
theorem dX4_readsRow_100 : decode cX4_readsRow 100 = .ok (.iconst 2, 1) := dk_5 (dk_at dksX4_readsRow_4 7 rfl rfl)
theorem dX4_readsRow_101 : decode cX4_readsRow 101 = .ok (.if_icmp .ne 8, 3) := dk_160 0 8 (dk_at dksX4_readsRow_4 8 rfl rfl)
theorem dX4_readsRow_104 : decode cX4_readsRow 104 = .ok (.aload_n 0, 1) := dk_42 (dk_at dksX4_readsRow_4 11 rfl rfl)
theorem dX4_readsRow_105 : decode cX4_readsRow 105 = .ok (.iconst 2, 1) := dk_5 (dk_at dksX4_readsRow_4 12 rfl rfl)
theorem dX4_readsRow_106 : decode cX4_readsRow 106 = .ok (.invokevirtual 186, 3) := dk_182 0 186 (dk_at dksX4_readsRow_4 13 rfl rfl)
theorem dX4_readsRow_109 : decode cX4_readsRow 109 = .ok (.aload_n 0, 1) := dk_42 (dk_at dksX4_readsRow_4 16 rfl rfl)
theorem dX4_readsRow_110 : decode cX4_readsRow 110 = .ok (.iconst 0, 1) := dk_3 (dk_at dksX4_readsRow_4 17 rfl rfl)
theorem dX4_readsRow_111 : decode cX4_readsRow 111 = .ok (.bipush 48, 2) := dk_16 48 (dk_at dksX4_readsRow_4 18 rfl rfl)
theorem dX4_readsRow_113 : decode cX4_readsRow 113 = .ok (.invokevirtual 244, 3) := dk_182 0 244 (dk_at dksX4_readsRow_4 20 rfl rfl)
theorem dX4_readsRow_116 : decode cX4_readsRow 116 = .ok (.istore 5, 2) := dk_54 5 (dk_at dksX4_readsRow_5 0 rfl rfl)
theorem dX4_readsRow_118 : decode cX4_readsRow 118 = .ok (.aload_n 0, 1) := dk_42 (dk_at dksX4_readsRow_5 2 rfl rfl)
theorem dX4_readsRow_119 : decode cX4_readsRow 119 = .ok (.invokevirtual 179, 3) := dk_182 0 179 (dk_at dksX4_readsRow_5 3 rfl rfl)
theorem dX4_readsRow_122 : decode cX4_readsRow 122 = .ok (.ifCond .ne 4, 3) := dk_154 0 4 (dk_at dksX4_readsRow_5 6 rfl rfl)
theorem dX4_readsRow_125 : decode cX4_readsRow 125 = .ok (.return_, 1) := dk_177 (dk_at dksX4_readsRow_5 9 rfl rfl)
theorem dX4_readsRow_126 : decode cX4_readsRow 126 = .ok (.aload_n 0, 1) := dk_42 (dk_at dksX4_readsRow_5 10 rfl rfl)
theorem dX4_readsRow_127 : decode cX4_readsRow 127 = .ok (.getfield 74, 3) := dk_180 0 74 (dk_at dksX4_readsRow_5 11 rfl rfl)
theorem dX4_readsRow_130 : decode cX4_readsRow 130 = .ok (.bipush 12, 2) := dk_16 12 (dk_at dksX4_readsRow_5 14 rfl rfl)
theorem dX4_readsRow_132 : decode cX4_readsRow 132 = .ok (.iload_n 2, 1) := dk_28 (dk_at dksX4_readsRow_5 16 rfl rfl)
theorem dX4_readsRow_133 : decode cX4_readsRow 133 = .ok (.imul, 1) := dk_104 (dk_at dksX4_readsRow_5 17 rfl rfl)
theorem dX4_readsRow_134 : decode cX4_readsRow 134 = .ok (.aload_n 0, 1) := dk_42 (dk_at dksX4_readsRow_5 18 rfl rfl)
theorem dX4_readsRow_135 : decode cX4_readsRow 135 = .ok (.getfield 71, 3) := dk_180 0 71 (dk_at dksX4_readsRow_5 19 rfl rfl)
theorem dX4_readsRow_138 : decode cX4_readsRow 138 = .ok (.iload_n 2, 1) := dk_28 (dk_at dksX4_readsRow_5 22 rfl rfl)
theorem dX4_readsRow_139 : decode cX4_readsRow 139 = .ok (.iaload, 1) := dk_46 (dk_at dksX4_readsRow_5 23 rfl rfl)
theorem dX4_readsRow_140 : decode cX4_readsRow 140 = .ok (.iadd, 1) := dk_96 (dk_at dksX4_readsRow_6 0 rfl rfl)
theorem dX4_readsRow_141 : decode cX4_readsRow 141 = .ok (.iload 5, 2) := dk_21 5 (dk_at dksX4_readsRow_6 1 rfl rfl)
theorem dX4_readsRow_143 : decode cX4_readsRow 143 = .ok (.iastore, 1) := dk_79 (dk_at dksX4_readsRow_6 3 rfl rfl)
theorem dX4_readsRow_144 : decode cX4_readsRow 144 = .ok (.aload_n 0, 1) := dk_42 (dk_at dksX4_readsRow_6 4 rfl rfl)
theorem dX4_readsRow_145 : decode cX4_readsRow 145 = .ok (.getfield 71, 3) := dk_180 0 71 (dk_at dksX4_readsRow_6 5 rfl rfl)
theorem dX4_readsRow_148 : decode cX4_readsRow 148 = .ok (.iload_n 2, 1) := dk_28 (dk_at dksX4_readsRow_6 8 rfl rfl)
theorem dX4_readsRow_149 : decode cX4_readsRow 149 = .ok (.dup2, 1) := dk_92 (dk_at dksX4_readsRow_6 9 rfl rfl)
theorem dX4_readsRow_150 : decode cX4_readsRow 150 = .ok (.iaload, 1) := dk_46 (dk_at dksX4_readsRow_6 10 rfl rfl)
theorem dX4_readsRow_151 : decode cX4_readsRow 151 = .ok (.iconst 1, 1) := dk_4 (dk_at dksX4_readsRow_6 11 rfl rfl)
theorem dX4_readsRow_152 : decode cX4_readsRow 152 = .ok (.iadd, 1) := dk_96 (dk_at dksX4_readsRow_6 12 rfl rfl)
theorem dX4_readsRow_153 : decode cX4_readsRow 153 = .ok (.iastore, 1) := dk_79 (dk_at dksX4_readsRow_6 13 rfl rfl)
theorem dX4_readsRow_154 : decode cX4_readsRow 154 = .ok (.aload_n 0, 1) := dk_42 (dk_at dksX4_readsRow_6 14 rfl rfl)
theorem dX4_readsRow_155 : decode cX4_readsRow 155 = .ok (.getfield 153, 3) := dk_180 0 153 (dk_at dksX4_readsRow_6 15 rfl rfl)
theorem dX4_readsRow_158 : decode cX4_readsRow 158 = .ok (.iconst 2, 1) := dk_5 (dk_at dksX4_readsRow_6 18 rfl rfl)
theorem dX4_readsRow_159 : decode cX4_readsRow 159 = .ok (.if_icmp .ne 7, 3) := dk_160 0 7 (dk_at dksX4_readsRow_6 19 rfl rfl)
theorem dX4_readsRow_162 : decode cX4_readsRow 162 = .ok (.iconst 1, 1) := dk_4 (dk_at dksX4_readsRow_6 22 rfl rfl)
theorem dX4_readsRow_163 : decode cX4_readsRow 163 = .ok (.goto 4, 3) := dk_167 0 4 (dk_at dksX4_readsRow_7 0 rfl rfl)
theorem dX4_readsRow_166 : decode cX4_readsRow 166 = .ok (.iconst 0, 1) := dk_3 (dk_at dksX4_readsRow_7 3 rfl rfl)
theorem dX4_readsRow_167 : decode cX4_readsRow 167 = .ok (.istore 4, 2) := dk_54 4 (dk_at dksX4_readsRow_7 4 rfl rfl)
theorem dX4_readsRow_169 : decode cX4_readsRow 169 = .ok (.goto (-96), 3) := dk_167 255 160 (dk_at dksX4_readsRow_7 6 rfl rfl)
theorem dX4_readsRow_172 : decode cX4_readsRow 172 = .ok (.aload_n 0, 1) := dk_42 (dk_at dksX4_readsRow_7 9 rfl rfl)
theorem dX4_readsRow_173 : decode cX4_readsRow 173 = .ok (.getfield 68, 3) := dk_180 0 68 (dk_at dksX4_readsRow_7 10 rfl rfl)
theorem dX4_readsRow_176 : decode cX4_readsRow 176 = .ok (.iload_n 2, 1) := dk_28 (dk_at dksX4_readsRow_7 13 rfl rfl)
theorem dX4_readsRow_177 : decode cX4_readsRow 177 = .ok (.iload_n 3, 1) := dk_29 (dk_at dksX4_readsRow_7 14 rfl rfl)
theorem dX4_readsRow_178 : decode cX4_readsRow 178 = .ok (.iastore, 1) := dk_79 (dk_at dksX4_readsRow_7 15 rfl rfl)
theorem dX4_readsRow_179 : decode cX4_readsRow 179 = .ok (.return_, 1) := dk_177 (dk_at dksX4_readsRow_7 16 rfl rfl)
abbrev cX4_readsRule : ByteArray := prog_14_method_34_code
def yX4_readsRule : MethodName := ⟨RX4, "readsRule", "(I)V"⟩
def dkwX4_readsRule_4 : List UInt8 := [167, 0, 5, 16, 6, 27, 154, 0, 7, 8, 167, 0, 5, 16, 9, 182, 0, 251, 177]
abbrev dktX4_readsRule_4 : List UInt8 := dkwX4_readsRule_4 ++ []
def dkwX4_readsRule_3 : List UInt8 := [154, 0, 4, 177, 42, 182, 0, 183, 42, 180, 0, 77, 29, 42, 180, 0, 189, 79, 42, 27, 154, 0, 7, 3]
abbrev dktX4_readsRule_3 : List UInt8 := dkwX4_readsRule_3 ++ dktX4_readsRule_4
def dkwX4_readsRule_2 : List UInt8 := [153, 0, 18, 42, 180, 0, 77, 29, 46, 2, 159, 0, 8, 42, 8, 182, 0, 186, 42, 182, 0, 179]
abbrev dktX4_readsRule_2 : List UInt8 := dkwX4_readsRule_2 ++ dktX4_readsRule_3
def dkwX4_readsRule_1 : List UInt8 := [182, 0, 186, 5, 27, 104, 28, 16, 11, 160, 0, 7, 4, 167, 0, 4, 3, 96, 62, 42, 182, 0, 179]
abbrev dktX4_readsRule_1 : List UInt8 := dkwX4_readsRule_1 ++ dktX4_readsRule_2
def dkwX4_readsRule_0 : List UInt8 := [42, 182, 0, 183, 42, 182, 0, 204, 61, 28, 16, 10, 159, 0, 14, 28, 16, 11, 159, 0, 8, 42, 4]
abbrev dktX4_readsRule_0 : List UInt8 := dkwX4_readsRule_0 ++ dktX4_readsRule_1
theorem dksX4_readsRule_0 : cX4_readsRule.data.toList.drop 0 = dktX4_readsRule_0 := by decide +kernel
theorem dksX4_readsRule_1 : cX4_readsRule.data.toList.drop 23 = dktX4_readsRule_1 := dk_seg dksX4_readsRule_0 23 rfl rfl
theorem dksX4_readsRule_2 : cX4_readsRule.data.toList.drop 46 = dktX4_readsRule_2 := dk_seg dksX4_readsRule_1 23 rfl rfl
theorem dksX4_readsRule_3 : cX4_readsRule.data.toList.drop 68 = dktX4_readsRule_3 := dk_seg dksX4_readsRule_2 22 rfl rfl
theorem dksX4_readsRule_4 : cX4_readsRule.data.toList.drop 92 = dktX4_readsRule_4 := dk_seg dksX4_readsRule_3 24 rfl rfl
theorem dX4_readsRule_0 : decode cX4_readsRule 0 = .ok (.aload_n 0, 1) := dk_42 (dk_at dksX4_readsRule_0 0 rfl rfl)
theorem dX4_readsRule_1 : decode cX4_readsRule 1 = .ok (.invokevirtual 183, 3) := dk_182 0 183 (dk_at dksX4_readsRule_0 1 rfl rfl)
theorem dX4_readsRule_4 : decode cX4_readsRule 4 = .ok (.aload_n 0, 1) := dk_42 (dk_at dksX4_readsRule_0 4 rfl rfl)
theorem dX4_readsRule_5 : decode cX4_readsRule 5 = .ok (.invokevirtual 204, 3) := dk_182 0 204 (dk_at dksX4_readsRule_0 5 rfl rfl)
theorem dX4_readsRule_8 : decode cX4_readsRule 8 = .ok (.istore_n 2, 1) := dk_61 (dk_at dksX4_readsRule_0 8 rfl rfl)
theorem dX4_readsRule_9 : decode cX4_readsRule 9 = .ok (.iload_n 2, 1) := dk_28 (dk_at dksX4_readsRule_0 9 rfl rfl)
theorem dX4_readsRule_10 : decode cX4_readsRule 10 = .ok (.bipush 10, 2) := dk_16 10 (dk_at dksX4_readsRule_0 10 rfl rfl)
theorem dX4_readsRule_12 : decode cX4_readsRule 12 = .ok (.if_icmp .eq 14, 3) := dk_159 0 14 (dk_at dksX4_readsRule_0 12 rfl rfl)
theorem dX4_readsRule_15 : decode cX4_readsRule 15 = .ok (.iload_n 2, 1) := dk_28 (dk_at dksX4_readsRule_0 15 rfl rfl)
theorem dX4_readsRule_16 : decode cX4_readsRule 16 = .ok (.bipush 11, 2) := dk_16 11 (dk_at dksX4_readsRule_0 16 rfl rfl)
theorem dX4_readsRule_18 : decode cX4_readsRule 18 = .ok (.if_icmp .eq 8, 3) := dk_159 0 8 (dk_at dksX4_readsRule_0 18 rfl rfl)
theorem dX4_readsRule_21 : decode cX4_readsRule 21 = .ok (.aload_n 0, 1) := dk_42 (dk_at dksX4_readsRule_0 21 rfl rfl)
theorem dX4_readsRule_22 : decode cX4_readsRule 22 = .ok (.iconst 1, 1) := dk_4 (dk_at dksX4_readsRule_0 22 rfl rfl)
theorem dX4_readsRule_23 : decode cX4_readsRule 23 = .ok (.invokevirtual 186, 3) := dk_182 0 186 (dk_at dksX4_readsRule_1 0 rfl rfl)
theorem dX4_readsRule_26 : decode cX4_readsRule 26 = .ok (.iconst 2, 1) := dk_5 (dk_at dksX4_readsRule_1 3 rfl rfl)
theorem dX4_readsRule_27 : decode cX4_readsRule 27 = .ok (.iload_n 1, 1) := dk_27 (dk_at dksX4_readsRule_1 4 rfl rfl)
theorem dX4_readsRule_28 : decode cX4_readsRule 28 = .ok (.imul, 1) := dk_104 (dk_at dksX4_readsRule_1 5 rfl rfl)
theorem dX4_readsRule_29 : decode cX4_readsRule 29 = .ok (.iload_n 2, 1) := dk_28 (dk_at dksX4_readsRule_1 6 rfl rfl)
theorem dX4_readsRule_30 : decode cX4_readsRule 30 = .ok (.bipush 11, 2) := dk_16 11 (dk_at dksX4_readsRule_1 7 rfl rfl)
theorem dX4_readsRule_32 : decode cX4_readsRule 32 = .ok (.if_icmp .ne 7, 3) := dk_160 0 7 (dk_at dksX4_readsRule_1 9 rfl rfl)
theorem dX4_readsRule_35 : decode cX4_readsRule 35 = .ok (.iconst 1, 1) := dk_4 (dk_at dksX4_readsRule_1 12 rfl rfl)
theorem dX4_readsRule_36 : decode cX4_readsRule 36 = .ok (.goto 4, 3) := dk_167 0 4 (dk_at dksX4_readsRule_1 13 rfl rfl)
theorem dX4_readsRule_39 : decode cX4_readsRule 39 = .ok (.iconst 0, 1) := dk_3 (dk_at dksX4_readsRule_1 16 rfl rfl)
theorem dX4_readsRule_40 : decode cX4_readsRule 40 = .ok (.iadd, 1) := dk_96 (dk_at dksX4_readsRule_1 17 rfl rfl)
theorem dX4_readsRule_41 : decode cX4_readsRule 41 = .ok (.istore_n 3, 1) := dk_62 (dk_at dksX4_readsRule_1 18 rfl rfl)
theorem dX4_readsRule_42 : decode cX4_readsRule 42 = .ok (.aload_n 0, 1) := dk_42 (dk_at dksX4_readsRule_1 19 rfl rfl)
theorem dX4_readsRule_43 : decode cX4_readsRule 43 = .ok (.invokevirtual 179, 3) := dk_182 0 179 (dk_at dksX4_readsRule_1 20 rfl rfl)
theorem dX4_readsRule_46 : decode cX4_readsRule 46 = .ok (.ifCond .eq 18, 3) := dk_153 0 18 (dk_at dksX4_readsRule_2 0 rfl rfl)
theorem dX4_readsRule_49 : decode cX4_readsRule 49 = .ok (.aload_n 0, 1) := dk_42 (dk_at dksX4_readsRule_2 3 rfl rfl)
theorem dX4_readsRule_50 : decode cX4_readsRule 50 = .ok (.getfield 77, 3) := dk_180 0 77 (dk_at dksX4_readsRule_2 4 rfl rfl)
theorem dX4_readsRule_53 : decode cX4_readsRule 53 = .ok (.iload_n 3, 1) := dk_29 (dk_at dksX4_readsRule_2 7 rfl rfl)
theorem dX4_readsRule_54 : decode cX4_readsRule 54 = .ok (.iaload, 1) := dk_46 (dk_at dksX4_readsRule_2 8 rfl rfl)
theorem dX4_readsRule_55 : decode cX4_readsRule 55 = .ok (.iconst (-1), 1) := dk_2 (dk_at dksX4_readsRule_2 9 rfl rfl)
theorem dX4_readsRule_56 : decode cX4_readsRule 56 = .ok (.if_icmp .eq 8, 3) := dk_159 0 8 (dk_at dksX4_readsRule_2 10 rfl rfl)
theorem dX4_readsRule_59 : decode cX4_readsRule 59 = .ok (.aload_n 0, 1) := dk_42 (dk_at dksX4_readsRule_2 13 rfl rfl)
theorem dX4_readsRule_60 : decode cX4_readsRule 60 = .ok (.iconst 5, 1) := dk_8 (dk_at dksX4_readsRule_2 14 rfl rfl)
theorem dX4_readsRule_61 : decode cX4_readsRule 61 = .ok (.invokevirtual 186, 3) := dk_182 0 186 (dk_at dksX4_readsRule_2 15 rfl rfl)
theorem dX4_readsRule_64 : decode cX4_readsRule 64 = .ok (.aload_n 0, 1) := dk_42 (dk_at dksX4_readsRule_2 18 rfl rfl)
theorem dX4_readsRule_65 : decode cX4_readsRule 65 = .ok (.invokevirtual 179, 3) := dk_182 0 179 (dk_at dksX4_readsRule_2 19 rfl rfl)
theorem dX4_readsRule_68 : decode cX4_readsRule 68 = .ok (.ifCond .ne 4, 3) := dk_154 0 4 (dk_at dksX4_readsRule_3 0 rfl rfl)
theorem dX4_readsRule_71 : decode cX4_readsRule 71 = .ok (.return_, 1) := dk_177 (dk_at dksX4_readsRule_3 3 rfl rfl)
theorem dX4_readsRule_72 : decode cX4_readsRule 72 = .ok (.aload_n 0, 1) := dk_42 (dk_at dksX4_readsRule_3 4 rfl rfl)
theorem dX4_readsRule_73 : decode cX4_readsRule 73 = .ok (.invokevirtual 183, 3) := dk_182 0 183 (dk_at dksX4_readsRule_3 5 rfl rfl)
theorem dX4_readsRule_76 : decode cX4_readsRule 76 = .ok (.aload_n 0, 1) := dk_42 (dk_at dksX4_readsRule_3 8 rfl rfl)
theorem dX4_readsRule_77 : decode cX4_readsRule 77 = .ok (.getfield 77, 3) := dk_180 0 77 (dk_at dksX4_readsRule_3 9 rfl rfl)
theorem dX4_readsRule_80 : decode cX4_readsRule 80 = .ok (.iload_n 3, 1) := dk_29 (dk_at dksX4_readsRule_3 12 rfl rfl)
theorem dX4_readsRule_81 : decode cX4_readsRule 81 = .ok (.aload_n 0, 1) := dk_42 (dk_at dksX4_readsRule_3 13 rfl rfl)
theorem dX4_readsRule_82 : decode cX4_readsRule 82 = .ok (.getfield 189, 3) := dk_180 0 189 (dk_at dksX4_readsRule_3 14 rfl rfl)
theorem dX4_readsRule_85 : decode cX4_readsRule 85 = .ok (.iastore, 1) := dk_79 (dk_at dksX4_readsRule_3 17 rfl rfl)
theorem dX4_readsRule_86 : decode cX4_readsRule 86 = .ok (.aload_n 0, 1) := dk_42 (dk_at dksX4_readsRule_3 18 rfl rfl)
theorem dX4_readsRule_87 : decode cX4_readsRule 87 = .ok (.iload_n 1, 1) := dk_27 (dk_at dksX4_readsRule_3 19 rfl rfl)
theorem dX4_readsRule_88 : decode cX4_readsRule 88 = .ok (.ifCond .ne 7, 3) := dk_154 0 7 (dk_at dksX4_readsRule_3 20 rfl rfl)
theorem dX4_readsRule_91 : decode cX4_readsRule 91 = .ok (.iconst 0, 1) := dk_3 (dk_at dksX4_readsRule_3 23 rfl rfl)
theorem dX4_readsRule_92 : decode cX4_readsRule 92 = .ok (.goto 5, 3) := dk_167 0 5 (dk_at dksX4_readsRule_4 0 rfl rfl)
theorem dX4_readsRule_95 : decode cX4_readsRule 95 = .ok (.bipush 6, 2) := dk_16 6 (dk_at dksX4_readsRule_4 3 rfl rfl)
theorem dX4_readsRule_97 : decode cX4_readsRule 97 = .ok (.iload_n 1, 1) := dk_27 (dk_at dksX4_readsRule_4 5 rfl rfl)
theorem dX4_readsRule_98 : decode cX4_readsRule 98 = .ok (.ifCond .ne 7, 3) := dk_154 0 7 (dk_at dksX4_readsRule_4 6 rfl rfl)
theorem dX4_readsRule_101 : decode cX4_readsRule 101 = .ok (.iconst 5, 1) := dk_8 (dk_at dksX4_readsRule_4 9 rfl rfl)
theorem dX4_readsRule_102 : decode cX4_readsRule 102 = .ok (.goto 5, 3) := dk_167 0 5 (dk_at dksX4_readsRule_4 10 rfl rfl)
theorem dX4_readsRule_105 : decode cX4_readsRule 105 = .ok (.bipush 9, 2) := dk_16 9 (dk_at dksX4_readsRule_4 13 rfl rfl)
theorem dX4_readsRule_107 : decode cX4_readsRule 107 = .ok (.invokevirtual 251, 3) := dk_182 0 251 (dk_at dksX4_readsRule_4 15 rfl rfl)
theorem dX4_readsRule_110 : decode cX4_readsRule 110 = .ok (.return_, 1) := dk_177 (dk_at dksX4_readsRule_4 18 rfl rfl)
abbrev cX4_expression : ByteArray := prog_14_method_31_code
def yX4_expression : MethodName := ⟨RX4, "expression", "(II)V"⟩
def dkwX4_expression_15 : List UInt8 := [164, 0, 8, 42, 4, 182, 0, 186, 42, 3, 182, 0, 228, 42, 3, 182, 0, 201, 177]
abbrev dktX4_expression_15 : List UInt8 := dkwX4_expression_15 ++ []
def dkwX4_expression_14 : List UInt8 := [182, 0, 238, 167, 0, 5, 3, 62, 167, 254, 214, 42, 182, 0, 179, 153, 0, 16, 42, 180, 0, 214, 4]
abbrev dktX4_expression_14 : List UInt8 := dkwX4_expression_14 ++ dktX4_expression_15
def dkwX4_expression_13 : List UInt8 := [182, 0, 231, 167, 0, 28, 42, 16, 41, 182, 0, 217, 153, 0, 17, 42, 182, 0, 235, 153, 0, 10, 42]
abbrev dktX4_expression_13 : List UInt8 := dkwX4_expression_13 ++ dktX4_expression_14
def dkwX4_expression_12 : List UInt8 := [16, 42, 182, 0, 217, 153, 0, 8, 16, 10, 167, 0, 5, 16, 11, 182, 0, 220, 42, 182, 0, 183, 42, 3]
abbrev dktX4_expression_12 : List UInt8 := dkwX4_expression_12 ++ dktX4_expression_13
def dkwX4_expression_11 : List UInt8 := [182, 0, 217, 154, 0, 12, 42, 16, 47, 182, 0, 217, 153, 0, 41, 42, 16, 6, 182, 0, 228, 42, 42]
abbrev dktX4_expression_11 : List UInt8 := dkwX4_expression_11 ++ dktX4_expression_12
def dkwX4_expression_10 : List UInt8 := [167, 0, 5, 16, 9, 182, 0, 220, 42, 182, 0, 183, 42, 3, 182, 0, 231, 167, 0, 84, 42, 16, 42]
abbrev dktX4_expression_10 : List UInt8 := dkwX4_expression_10 ++ dktX4_expression_11
def dkwX4_expression_9 : List UInt8 := [182, 0, 217, 153, 0, 40, 42, 8, 182, 0, 228, 42, 42, 16, 43, 182, 0, 217, 153, 0, 8, 16, 8]
abbrev dktX4_expression_9 : List UInt8 := dkwX4_expression_9 ++ dktX4_expression_10
def dkwX4_expression_8 : List UInt8 := [182, 0, 183, 42, 3, 182, 0, 231, 167, 0, 139, 42, 16, 43, 182, 0, 217, 154, 0, 12, 42, 16, 45]
abbrev dktX4_expression_8 : List UInt8 := dkwX4_expression_8 ++ dktX4_expression_9
def dkwX4_expression_7 : List UInt8 := [153, 0, 8, 16, 6, 167, 0, 5, 16, 7, 182, 0, 220, 42, 180, 0, 86, 42, 180, 0, 214, 4, 84, 42]
abbrev dktX4_expression_7 : List UInt8 := dkwX4_expression_7 ++ dktX4_expression_8
def dkwX4_expression_6 : List UInt8 := [42, 180, 0, 86, 42, 180, 0, 214, 51, 154, 0, 50, 42, 7, 182, 0, 228, 42, 42, 16, 60, 182, 0, 217]
abbrev dktX4_expression_6 : List UInt8 := dkwX4_expression_6 ++ dktX4_expression_7
def dkwX4_expression_5 : List UInt8 := [182, 0, 231, 167, 0, 216, 42, 16, 60, 182, 0, 217, 154, 0, 12, 42, 16, 61, 182, 0, 217, 153, 0, 62]
abbrev dktX4_expression_5 : List UInt8 := dkwX4_expression_5 ++ dktX4_expression_6
def dkwX4_expression_4 : List UInt8 := [167, 0, 4, 8, 182, 0, 220, 42, 180, 0, 86, 42, 180, 0, 214, 3, 84, 42, 182, 0, 183, 42, 4]
abbrev dktX4_expression_4 : List UInt8 := dkwX4_expression_4 ++ dktX4_expression_5
def dkwX4_expression_3 : List UInt8 := [21, 4, 16, 21, 160, 0, 7, 5, 167, 0, 4, 4, 182, 0, 228, 42, 21, 4, 16, 21, 160, 0, 7, 7]
abbrev dktX4_expression_3 : List UInt8 := dkwX4_expression_3 ++ dktX4_expression_4
def dkwX4_expression_2 : List UInt8 := [153, 1, 37, 42, 182, 0, 204, 54, 4, 21, 4, 16, 21, 159, 0, 10, 21, 4, 16, 22, 160, 0, 57, 42]
abbrev dktX4_expression_2 : List UInt8 := dkwX4_expression_2 ++ dktX4_expression_3
def dkwX4_expression_1 : List UInt8 := [3, 181, 0, 214, 42, 182, 0, 223, 42, 4, 182, 0, 231, 4, 62, 29, 153, 1, 44, 42, 182, 0, 179]
abbrev dktX4_expression_1 : List UInt8 := dkwX4_expression_1 ++ dktX4_expression_2
def dkwX4_expression_0 : List UInt8 := [42, 182, 0, 179, 154, 0, 4, 177, 42, 27, 181, 0, 208, 42, 28, 181, 0, 211, 42, 3, 181, 0, 192, 42]
abbrev dktX4_expression_0 : List UInt8 := dkwX4_expression_0 ++ dktX4_expression_1
theorem dksX4_expression_0 : cX4_expression.data.toList.drop 0 = dktX4_expression_0 := by decide +kernel
theorem dksX4_expression_1 : cX4_expression.data.toList.drop 24 = dktX4_expression_1 := dk_seg dksX4_expression_0 24 rfl rfl
theorem dksX4_expression_2 : cX4_expression.data.toList.drop 47 = dktX4_expression_2 := dk_seg dksX4_expression_1 23 rfl rfl
theorem dksX4_expression_3 : cX4_expression.data.toList.drop 71 = dktX4_expression_3 := dk_seg dksX4_expression_2 24 rfl rfl
theorem dksX4_expression_4 : cX4_expression.data.toList.drop 95 = dktX4_expression_4 := dk_seg dksX4_expression_3 24 rfl rfl
theorem dksX4_expression_5 : cX4_expression.data.toList.drop 118 = dktX4_expression_5 := dk_seg dksX4_expression_4 23 rfl rfl
theorem dksX4_expression_6 : cX4_expression.data.toList.drop 142 = dktX4_expression_6 := dk_seg dksX4_expression_5 24 rfl rfl
theorem dksX4_expression_7 : cX4_expression.data.toList.drop 166 = dktX4_expression_7 := dk_seg dksX4_expression_6 24 rfl rfl
theorem dksX4_expression_8 : cX4_expression.data.toList.drop 190 = dktX4_expression_8 := dk_seg dksX4_expression_7 24 rfl rfl
theorem dksX4_expression_9 : cX4_expression.data.toList.drop 213 = dktX4_expression_9 := dk_seg dksX4_expression_8 23 rfl rfl
theorem dksX4_expression_10 : cX4_expression.data.toList.drop 236 = dktX4_expression_10 := dk_seg dksX4_expression_9 23 rfl rfl
theorem dksX4_expression_11 : cX4_expression.data.toList.drop 259 = dktX4_expression_11 := dk_seg dksX4_expression_10 23 rfl rfl
theorem dksX4_expression_12 : cX4_expression.data.toList.drop 282 = dktX4_expression_12 := dk_seg dksX4_expression_11 23 rfl rfl
theorem dksX4_expression_13 : cX4_expression.data.toList.drop 306 = dktX4_expression_13 := dk_seg dksX4_expression_12 24 rfl rfl
theorem dksX4_expression_14 : cX4_expression.data.toList.drop 329 = dktX4_expression_14 := dk_seg dksX4_expression_13 23 rfl rfl
theorem dksX4_expression_15 : cX4_expression.data.toList.drop 352 = dktX4_expression_15 := dk_seg dksX4_expression_14 23 rfl rfl
theorem dX4_expression_0 : decode cX4_expression 0 = .ok (.aload_n 0, 1) := dk_42 (dk_at dksX4_expression_0 0 rfl rfl)
theorem dX4_expression_1 : decode cX4_expression 1 = .ok (.invokevirtual 179, 3) := dk_182 0 179 (dk_at dksX4_expression_0 1 rfl rfl)
theorem dX4_expression_4 : decode cX4_expression 4 = .ok (.ifCond .ne 4, 3) := dk_154 0 4 (dk_at dksX4_expression_0 4 rfl rfl)
theorem dX4_expression_7 : decode cX4_expression 7 = .ok (.return_, 1) := dk_177 (dk_at dksX4_expression_0 7 rfl rfl)
theorem dX4_expression_8 : decode cX4_expression 8 = .ok (.aload_n 0, 1) := dk_42 (dk_at dksX4_expression_0 8 rfl rfl)
theorem dX4_expression_9 : decode cX4_expression 9 = .ok (.iload_n 1, 1) := dk_27 (dk_at dksX4_expression_0 9 rfl rfl)
theorem dX4_expression_10 : decode cX4_expression 10 = .ok (.putfield 208, 3) := dk_181 0 208 (dk_at dksX4_expression_0 10 rfl rfl)
theorem dX4_expression_13 : decode cX4_expression 13 = .ok (.aload_n 0, 1) := dk_42 (dk_at dksX4_expression_0 13 rfl rfl)
theorem dX4_expression_14 : decode cX4_expression 14 = .ok (.iload_n 2, 1) := dk_28 (dk_at dksX4_expression_0 14 rfl rfl)
theorem dX4_expression_15 : decode cX4_expression 15 = .ok (.putfield 211, 3) := dk_181 0 211 (dk_at dksX4_expression_0 15 rfl rfl)
theorem dX4_expression_18 : decode cX4_expression 18 = .ok (.aload_n 0, 1) := dk_42 (dk_at dksX4_expression_0 18 rfl rfl)
theorem dX4_expression_19 : decode cX4_expression 19 = .ok (.iconst 0, 1) := dk_3 (dk_at dksX4_expression_0 19 rfl rfl)
theorem dX4_expression_20 : decode cX4_expression 20 = .ok (.putfield 192, 3) := dk_181 0 192 (dk_at dksX4_expression_0 20 rfl rfl)
theorem dX4_expression_23 : decode cX4_expression 23 = .ok (.aload_n 0, 1) := dk_42 (dk_at dksX4_expression_0 23 rfl rfl)
theorem dX4_expression_24 : decode cX4_expression 24 = .ok (.iconst 0, 1) := dk_3 (dk_at dksX4_expression_1 0 rfl rfl)
theorem dX4_expression_25 : decode cX4_expression 25 = .ok (.putfield 214, 3) := dk_181 0 214 (dk_at dksX4_expression_1 1 rfl rfl)
theorem dX4_expression_28 : decode cX4_expression 28 = .ok (.aload_n 0, 1) := dk_42 (dk_at dksX4_expression_1 4 rfl rfl)
theorem dX4_expression_29 : decode cX4_expression 29 = .ok (.invokevirtual 223, 3) := dk_182 0 223 (dk_at dksX4_expression_1 5 rfl rfl)
theorem dX4_expression_32 : decode cX4_expression 32 = .ok (.aload_n 0, 1) := dk_42 (dk_at dksX4_expression_1 8 rfl rfl)
theorem dX4_expression_33 : decode cX4_expression 33 = .ok (.iconst 1, 1) := dk_4 (dk_at dksX4_expression_1 9 rfl rfl)
theorem dX4_expression_34 : decode cX4_expression 34 = .ok (.invokevirtual 231, 3) := dk_182 0 231 (dk_at dksX4_expression_1 10 rfl rfl)
theorem dX4_expression_37 : decode cX4_expression 37 = .ok (.iconst 1, 1) := dk_4 (dk_at dksX4_expression_1 13 rfl rfl)
theorem dX4_expression_38 : decode cX4_expression 38 = .ok (.istore_n 3, 1) := dk_62 (dk_at dksX4_expression_1 14 rfl rfl)
theorem dX4_expression_39 : decode cX4_expression 39 = .ok (.iload_n 3, 1) := dk_29 (dk_at dksX4_expression_1 15 rfl rfl)
theorem dX4_expression_40 : decode cX4_expression 40 = .ok (.ifCond .eq 300, 3) := dk_153 1 44 (dk_at dksX4_expression_1 16 rfl rfl)
theorem dX4_expression_43 : decode cX4_expression 43 = .ok (.aload_n 0, 1) := dk_42 (dk_at dksX4_expression_1 19 rfl rfl)
theorem dX4_expression_44 : decode cX4_expression 44 = .ok (.invokevirtual 179, 3) := dk_182 0 179 (dk_at dksX4_expression_1 20 rfl rfl)
theorem dX4_expression_47 : decode cX4_expression 47 = .ok (.ifCond .eq 293, 3) := dk_153 1 37 (dk_at dksX4_expression_2 0 rfl rfl)
theorem dX4_expression_50 : decode cX4_expression 50 = .ok (.aload_n 0, 1) := dk_42 (dk_at dksX4_expression_2 3 rfl rfl)
theorem dX4_expression_51 : decode cX4_expression 51 = .ok (.invokevirtual 204, 3) := dk_182 0 204 (dk_at dksX4_expression_2 4 rfl rfl)
theorem dX4_expression_54 : decode cX4_expression 54 = .ok (.istore 4, 2) := dk_54 4 (dk_at dksX4_expression_2 7 rfl rfl)
theorem dX4_expression_56 : decode cX4_expression 56 = .ok (.iload 4, 2) := dk_21 4 (dk_at dksX4_expression_2 9 rfl rfl)
theorem dX4_expression_58 : decode cX4_expression 58 = .ok (.bipush 21, 2) := dk_16 21 (dk_at dksX4_expression_2 11 rfl rfl)
theorem dX4_expression_60 : decode cX4_expression 60 = .ok (.if_icmp .eq 10, 3) := dk_159 0 10 (dk_at dksX4_expression_2 13 rfl rfl)
theorem dX4_expression_63 : decode cX4_expression 63 = .ok (.iload 4, 2) := dk_21 4 (dk_at dksX4_expression_2 16 rfl rfl)
theorem dX4_expression_65 : decode cX4_expression 65 = .ok (.bipush 22, 2) := dk_16 22 (dk_at dksX4_expression_2 18 rfl rfl)
theorem dX4_expression_67 : decode cX4_expression 67 = .ok (.if_icmp .ne 57, 3) := dk_160 0 57 (dk_at dksX4_expression_2 20 rfl rfl)
theorem dX4_expression_70 : decode cX4_expression 70 = .ok (.aload_n 0, 1) := dk_42 (dk_at dksX4_expression_2 23 rfl rfl)
theorem dX4_expression_71 : decode cX4_expression 71 = .ok (.iload 4, 2) := dk_21 4 (dk_at dksX4_expression_3 0 rfl rfl)
theorem dX4_expression_73 : decode cX4_expression 73 = .ok (.bipush 21, 2) := dk_16 21 (dk_at dksX4_expression_3 2 rfl rfl)
theorem dX4_expression_75 : decode cX4_expression 75 = .ok (.if_icmp .ne 7, 3) := dk_160 0 7 (dk_at dksX4_expression_3 4 rfl rfl)
theorem dX4_expression_78 : decode cX4_expression 78 = .ok (.iconst 2, 1) := dk_5 (dk_at dksX4_expression_3 7 rfl rfl)
theorem dX4_expression_79 : decode cX4_expression 79 = .ok (.goto 4, 3) := dk_167 0 4 (dk_at dksX4_expression_3 8 rfl rfl)
theorem dX4_expression_82 : decode cX4_expression 82 = .ok (.iconst 1, 1) := dk_4 (dk_at dksX4_expression_3 11 rfl rfl)
theorem dX4_expression_83 : decode cX4_expression 83 = .ok (.invokevirtual 228, 3) := dk_182 0 228 (dk_at dksX4_expression_3 12 rfl rfl)
theorem dX4_expression_86 : decode cX4_expression 86 = .ok (.aload_n 0, 1) := dk_42 (dk_at dksX4_expression_3 15 rfl rfl)
theorem dX4_expression_87 : decode cX4_expression 87 = .ok (.iload 4, 2) := dk_21 4 (dk_at dksX4_expression_3 16 rfl rfl)
theorem dX4_expression_89 : decode cX4_expression 89 = .ok (.bipush 21, 2) := dk_16 21 (dk_at dksX4_expression_3 18 rfl rfl)
theorem dX4_expression_91 : decode cX4_expression 91 = .ok (.if_icmp .ne 7, 3) := dk_160 0 7 (dk_at dksX4_expression_3 20 rfl rfl)
theorem dX4_expression_94 : decode cX4_expression 94 = .ok (.iconst 4, 1) := dk_7 (dk_at dksX4_expression_3 23 rfl rfl)
theorem dX4_expression_95 : decode cX4_expression 95 = .ok (.goto 4, 3) := dk_167 0 4 (dk_at dksX4_expression_4 0 rfl rfl)
theorem dX4_expression_98 : decode cX4_expression 98 = .ok (.iconst 5, 1) := dk_8 (dk_at dksX4_expression_4 3 rfl rfl)
theorem dX4_expression_99 : decode cX4_expression 99 = .ok (.invokevirtual 220, 3) := dk_182 0 220 (dk_at dksX4_expression_4 4 rfl rfl)
theorem dX4_expression_102 : decode cX4_expression 102 = .ok (.aload_n 0, 1) := dk_42 (dk_at dksX4_expression_4 7 rfl rfl)
theorem dX4_expression_103 : decode cX4_expression 103 = .ok (.getfield 86, 3) := dk_180 0 86 (dk_at dksX4_expression_4 8 rfl rfl)
theorem dX4_expression_106 : decode cX4_expression 106 = .ok (.aload_n 0, 1) := dk_42 (dk_at dksX4_expression_4 11 rfl rfl)
theorem dX4_expression_107 : decode cX4_expression 107 = .ok (.getfield 214, 3) := dk_180 0 214 (dk_at dksX4_expression_4 12 rfl rfl)
theorem dX4_expression_110 : decode cX4_expression 110 = .ok (.iconst 0, 1) := dk_3 (dk_at dksX4_expression_4 15 rfl rfl)
theorem dX4_expression_111 : decode cX4_expression 111 = .ok (.bastore, 1) := dk_84 (dk_at dksX4_expression_4 16 rfl rfl)
theorem dX4_expression_112 : decode cX4_expression 112 = .ok (.aload_n 0, 1) := dk_42 (dk_at dksX4_expression_4 17 rfl rfl)
theorem dX4_expression_113 : decode cX4_expression 113 = .ok (.invokevirtual 183, 3) := dk_182 0 183 (dk_at dksX4_expression_4 18 rfl rfl)
theorem dX4_expression_116 : decode cX4_expression 116 = .ok (.aload_n 0, 1) := dk_42 (dk_at dksX4_expression_4 21 rfl rfl)
theorem dX4_expression_117 : decode cX4_expression 117 = .ok (.iconst 1, 1) := dk_4 (dk_at dksX4_expression_4 22 rfl rfl)
theorem dX4_expression_118 : decode cX4_expression 118 = .ok (.invokevirtual 231, 3) := dk_182 0 231 (dk_at dksX4_expression_5 0 rfl rfl)
theorem dX4_expression_121 : decode cX4_expression 121 = .ok (.goto 216, 3) := dk_167 0 216 (dk_at dksX4_expression_5 3 rfl rfl)
theorem dX4_expression_124 : decode cX4_expression 124 = .ok (.aload_n 0, 1) := dk_42 (dk_at dksX4_expression_5 6 rfl rfl)
theorem dX4_expression_125 : decode cX4_expression 125 = .ok (.bipush 60, 2) := dk_16 60 (dk_at dksX4_expression_5 7 rfl rfl)
theorem dX4_expression_127 : decode cX4_expression 127 = .ok (.invokevirtual 217, 3) := dk_182 0 217 (dk_at dksX4_expression_5 9 rfl rfl)
theorem dX4_expression_130 : decode cX4_expression 130 = .ok (.ifCond .ne 12, 3) := dk_154 0 12 (dk_at dksX4_expression_5 12 rfl rfl)
theorem dX4_expression_133 : decode cX4_expression 133 = .ok (.aload_n 0, 1) := dk_42 (dk_at dksX4_expression_5 15 rfl rfl)
theorem dX4_expression_134 : decode cX4_expression 134 = .ok (.bipush 61, 2) := dk_16 61 (dk_at dksX4_expression_5 16 rfl rfl)
theorem dX4_expression_136 : decode cX4_expression 136 = .ok (.invokevirtual 217, 3) := dk_182 0 217 (dk_at dksX4_expression_5 18 rfl rfl)
theorem dX4_expression_139 : decode cX4_expression 139 = .ok (.ifCond .eq 62, 3) := dk_153 0 62 (dk_at dksX4_expression_5 21 rfl rfl)
theorem dX4_expression_142 : decode cX4_expression 142 = .ok (.aload_n 0, 1) := dk_42 (dk_at dksX4_expression_6 0 rfl rfl)
theorem dX4_expression_143 : decode cX4_expression 143 = .ok (.getfield 86, 3) := dk_180 0 86 (dk_at dksX4_expression_6 1 rfl rfl)
theorem dX4_expression_146 : decode cX4_expression 146 = .ok (.aload_n 0, 1) := dk_42 (dk_at dksX4_expression_6 4 rfl rfl)
theorem dX4_expression_147 : decode cX4_expression 147 = .ok (.getfield 214, 3) := dk_180 0 214 (dk_at dksX4_expression_6 5 rfl rfl)
theorem dX4_expression_150 : decode cX4_expression 150 = .ok (.baload, 1) := dk_51 (dk_at dksX4_expression_6 8 rfl rfl)
theorem dX4_expression_151 : decode cX4_expression 151 = .ok (.ifCond .ne 50, 3) := dk_154 0 50 (dk_at dksX4_expression_6 9 rfl rfl)
theorem dX4_expression_154 : decode cX4_expression 154 = .ok (.aload_n 0, 1) := dk_42 (dk_at dksX4_expression_6 12 rfl rfl)
theorem dX4_expression_155 : decode cX4_expression 155 = .ok (.iconst 4, 1) := dk_7 (dk_at dksX4_expression_6 13 rfl rfl)
theorem dX4_expression_156 : decode cX4_expression 156 = .ok (.invokevirtual 228, 3) := dk_182 0 228 (dk_at dksX4_expression_6 14 rfl rfl)
theorem dX4_expression_159 : decode cX4_expression 159 = .ok (.aload_n 0, 1) := dk_42 (dk_at dksX4_expression_6 17 rfl rfl)
theorem dX4_expression_160 : decode cX4_expression 160 = .ok (.aload_n 0, 1) := dk_42 (dk_at dksX4_expression_6 18 rfl rfl)
theorem dX4_expression_161 : decode cX4_expression 161 = .ok (.bipush 60, 2) := dk_16 60 (dk_at dksX4_expression_6 19 rfl rfl)
theorem dX4_expression_163 : decode cX4_expression 163 = .ok (.invokevirtual 217, 3) := dk_182 0 217 (dk_at dksX4_expression_6 21 rfl rfl)
theorem dX4_expression_166 : decode cX4_expression 166 = .ok (.ifCond .eq 8, 3) := dk_153 0 8 (dk_at dksX4_expression_7 0 rfl rfl)
theorem dX4_expression_169 : decode cX4_expression 169 = .ok (.bipush 6, 2) := dk_16 6 (dk_at dksX4_expression_7 3 rfl rfl)
theorem dX4_expression_171 : decode cX4_expression 171 = .ok (.goto 5, 3) := dk_167 0 5 (dk_at dksX4_expression_7 5 rfl rfl)
theorem dX4_expression_174 : decode cX4_expression 174 = .ok (.bipush 7, 2) := dk_16 7 (dk_at dksX4_expression_7 8 rfl rfl)
theorem dX4_expression_176 : decode cX4_expression 176 = .ok (.invokevirtual 220, 3) := dk_182 0 220 (dk_at dksX4_expression_7 10 rfl rfl)
theorem dX4_expression_179 : decode cX4_expression 179 = .ok (.aload_n 0, 1) := dk_42 (dk_at dksX4_expression_7 13 rfl rfl)
theorem dX4_expression_180 : decode cX4_expression 180 = .ok (.getfield 86, 3) := dk_180 0 86 (dk_at dksX4_expression_7 14 rfl rfl)
theorem dX4_expression_183 : decode cX4_expression 183 = .ok (.aload_n 0, 1) := dk_42 (dk_at dksX4_expression_7 17 rfl rfl)
theorem dX4_expression_184 : decode cX4_expression 184 = .ok (.getfield 214, 3) := dk_180 0 214 (dk_at dksX4_expression_7 18 rfl rfl)
theorem dX4_expression_187 : decode cX4_expression 187 = .ok (.iconst 1, 1) := dk_4 (dk_at dksX4_expression_7 21 rfl rfl)
theorem dX4_expression_188 : decode cX4_expression 188 = .ok (.bastore, 1) := dk_84 (dk_at dksX4_expression_7 22 rfl rfl)
theorem dX4_expression_189 : decode cX4_expression 189 = .ok (.aload_n 0, 1) := dk_42 (dk_at dksX4_expression_7 23 rfl rfl)
theorem dX4_expression_190 : decode cX4_expression 190 = .ok (.invokevirtual 183, 3) := dk_182 0 183 (dk_at dksX4_expression_8 0 rfl rfl)
theorem dX4_expression_193 : decode cX4_expression 193 = .ok (.aload_n 0, 1) := dk_42 (dk_at dksX4_expression_8 3 rfl rfl)
theorem dX4_expression_194 : decode cX4_expression 194 = .ok (.iconst 0, 1) := dk_3 (dk_at dksX4_expression_8 4 rfl rfl)
theorem dX4_expression_195 : decode cX4_expression 195 = .ok (.invokevirtual 231, 3) := dk_182 0 231 (dk_at dksX4_expression_8 5 rfl rfl)
theorem dX4_expression_198 : decode cX4_expression 198 = .ok (.goto 139, 3) := dk_167 0 139 (dk_at dksX4_expression_8 8 rfl rfl)
theorem dX4_expression_201 : decode cX4_expression 201 = .ok (.aload_n 0, 1) := dk_42 (dk_at dksX4_expression_8 11 rfl rfl)
theorem dX4_expression_202 : decode cX4_expression 202 = .ok (.bipush 43, 2) := dk_16 43 (dk_at dksX4_expression_8 12 rfl rfl)
theorem dX4_expression_204 : decode cX4_expression 204 = .ok (.invokevirtual 217, 3) := dk_182 0 217 (dk_at dksX4_expression_8 14 rfl rfl)
theorem dX4_expression_207 : decode cX4_expression 207 = .ok (.ifCond .ne 12, 3) := dk_154 0 12 (dk_at dksX4_expression_8 17 rfl rfl)
theorem dX4_expression_210 : decode cX4_expression 210 = .ok (.aload_n 0, 1) := dk_42 (dk_at dksX4_expression_8 20 rfl rfl)
theorem dX4_expression_211 : decode cX4_expression 211 = .ok (.bipush 45, 2) := dk_16 45 (dk_at dksX4_expression_8 21 rfl rfl)
theorem dX4_expression_213 : decode cX4_expression 213 = .ok (.invokevirtual 217, 3) := dk_182 0 217 (dk_at dksX4_expression_9 0 rfl rfl)
theorem dX4_expression_216 : decode cX4_expression 216 = .ok (.ifCond .eq 40, 3) := dk_153 0 40 (dk_at dksX4_expression_9 3 rfl rfl)
theorem dX4_expression_219 : decode cX4_expression 219 = .ok (.aload_n 0, 1) := dk_42 (dk_at dksX4_expression_9 6 rfl rfl)
theorem dX4_expression_220 : decode cX4_expression 220 = .ok (.iconst 5, 1) := dk_8 (dk_at dksX4_expression_9 7 rfl rfl)
theorem dX4_expression_221 : decode cX4_expression 221 = .ok (.invokevirtual 228, 3) := dk_182 0 228 (dk_at dksX4_expression_9 8 rfl rfl)
theorem dX4_expression_224 : decode cX4_expression 224 = .ok (.aload_n 0, 1) := dk_42 (dk_at dksX4_expression_9 11 rfl rfl)
theorem dX4_expression_225 : decode cX4_expression 225 = .ok (.aload_n 0, 1) := dk_42 (dk_at dksX4_expression_9 12 rfl rfl)
theorem dX4_expression_226 : decode cX4_expression 226 = .ok (.bipush 43, 2) := dk_16 43 (dk_at dksX4_expression_9 13 rfl rfl)
theorem dX4_expression_228 : decode cX4_expression 228 = .ok (.invokevirtual 217, 3) := dk_182 0 217 (dk_at dksX4_expression_9 15 rfl rfl)
theorem dX4_expression_231 : decode cX4_expression 231 = .ok (.ifCond .eq 8, 3) := dk_153 0 8 (dk_at dksX4_expression_9 18 rfl rfl)
theorem dX4_expression_234 : decode cX4_expression 234 = .ok (.bipush 8, 2) := dk_16 8 (dk_at dksX4_expression_9 21 rfl rfl)
theorem dX4_expression_236 : decode cX4_expression 236 = .ok (.goto 5, 3) := dk_167 0 5 (dk_at dksX4_expression_10 0 rfl rfl)
theorem dX4_expression_239 : decode cX4_expression 239 = .ok (.bipush 9, 2) := dk_16 9 (dk_at dksX4_expression_10 3 rfl rfl)
theorem dX4_expression_241 : decode cX4_expression 241 = .ok (.invokevirtual 220, 3) := dk_182 0 220 (dk_at dksX4_expression_10 5 rfl rfl)
theorem dX4_expression_244 : decode cX4_expression 244 = .ok (.aload_n 0, 1) := dk_42 (dk_at dksX4_expression_10 8 rfl rfl)
theorem dX4_expression_245 : decode cX4_expression 245 = .ok (.invokevirtual 183, 3) := dk_182 0 183 (dk_at dksX4_expression_10 9 rfl rfl)
theorem dX4_expression_248 : decode cX4_expression 248 = .ok (.aload_n 0, 1) := dk_42 (dk_at dksX4_expression_10 12 rfl rfl)
theorem dX4_expression_249 : decode cX4_expression 249 = .ok (.iconst 0, 1) := dk_3 (dk_at dksX4_expression_10 13 rfl rfl)
theorem dX4_expression_250 : decode cX4_expression 250 = .ok (.invokevirtual 231, 3) := dk_182 0 231 (dk_at dksX4_expression_10 14 rfl rfl)
theorem dX4_expression_253 : decode cX4_expression 253 = .ok (.goto 84, 3) := dk_167 0 84 (dk_at dksX4_expression_10 17 rfl rfl)
theorem dX4_expression_256 : decode cX4_expression 256 = .ok (.aload_n 0, 1) := dk_42 (dk_at dksX4_expression_10 20 rfl rfl)
theorem dX4_expression_257 : decode cX4_expression 257 = .ok (.bipush 42, 2) := dk_16 42 (dk_at dksX4_expression_10 21 rfl rfl)
theorem dX4_expression_259 : decode cX4_expression 259 = .ok (.invokevirtual 217, 3) := dk_182 0 217 (dk_at dksX4_expression_11 0 rfl rfl)
theorem dX4_expression_262 : decode cX4_expression 262 = .ok (.ifCond .ne 12, 3) := dk_154 0 12 (dk_at dksX4_expression_11 3 rfl rfl)
theorem dX4_expression_265 : decode cX4_expression 265 = .ok (.aload_n 0, 1) := dk_42 (dk_at dksX4_expression_11 6 rfl rfl)
theorem dX4_expression_266 : decode cX4_expression 266 = .ok (.bipush 47, 2) := dk_16 47 (dk_at dksX4_expression_11 7 rfl rfl)
theorem dX4_expression_268 : decode cX4_expression 268 = .ok (.invokevirtual 217, 3) := dk_182 0 217 (dk_at dksX4_expression_11 9 rfl rfl)
theorem dX4_expression_271 : decode cX4_expression 271 = .ok (.ifCond .eq 41, 3) := dk_153 0 41 (dk_at dksX4_expression_11 12 rfl rfl)
theorem dX4_expression_274 : decode cX4_expression 274 = .ok (.aload_n 0, 1) := dk_42 (dk_at dksX4_expression_11 15 rfl rfl)
theorem dX4_expression_275 : decode cX4_expression 275 = .ok (.bipush 6, 2) := dk_16 6 (dk_at dksX4_expression_11 16 rfl rfl)
theorem dX4_expression_277 : decode cX4_expression 277 = .ok (.invokevirtual 228, 3) := dk_182 0 228 (dk_at dksX4_expression_11 18 rfl rfl)
theorem dX4_expression_280 : decode cX4_expression 280 = .ok (.aload_n 0, 1) := dk_42 (dk_at dksX4_expression_11 21 rfl rfl)
theorem dX4_expression_281 : decode cX4_expression 281 = .ok (.aload_n 0, 1) := dk_42 (dk_at dksX4_expression_11 22 rfl rfl)
theorem dX4_expression_282 : decode cX4_expression 282 = .ok (.bipush 42, 2) := dk_16 42 (dk_at dksX4_expression_12 0 rfl rfl)
theorem dX4_expression_284 : decode cX4_expression 284 = .ok (.invokevirtual 217, 3) := dk_182 0 217 (dk_at dksX4_expression_12 2 rfl rfl)
theorem dX4_expression_287 : decode cX4_expression 287 = .ok (.ifCond .eq 8, 3) := dk_153 0 8 (dk_at dksX4_expression_12 5 rfl rfl)
theorem dX4_expression_290 : decode cX4_expression 290 = .ok (.bipush 10, 2) := dk_16 10 (dk_at dksX4_expression_12 8 rfl rfl)
theorem dX4_expression_292 : decode cX4_expression 292 = .ok (.goto 5, 3) := dk_167 0 5 (dk_at dksX4_expression_12 10 rfl rfl)
theorem dX4_expression_295 : decode cX4_expression 295 = .ok (.bipush 11, 2) := dk_16 11 (dk_at dksX4_expression_12 13 rfl rfl)
theorem dX4_expression_297 : decode cX4_expression 297 = .ok (.invokevirtual 220, 3) := dk_182 0 220 (dk_at dksX4_expression_12 15 rfl rfl)
theorem dX4_expression_300 : decode cX4_expression 300 = .ok (.aload_n 0, 1) := dk_42 (dk_at dksX4_expression_12 18 rfl rfl)
theorem dX4_expression_301 : decode cX4_expression 301 = .ok (.invokevirtual 183, 3) := dk_182 0 183 (dk_at dksX4_expression_12 19 rfl rfl)
theorem dX4_expression_304 : decode cX4_expression 304 = .ok (.aload_n 0, 1) := dk_42 (dk_at dksX4_expression_12 22 rfl rfl)
theorem dX4_expression_305 : decode cX4_expression 305 = .ok (.iconst 0, 1) := dk_3 (dk_at dksX4_expression_12 23 rfl rfl)
theorem dX4_expression_306 : decode cX4_expression 306 = .ok (.invokevirtual 231, 3) := dk_182 0 231 (dk_at dksX4_expression_13 0 rfl rfl)
theorem dX4_expression_309 : decode cX4_expression 309 = .ok (.goto 28, 3) := dk_167 0 28 (dk_at dksX4_expression_13 3 rfl rfl)
theorem dX4_expression_312 : decode cX4_expression 312 = .ok (.aload_n 0, 1) := dk_42 (dk_at dksX4_expression_13 6 rfl rfl)
theorem dX4_expression_313 : decode cX4_expression 313 = .ok (.bipush 41, 2) := dk_16 41 (dk_at dksX4_expression_13 7 rfl rfl)
theorem dX4_expression_315 : decode cX4_expression 315 = .ok (.invokevirtual 217, 3) := dk_182 0 217 (dk_at dksX4_expression_13 9 rfl rfl)
theorem dX4_expression_318 : decode cX4_expression 318 = .ok (.ifCond .eq 17, 3) := dk_153 0 17 (dk_at dksX4_expression_13 12 rfl rfl)
theorem dX4_expression_321 : decode cX4_expression 321 = .ok (.aload_n 0, 1) := dk_42 (dk_at dksX4_expression_13 15 rfl rfl)
theorem dX4_expression_322 : decode cX4_expression 322 = .ok (.invokevirtual 235, 3) := dk_182 0 235 (dk_at dksX4_expression_13 16 rfl rfl)
theorem dX4_expression_325 : decode cX4_expression 325 = .ok (.ifCond .eq 10, 3) := dk_153 0 10 (dk_at dksX4_expression_13 19 rfl rfl)
theorem dX4_expression_328 : decode cX4_expression 328 = .ok (.aload_n 0, 1) := dk_42 (dk_at dksX4_expression_13 22 rfl rfl)
theorem dX4_expression_329 : decode cX4_expression 329 = .ok (.invokevirtual 238, 3) := dk_182 0 238 (dk_at dksX4_expression_14 0 rfl rfl)
theorem dX4_expression_332 : decode cX4_expression 332 = .ok (.goto 5, 3) := dk_167 0 5 (dk_at dksX4_expression_14 3 rfl rfl)
theorem dX4_expression_335 : decode cX4_expression 335 = .ok (.iconst 0, 1) := dk_3 (dk_at dksX4_expression_14 6 rfl rfl)
theorem dX4_expression_336 : decode cX4_expression 336 = .ok (.istore_n 3, 1) := dk_62 (dk_at dksX4_expression_14 7 rfl rfl)
theorem dX4_expression_337 : decode cX4_expression 337 = .ok (.goto (-298), 3) := dk_167 254 214 (dk_at dksX4_expression_14 8 rfl rfl)
theorem dX4_expression_340 : decode cX4_expression 340 = .ok (.aload_n 0, 1) := dk_42 (dk_at dksX4_expression_14 11 rfl rfl)
theorem dX4_expression_341 : decode cX4_expression 341 = .ok (.invokevirtual 179, 3) := dk_182 0 179 (dk_at dksX4_expression_14 12 rfl rfl)
theorem dX4_expression_344 : decode cX4_expression 344 = .ok (.ifCond .eq 16, 3) := dk_153 0 16 (dk_at dksX4_expression_14 15 rfl rfl)
theorem dX4_expression_347 : decode cX4_expression 347 = .ok (.aload_n 0, 1) := dk_42 (dk_at dksX4_expression_14 18 rfl rfl)
theorem dX4_expression_348 : decode cX4_expression 348 = .ok (.getfield 214, 3) := dk_180 0 214 (dk_at dksX4_expression_14 19 rfl rfl)
theorem dX4_expression_351 : decode cX4_expression 351 = .ok (.iconst 1, 1) := dk_4 (dk_at dksX4_expression_14 22 rfl rfl)
theorem dX4_expression_352 : decode cX4_expression 352 = .ok (.if_icmp .le 8, 3) := dk_164 0 8 (dk_at dksX4_expression_15 0 rfl rfl)
theorem dX4_expression_355 : decode cX4_expression 355 = .ok (.aload_n 0, 1) := dk_42 (dk_at dksX4_expression_15 3 rfl rfl)
theorem dX4_expression_356 : decode cX4_expression 356 = .ok (.iconst 1, 1) := dk_4 (dk_at dksX4_expression_15 4 rfl rfl)
theorem dX4_expression_357 : decode cX4_expression 357 = .ok (.invokevirtual 186, 3) := dk_182 0 186 (dk_at dksX4_expression_15 5 rfl rfl)
theorem dX4_expression_360 : decode cX4_expression 360 = .ok (.aload_n 0, 1) := dk_42 (dk_at dksX4_expression_15 8 rfl rfl)
theorem dX4_expression_361 : decode cX4_expression 361 = .ok (.iconst 0, 1) := dk_3 (dk_at dksX4_expression_15 9 rfl rfl)
theorem dX4_expression_362 : decode cX4_expression 362 = .ok (.invokevirtual 228, 3) := dk_182 0 228 (dk_at dksX4_expression_15 10 rfl rfl)
theorem dX4_expression_365 : decode cX4_expression 365 = .ok (.aload_n 0, 1) := dk_42 (dk_at dksX4_expression_15 13 rfl rfl)
theorem dX4_expression_366 : decode cX4_expression 366 = .ok (.iconst 0, 1) := dk_3 (dk_at dksX4_expression_15 14 rfl rfl)
theorem dX4_expression_367 : decode cX4_expression 367 = .ok (.invokevirtual 201, 3) := dk_182 0 201 (dk_at dksX4_expression_15 15 rfl rfl)
theorem dX4_expression_370 : decode cX4_expression 370 = .ok (.return_, 1) := dk_177 (dk_at dksX4_expression_15 18 rfl rfl)
abbrev cX4_deeper : ByteArray := prog_14_method_27_code
def yX4_deeper : MethodName := ⟨RX4, "deeper", "()V"⟩
def dkwX4_deeper_2 : List UInt8 := [16, 40, 182, 0, 217, 153, 0, 7, 5, 167, 0, 4, 4, 182, 0, 186, 177]
abbrev dktX4_deeper_2 : List UInt8 := dkwX4_deeper_2 ++ []
def dkwX4_deeper_1 : List UInt8 := [180, 0, 214, 3, 84, 177, 42, 42, 180, 0, 153, 5, 159, 0, 20, 42, 180, 0, 153, 4, 159, 0, 12, 42]
abbrev dktX4_deeper_1 : List UInt8 := dkwX4_deeper_1 ++ dktX4_deeper_2
def dkwX4_deeper_0 : List UInt8 := [42, 180, 0, 214, 16, 6, 162, 0, 24, 42, 89, 180, 0, 214, 4, 96, 181, 0, 214, 42, 180, 0, 86, 42]
abbrev dktX4_deeper_0 : List UInt8 := dkwX4_deeper_0 ++ dktX4_deeper_1
theorem dksX4_deeper_0 : cX4_deeper.data.toList.drop 0 = dktX4_deeper_0 := by decide +kernel
theorem dksX4_deeper_1 : cX4_deeper.data.toList.drop 24 = dktX4_deeper_1 := dk_seg dksX4_deeper_0 24 rfl rfl
theorem dksX4_deeper_2 : cX4_deeper.data.toList.drop 48 = dktX4_deeper_2 := dk_seg dksX4_deeper_1 24 rfl rfl
theorem dX4_deeper_0 : decode cX4_deeper 0 = .ok (.aload_n 0, 1) := dk_42 (dk_at dksX4_deeper_0 0 rfl rfl)
theorem dX4_deeper_1 : decode cX4_deeper 1 = .ok (.getfield 214, 3) := dk_180 0 214 (dk_at dksX4_deeper_0 1 rfl rfl)
theorem dX4_deeper_4 : decode cX4_deeper 4 = .ok (.bipush 6, 2) := dk_16 6 (dk_at dksX4_deeper_0 4 rfl rfl)
theorem dX4_deeper_6 : decode cX4_deeper 6 = .ok (.if_icmp .ge 24, 3) := dk_162 0 24 (dk_at dksX4_deeper_0 6 rfl rfl)
theorem dX4_deeper_9 : decode cX4_deeper 9 = .ok (.aload_n 0, 1) := dk_42 (dk_at dksX4_deeper_0 9 rfl rfl)
theorem dX4_deeper_10 : decode cX4_deeper 10 = .ok (.dup, 1) := dk_89 (dk_at dksX4_deeper_0 10 rfl rfl)
theorem dX4_deeper_11 : decode cX4_deeper 11 = .ok (.getfield 214, 3) := dk_180 0 214 (dk_at dksX4_deeper_0 11 rfl rfl)
theorem dX4_deeper_14 : decode cX4_deeper 14 = .ok (.iconst 1, 1) := dk_4 (dk_at dksX4_deeper_0 14 rfl rfl)
theorem dX4_deeper_15 : decode cX4_deeper 15 = .ok (.iadd, 1) := dk_96 (dk_at dksX4_deeper_0 15 rfl rfl)
theorem dX4_deeper_16 : decode cX4_deeper 16 = .ok (.putfield 214, 3) := dk_181 0 214 (dk_at dksX4_deeper_0 16 rfl rfl)
theorem dX4_deeper_19 : decode cX4_deeper 19 = .ok (.aload_n 0, 1) := dk_42 (dk_at dksX4_deeper_0 19 rfl rfl)
theorem dX4_deeper_20 : decode cX4_deeper 20 = .ok (.getfield 86, 3) := dk_180 0 86 (dk_at dksX4_deeper_0 20 rfl rfl)
theorem dX4_deeper_23 : decode cX4_deeper 23 = .ok (.aload_n 0, 1) := dk_42 (dk_at dksX4_deeper_0 23 rfl rfl)
theorem dX4_deeper_24 : decode cX4_deeper 24 = .ok (.getfield 214, 3) := dk_180 0 214 (dk_at dksX4_deeper_1 0 rfl rfl)
theorem dX4_deeper_27 : decode cX4_deeper 27 = .ok (.iconst 0, 1) := dk_3 (dk_at dksX4_deeper_1 3 rfl rfl)
theorem dX4_deeper_28 : decode cX4_deeper 28 = .ok (.bastore, 1) := dk_84 (dk_at dksX4_deeper_1 4 rfl rfl)
theorem dX4_deeper_29 : decode cX4_deeper 29 = .ok (.return_, 1) := dk_177 (dk_at dksX4_deeper_1 5 rfl rfl)
theorem dX4_deeper_30 : decode cX4_deeper 30 = .ok (.aload_n 0, 1) := dk_42 (dk_at dksX4_deeper_1 6 rfl rfl)
theorem dX4_deeper_31 : decode cX4_deeper 31 = .ok (.aload_n 0, 1) := dk_42 (dk_at dksX4_deeper_1 7 rfl rfl)
theorem dX4_deeper_32 : decode cX4_deeper 32 = .ok (.getfield 153, 3) := dk_180 0 153 (dk_at dksX4_deeper_1 8 rfl rfl)
theorem dX4_deeper_35 : decode cX4_deeper 35 = .ok (.iconst 2, 1) := dk_5 (dk_at dksX4_deeper_1 11 rfl rfl)
theorem dX4_deeper_36 : decode cX4_deeper 36 = .ok (.if_icmp .eq 20, 3) := dk_159 0 20 (dk_at dksX4_deeper_1 12 rfl rfl)
theorem dX4_deeper_39 : decode cX4_deeper 39 = .ok (.aload_n 0, 1) := dk_42 (dk_at dksX4_deeper_1 15 rfl rfl)
theorem dX4_deeper_40 : decode cX4_deeper 40 = .ok (.getfield 153, 3) := dk_180 0 153 (dk_at dksX4_deeper_1 16 rfl rfl)
theorem dX4_deeper_43 : decode cX4_deeper 43 = .ok (.iconst 1, 1) := dk_4 (dk_at dksX4_deeper_1 19 rfl rfl)
theorem dX4_deeper_44 : decode cX4_deeper 44 = .ok (.if_icmp .eq 12, 3) := dk_159 0 12 (dk_at dksX4_deeper_1 20 rfl rfl)
theorem dX4_deeper_47 : decode cX4_deeper 47 = .ok (.aload_n 0, 1) := dk_42 (dk_at dksX4_deeper_1 23 rfl rfl)
theorem dX4_deeper_48 : decode cX4_deeper 48 = .ok (.bipush 40, 2) := dk_16 40 (dk_at dksX4_deeper_2 0 rfl rfl)
theorem dX4_deeper_50 : decode cX4_deeper 50 = .ok (.invokevirtual 217, 3) := dk_182 0 217 (dk_at dksX4_deeper_2 2 rfl rfl)
theorem dX4_deeper_53 : decode cX4_deeper 53 = .ok (.ifCond .eq 7, 3) := dk_153 0 7 (dk_at dksX4_deeper_2 5 rfl rfl)
theorem dX4_deeper_56 : decode cX4_deeper 56 = .ok (.iconst 2, 1) := dk_5 (dk_at dksX4_deeper_2 8 rfl rfl)
theorem dX4_deeper_57 : decode cX4_deeper 57 = .ok (.goto 4, 3) := dk_167 0 4 (dk_at dksX4_deeper_2 9 rfl rfl)
theorem dX4_deeper_60 : decode cX4_deeper 60 = .ok (.iconst 1, 1) := dk_4 (dk_at dksX4_deeper_2 12 rfl rfl)
theorem dX4_deeper_61 : decode cX4_deeper 61 = .ok (.invokevirtual 186, 3) := dk_182 0 186 (dk_at dksX4_deeper_2 13 rfl rfl)
theorem dX4_deeper_64 : decode cX4_deeper 64 = .ok (.return_, 1) := dk_177 (dk_at dksX4_deeper_2 16 rfl rfl)
abbrev cX4_isSign : ByteArray := prog_14_method_18_code
def yX4_isSign : MethodName := ⟨RX4, "isSign", "(I)Z"⟩
def dkwX4_isSign_0 : List UInt8 := [42, 180, 0, 153, 6, 160, 0, 15, 42, 180, 0, 150, 27, 160, 0, 7, 4, 167, 0, 4, 3, 172]
abbrev dktX4_isSign_0 : List UInt8 := dkwX4_isSign_0 ++ []
theorem dksX4_isSign_0 : cX4_isSign.data.toList.drop 0 = dktX4_isSign_0 := by decide +kernel
theorem dX4_isSign_0 : decode cX4_isSign 0 = .ok (.aload_n 0, 1) := dk_42 (dk_at dksX4_isSign_0 0 rfl rfl)
theorem dX4_isSign_1 : decode cX4_isSign 1 = .ok (.getfield 153, 3) := dk_180 0 153 (dk_at dksX4_isSign_0 1 rfl rfl)
theorem dX4_isSign_4 : decode cX4_isSign 4 = .ok (.iconst 3, 1) := dk_6 (dk_at dksX4_isSign_0 4 rfl rfl)
theorem dX4_isSign_5 : decode cX4_isSign 5 = .ok (.if_icmp .ne 15, 3) := dk_160 0 15 (dk_at dksX4_isSign_0 5 rfl rfl)
theorem dX4_isSign_8 : decode cX4_isSign 8 = .ok (.aload_n 0, 1) := dk_42 (dk_at dksX4_isSign_0 8 rfl rfl)
theorem dX4_isSign_9 : decode cX4_isSign 9 = .ok (.getfield 150, 3) := dk_180 0 150 (dk_at dksX4_isSign_0 9 rfl rfl)
theorem dX4_isSign_12 : decode cX4_isSign 12 = .ok (.iload_n 1, 1) := dk_27 (dk_at dksX4_isSign_0 12 rfl rfl)
theorem dX4_isSign_13 : decode cX4_isSign 13 = .ok (.if_icmp .ne 7, 3) := dk_160 0 7 (dk_at dksX4_isSign_0 13 rfl rfl)
theorem dX4_isSign_16 : decode cX4_isSign 16 = .ok (.iconst 1, 1) := dk_4 (dk_at dksX4_isSign_0 16 rfl rfl)
theorem dX4_isSign_17 : decode cX4_isSign 17 = .ok (.goto 4, 3) := dk_167 0 4 (dk_at dksX4_isSign_0 17 rfl rfl)
theorem dX4_isSign_20 : decode cX4_isSign 20 = .ok (.iconst 0, 1) := dk_3 (dk_at dksX4_isSign_0 20 rfl rfl)
theorem dX4_isSign_21 : decode cX4_isSign 21 = .ok (.ireturn, 1) := dk_172 (dk_at dksX4_isSign_0 21 rfl rfl)
abbrev cX4_operand : ByteArray := prog_14_method_28_code
def yX4_operand : MethodName := ⟨RX4, "operand", "(Z)V"⟩
def dkwX4_operand_5 : List UInt8 := [61, 167, 255, 143, 42, 182, 0, 226, 177]
abbrev dktX4_operand_5 : List UInt8 := dkwX4_operand_5 ++ []
def dkwX4_operand_4 : List UInt8 := [167, 0, 4, 3, 62, 29, 153, 0, 19, 42, 16, 14, 182, 0, 220, 42, 182, 0, 183, 42, 182, 0, 223, 4]
abbrev dktX4_operand_4 : List UInt8 := dkwX4_operand_4 ++ dktX4_operand_5
def dkwX4_operand_3 : List UInt8 := [182, 0, 183, 167, 255, 202, 42, 182, 0, 179, 153, 0, 16, 42, 16, 40, 182, 0, 217, 153, 0, 7, 4]
abbrev dktX4_operand_3 : List UInt8 := dkwX4_operand_3 ++ dktX4_operand_4
def dkwX4_operand_2 : List UInt8 := [5, 182, 0, 186, 132, 4, 1, 42, 182, 0, 179, 154, 0, 6, 167, 255, 214, 42, 6, 182, 0, 220, 42]
abbrev dktX4_operand_2 : List UInt8 := dkwX4_operand_2 ++ dktX4_operand_3
def dkwX4_operand_1 : List UInt8 := [153, 0, 53, 28, 153, 0, 49, 42, 182, 0, 204, 16, 23, 160, 0, 40, 21, 4, 16, 6, 160, 0, 8, 42]
abbrev dktX4_operand_1 : List UInt8 := dkwX4_operand_1 ++ dktX4_operand_2
def dkwX4_operand_0 : List UInt8 := [27, 61, 4, 62, 29, 153, 0, 115, 42, 182, 0, 179, 153, 0, 108, 3, 54, 4, 42, 182, 0, 179]
abbrev dktX4_operand_0 : List UInt8 := dkwX4_operand_0 ++ dktX4_operand_1
theorem dksX4_operand_0 : cX4_operand.data.toList.drop 0 = dktX4_operand_0 := by decide +kernel
theorem dksX4_operand_1 : cX4_operand.data.toList.drop 22 = dktX4_operand_1 := dk_seg dksX4_operand_0 22 rfl rfl
theorem dksX4_operand_2 : cX4_operand.data.toList.drop 46 = dktX4_operand_2 := dk_seg dksX4_operand_1 24 rfl rfl
theorem dksX4_operand_3 : cX4_operand.data.toList.drop 69 = dktX4_operand_3 := dk_seg dksX4_operand_2 23 rfl rfl
theorem dksX4_operand_4 : cX4_operand.data.toList.drop 92 = dktX4_operand_4 := dk_seg dksX4_operand_3 23 rfl rfl
theorem dksX4_operand_5 : cX4_operand.data.toList.drop 116 = dktX4_operand_5 := dk_seg dksX4_operand_4 24 rfl rfl
theorem dX4_operand_0 : decode cX4_operand 0 = .ok (.iload_n 1, 1) := dk_27 (dk_at dksX4_operand_0 0 rfl rfl)
theorem dX4_operand_1 : decode cX4_operand 1 = .ok (.istore_n 2, 1) := dk_61 (dk_at dksX4_operand_0 1 rfl rfl)
theorem dX4_operand_2 : decode cX4_operand 2 = .ok (.iconst 1, 1) := dk_4 (dk_at dksX4_operand_0 2 rfl rfl)
theorem dX4_operand_3 : decode cX4_operand 3 = .ok (.istore_n 3, 1) := dk_62 (dk_at dksX4_operand_0 3 rfl rfl)
theorem dX4_operand_4 : decode cX4_operand 4 = .ok (.iload_n 3, 1) := dk_29 (dk_at dksX4_operand_0 4 rfl rfl)
theorem dX4_operand_5 : decode cX4_operand 5 = .ok (.ifCond .eq 115, 3) := dk_153 0 115 (dk_at dksX4_operand_0 5 rfl rfl)
theorem dX4_operand_8 : decode cX4_operand 8 = .ok (.aload_n 0, 1) := dk_42 (dk_at dksX4_operand_0 8 rfl rfl)
theorem dX4_operand_9 : decode cX4_operand 9 = .ok (.invokevirtual 179, 3) := dk_182 0 179 (dk_at dksX4_operand_0 9 rfl rfl)
theorem dX4_operand_12 : decode cX4_operand 12 = .ok (.ifCond .eq 108, 3) := dk_153 0 108 (dk_at dksX4_operand_0 12 rfl rfl)
theorem dX4_operand_15 : decode cX4_operand 15 = .ok (.iconst 0, 1) := dk_3 (dk_at dksX4_operand_0 15 rfl rfl)
theorem dX4_operand_16 : decode cX4_operand 16 = .ok (.istore 4, 2) := dk_54 4 (dk_at dksX4_operand_0 16 rfl rfl)
theorem dX4_operand_18 : decode cX4_operand 18 = .ok (.aload_n 0, 1) := dk_42 (dk_at dksX4_operand_0 18 rfl rfl)
theorem dX4_operand_19 : decode cX4_operand 19 = .ok (.invokevirtual 179, 3) := dk_182 0 179 (dk_at dksX4_operand_0 19 rfl rfl)
theorem dX4_operand_22 : decode cX4_operand 22 = .ok (.ifCond .eq 53, 3) := dk_153 0 53 (dk_at dksX4_operand_1 0 rfl rfl)
theorem dX4_operand_25 : decode cX4_operand 25 = .ok (.iload_n 2, 1) := dk_28 (dk_at dksX4_operand_1 3 rfl rfl)
theorem dX4_operand_26 : decode cX4_operand 26 = .ok (.ifCond .eq 49, 3) := dk_153 0 49 (dk_at dksX4_operand_1 4 rfl rfl)
theorem dX4_operand_29 : decode cX4_operand 29 = .ok (.aload_n 0, 1) := dk_42 (dk_at dksX4_operand_1 7 rfl rfl)
theorem dX4_operand_30 : decode cX4_operand 30 = .ok (.invokevirtual 204, 3) := dk_182 0 204 (dk_at dksX4_operand_1 8 rfl rfl)
theorem dX4_operand_33 : decode cX4_operand 33 = .ok (.bipush 23, 2) := dk_16 23 (dk_at dksX4_operand_1 11 rfl rfl)
theorem dX4_operand_35 : decode cX4_operand 35 = .ok (.if_icmp .ne 40, 3) := dk_160 0 40 (dk_at dksX4_operand_1 13 rfl rfl)
theorem dX4_operand_38 : decode cX4_operand 38 = .ok (.iload 4, 2) := dk_21 4 (dk_at dksX4_operand_1 16 rfl rfl)
theorem dX4_operand_40 : decode cX4_operand 40 = .ok (.bipush 6, 2) := dk_16 6 (dk_at dksX4_operand_1 18 rfl rfl)
theorem dX4_operand_42 : decode cX4_operand 42 = .ok (.if_icmp .ne 8, 3) := dk_160 0 8 (dk_at dksX4_operand_1 20 rfl rfl)
theorem dX4_operand_45 : decode cX4_operand 45 = .ok (.aload_n 0, 1) := dk_42 (dk_at dksX4_operand_1 23 rfl rfl)
theorem dX4_operand_46 : decode cX4_operand 46 = .ok (.iconst 2, 1) := dk_5 (dk_at dksX4_operand_2 0 rfl rfl)
theorem dX4_operand_47 : decode cX4_operand 47 = .ok (.invokevirtual 186, 3) := dk_182 0 186 (dk_at dksX4_operand_2 1 rfl rfl)
theorem dX4_operand_50 : decode cX4_operand 50 = .ok (.iinc 4 1, 3) := dk_132 4 1 (dk_at dksX4_operand_2 4 rfl rfl)
theorem dX4_operand_53 : decode cX4_operand 53 = .ok (.aload_n 0, 1) := dk_42 (dk_at dksX4_operand_2 7 rfl rfl)
theorem dX4_operand_54 : decode cX4_operand 54 = .ok (.invokevirtual 179, 3) := dk_182 0 179 (dk_at dksX4_operand_2 8 rfl rfl)
theorem dX4_operand_57 : decode cX4_operand 57 = .ok (.ifCond .ne 6, 3) := dk_154 0 6 (dk_at dksX4_operand_2 11 rfl rfl)
theorem dX4_operand_60 : decode cX4_operand 60 = .ok (.goto (-42), 3) := dk_167 255 214 (dk_at dksX4_operand_2 14 rfl rfl)
theorem dX4_operand_63 : decode cX4_operand 63 = .ok (.aload_n 0, 1) := dk_42 (dk_at dksX4_operand_2 17 rfl rfl)
theorem dX4_operand_64 : decode cX4_operand 64 = .ok (.iconst 3, 1) := dk_6 (dk_at dksX4_operand_2 18 rfl rfl)
theorem dX4_operand_65 : decode cX4_operand 65 = .ok (.invokevirtual 220, 3) := dk_182 0 220 (dk_at dksX4_operand_2 19 rfl rfl)
theorem dX4_operand_68 : decode cX4_operand 68 = .ok (.aload_n 0, 1) := dk_42 (dk_at dksX4_operand_2 22 rfl rfl)
theorem dX4_operand_69 : decode cX4_operand 69 = .ok (.invokevirtual 183, 3) := dk_182 0 183 (dk_at dksX4_operand_3 0 rfl rfl)
theorem dX4_operand_72 : decode cX4_operand 72 = .ok (.goto (-54), 3) := dk_167 255 202 (dk_at dksX4_operand_3 3 rfl rfl)
theorem dX4_operand_75 : decode cX4_operand 75 = .ok (.aload_n 0, 1) := dk_42 (dk_at dksX4_operand_3 6 rfl rfl)
theorem dX4_operand_76 : decode cX4_operand 76 = .ok (.invokevirtual 179, 3) := dk_182 0 179 (dk_at dksX4_operand_3 7 rfl rfl)
theorem dX4_operand_79 : decode cX4_operand 79 = .ok (.ifCond .eq 16, 3) := dk_153 0 16 (dk_at dksX4_operand_3 10 rfl rfl)
theorem dX4_operand_82 : decode cX4_operand 82 = .ok (.aload_n 0, 1) := dk_42 (dk_at dksX4_operand_3 13 rfl rfl)
theorem dX4_operand_83 : decode cX4_operand 83 = .ok (.bipush 40, 2) := dk_16 40 (dk_at dksX4_operand_3 14 rfl rfl)
theorem dX4_operand_85 : decode cX4_operand 85 = .ok (.invokevirtual 217, 3) := dk_182 0 217 (dk_at dksX4_operand_3 16 rfl rfl)
theorem dX4_operand_88 : decode cX4_operand 88 = .ok (.ifCond .eq 7, 3) := dk_153 0 7 (dk_at dksX4_operand_3 19 rfl rfl)
theorem dX4_operand_91 : decode cX4_operand 91 = .ok (.iconst 1, 1) := dk_4 (dk_at dksX4_operand_3 22 rfl rfl)
theorem dX4_operand_92 : decode cX4_operand 92 = .ok (.goto 4, 3) := dk_167 0 4 (dk_at dksX4_operand_4 0 rfl rfl)
theorem dX4_operand_95 : decode cX4_operand 95 = .ok (.iconst 0, 1) := dk_3 (dk_at dksX4_operand_4 3 rfl rfl)
theorem dX4_operand_96 : decode cX4_operand 96 = .ok (.istore_n 3, 1) := dk_62 (dk_at dksX4_operand_4 4 rfl rfl)
theorem dX4_operand_97 : decode cX4_operand 97 = .ok (.iload_n 3, 1) := dk_29 (dk_at dksX4_operand_4 5 rfl rfl)
theorem dX4_operand_98 : decode cX4_operand 98 = .ok (.ifCond .eq 19, 3) := dk_153 0 19 (dk_at dksX4_operand_4 6 rfl rfl)
theorem dX4_operand_101 : decode cX4_operand 101 = .ok (.aload_n 0, 1) := dk_42 (dk_at dksX4_operand_4 9 rfl rfl)
theorem dX4_operand_102 : decode cX4_operand 102 = .ok (.bipush 14, 2) := dk_16 14 (dk_at dksX4_operand_4 10 rfl rfl)
theorem dX4_operand_104 : decode cX4_operand 104 = .ok (.invokevirtual 220, 3) := dk_182 0 220 (dk_at dksX4_operand_4 12 rfl rfl)
theorem dX4_operand_107 : decode cX4_operand 107 = .ok (.aload_n 0, 1) := dk_42 (dk_at dksX4_operand_4 15 rfl rfl)
theorem dX4_operand_108 : decode cX4_operand 108 = .ok (.invokevirtual 183, 3) := dk_182 0 183 (dk_at dksX4_operand_4 16 rfl rfl)
theorem dX4_operand_111 : decode cX4_operand 111 = .ok (.aload_n 0, 1) := dk_42 (dk_at dksX4_operand_4 19 rfl rfl)
theorem dX4_operand_112 : decode cX4_operand 112 = .ok (.invokevirtual 223, 3) := dk_182 0 223 (dk_at dksX4_operand_4 20 rfl rfl)
theorem dX4_operand_115 : decode cX4_operand 115 = .ok (.iconst 1, 1) := dk_4 (dk_at dksX4_operand_4 23 rfl rfl)
theorem dX4_operand_116 : decode cX4_operand 116 = .ok (.istore_n 2, 1) := dk_61 (dk_at dksX4_operand_5 0 rfl rfl)
theorem dX4_operand_117 : decode cX4_operand 117 = .ok (.goto (-113), 3) := dk_167 255 143 (dk_at dksX4_operand_5 1 rfl rfl)
theorem dX4_operand_120 : decode cX4_operand 120 = .ok (.aload_n 0, 1) := dk_42 (dk_at dksX4_operand_5 4 rfl rfl)
theorem dX4_operand_121 : decode cX4_operand 121 = .ok (.invokevirtual 226, 3) := dk_182 0 226 (dk_at dksX4_operand_5 5 rfl rfl)
theorem dX4_operand_124 : decode cX4_operand 124 = .ok (.return_, 1) := dk_177 (dk_at dksX4_operand_5 8 rfl rfl)
abbrev cX4_waitsFor : ByteArray := prog_14_method_25_code
def yX4_waitsFor : MethodName := ⟨RX4, "waitsFor", "(I)V"⟩
def dkwX4_waitsFor_0 : List UInt8 := [42, 180, 0, 83, 42, 180, 0, 192, 27, 79, 42, 89, 180, 0, 192, 4, 96, 181, 0, 192, 177]
abbrev dktX4_waitsFor_0 : List UInt8 := dkwX4_waitsFor_0 ++ []
theorem dksX4_waitsFor_0 : cX4_waitsFor.data.toList.drop 0 = dktX4_waitsFor_0 := by decide +kernel
theorem dX4_waitsFor_0 : decode cX4_waitsFor 0 = .ok (.aload_n 0, 1) := dk_42 (dk_at dksX4_waitsFor_0 0 rfl rfl)
theorem dX4_waitsFor_1 : decode cX4_waitsFor 1 = .ok (.getfield 83, 3) := dk_180 0 83 (dk_at dksX4_waitsFor_0 1 rfl rfl)
theorem dX4_waitsFor_4 : decode cX4_waitsFor 4 = .ok (.aload_n 0, 1) := dk_42 (dk_at dksX4_waitsFor_0 4 rfl rfl)
theorem dX4_waitsFor_5 : decode cX4_waitsFor 5 = .ok (.getfield 192, 3) := dk_180 0 192 (dk_at dksX4_waitsFor_0 5 rfl rfl)
theorem dX4_waitsFor_8 : decode cX4_waitsFor 8 = .ok (.iload_n 1, 1) := dk_27 (dk_at dksX4_waitsFor_0 8 rfl rfl)
theorem dX4_waitsFor_9 : decode cX4_waitsFor 9 = .ok (.iastore, 1) := dk_79 (dk_at dksX4_waitsFor_0 9 rfl rfl)
theorem dX4_waitsFor_10 : decode cX4_waitsFor 10 = .ok (.aload_n 0, 1) := dk_42 (dk_at dksX4_waitsFor_0 10 rfl rfl)
theorem dX4_waitsFor_11 : decode cX4_waitsFor 11 = .ok (.dup, 1) := dk_89 (dk_at dksX4_waitsFor_0 11 rfl rfl)
theorem dX4_waitsFor_12 : decode cX4_waitsFor 12 = .ok (.getfield 192, 3) := dk_180 0 192 (dk_at dksX4_waitsFor_0 12 rfl rfl)
theorem dX4_waitsFor_15 : decode cX4_waitsFor 15 = .ok (.iconst 1, 1) := dk_4 (dk_at dksX4_waitsFor_0 15 rfl rfl)
theorem dX4_waitsFor_16 : decode cX4_waitsFor 16 = .ok (.iadd, 1) := dk_96 (dk_at dksX4_waitsFor_0 16 rfl rfl)
theorem dX4_waitsFor_17 : decode cX4_waitsFor 17 = .ok (.putfield 192, 3) := dk_181 0 192 (dk_at dksX4_waitsFor_0 17 rfl rfl)
theorem dX4_waitsFor_20 : decode cX4_waitsFor 20 = .ok (.return_, 1) := dk_177 (dk_at dksX4_waitsFor_0 20 rfl rfl)
abbrev cX4_part : ByteArray := prog_14_method_26_code
def yX4_part : MethodName := ⟨RX4, "part", "()V"⟩
def dkwX4_part_4 : List UInt8 := [42, 4, 182, 0, 186, 42, 182, 0, 179, 153, 0, 7, 42, 182, 0, 183, 177]
abbrev dktX4_part_4 : List UInt8 := dkwX4_part_4 ++ []
def dkwX4_part_3 : List UInt8 := [180, 0, 211, 164, 0, 8, 42, 6, 182, 0, 186, 42, 5, 182, 0, 201, 42, 27, 182, 0, 201, 167, 0, 8]
abbrev dktX4_part_3 : List UInt8 := dkwX4_part_3 ++ dktX4_part_4
def dkwX4_part_2 : List UInt8 := [180, 0, 153, 4, 160, 0, 42, 42, 182, 0, 204, 60, 27, 42, 180, 0, 208, 161, 0, 11, 27, 42]
abbrev dktX4_part_2 : List UInt8 := dkwX4_part_2 ++ dktX4_part_3
def dkwX4_part_1 : List UInt8 := [42, 5, 182, 0, 186, 42, 4, 182, 0, 201, 42, 42, 180, 0, 147, 182, 0, 201, 167, 0, 55, 42]
abbrev dktX4_part_1 : List UInt8 := dkwX4_part_1 ++ dktX4_part_2
def dkwX4_part_0 : List UInt8 := [42, 182, 0, 179, 154, 0, 4, 177, 42, 180, 0, 153, 5, 160, 0, 32, 42, 180, 0, 163, 7, 164, 0, 8]
abbrev dktX4_part_0 : List UInt8 := dkwX4_part_0 ++ dktX4_part_1
theorem dksX4_part_0 : cX4_part.data.toList.drop 0 = dktX4_part_0 := by decide +kernel
theorem dksX4_part_1 : cX4_part.data.toList.drop 24 = dktX4_part_1 := dk_seg dksX4_part_0 24 rfl rfl
theorem dksX4_part_2 : cX4_part.data.toList.drop 46 = dktX4_part_2 := dk_seg dksX4_part_1 22 rfl rfl
theorem dksX4_part_3 : cX4_part.data.toList.drop 68 = dktX4_part_3 := dk_seg dksX4_part_2 22 rfl rfl
theorem dksX4_part_4 : cX4_part.data.toList.drop 92 = dktX4_part_4 := dk_seg dksX4_part_3 24 rfl rfl
theorem dX4_part_0 : decode cX4_part 0 = .ok (.aload_n 0, 1) := dk_42 (dk_at dksX4_part_0 0 rfl rfl)
theorem dX4_part_1 : decode cX4_part 1 = .ok (.invokevirtual 179, 3) := dk_182 0 179 (dk_at dksX4_part_0 1 rfl rfl)
theorem dX4_part_4 : decode cX4_part 4 = .ok (.ifCond .ne 4, 3) := dk_154 0 4 (dk_at dksX4_part_0 4 rfl rfl)
theorem dX4_part_7 : decode cX4_part 7 = .ok (.return_, 1) := dk_177 (dk_at dksX4_part_0 7 rfl rfl)
theorem dX4_part_8 : decode cX4_part 8 = .ok (.aload_n 0, 1) := dk_42 (dk_at dksX4_part_0 8 rfl rfl)
theorem dX4_part_9 : decode cX4_part 9 = .ok (.getfield 153, 3) := dk_180 0 153 (dk_at dksX4_part_0 9 rfl rfl)
theorem dX4_part_12 : decode cX4_part 12 = .ok (.iconst 2, 1) := dk_5 (dk_at dksX4_part_0 12 rfl rfl)
theorem dX4_part_13 : decode cX4_part 13 = .ok (.if_icmp .ne 32, 3) := dk_160 0 32 (dk_at dksX4_part_0 13 rfl rfl)
theorem dX4_part_16 : decode cX4_part 16 = .ok (.aload_n 0, 1) := dk_42 (dk_at dksX4_part_0 16 rfl rfl)
theorem dX4_part_17 : decode cX4_part 17 = .ok (.getfield 163, 3) := dk_180 0 163 (dk_at dksX4_part_0 17 rfl rfl)
theorem dX4_part_20 : decode cX4_part 20 = .ok (.iconst 4, 1) := dk_7 (dk_at dksX4_part_0 20 rfl rfl)
theorem dX4_part_21 : decode cX4_part 21 = .ok (.if_icmp .le 8, 3) := dk_164 0 8 (dk_at dksX4_part_0 21 rfl rfl)
theorem dX4_part_24 : decode cX4_part 24 = .ok (.aload_n 0, 1) := dk_42 (dk_at dksX4_part_1 0 rfl rfl)
theorem dX4_part_25 : decode cX4_part 25 = .ok (.iconst 2, 1) := dk_5 (dk_at dksX4_part_1 1 rfl rfl)
theorem dX4_part_26 : decode cX4_part 26 = .ok (.invokevirtual 186, 3) := dk_182 0 186 (dk_at dksX4_part_1 2 rfl rfl)
theorem dX4_part_29 : decode cX4_part 29 = .ok (.aload_n 0, 1) := dk_42 (dk_at dksX4_part_1 5 rfl rfl)
theorem dX4_part_30 : decode cX4_part 30 = .ok (.iconst 1, 1) := dk_4 (dk_at dksX4_part_1 6 rfl rfl)
theorem dX4_part_31 : decode cX4_part 31 = .ok (.invokevirtual 201, 3) := dk_182 0 201 (dk_at dksX4_part_1 7 rfl rfl)
theorem dX4_part_34 : decode cX4_part 34 = .ok (.aload_n 0, 1) := dk_42 (dk_at dksX4_part_1 10 rfl rfl)
theorem dX4_part_35 : decode cX4_part 35 = .ok (.aload_n 0, 1) := dk_42 (dk_at dksX4_part_1 11 rfl rfl)
theorem dX4_part_36 : decode cX4_part 36 = .ok (.getfield 147, 3) := dk_180 0 147 (dk_at dksX4_part_1 12 rfl rfl)
theorem dX4_part_39 : decode cX4_part 39 = .ok (.invokevirtual 201, 3) := dk_182 0 201 (dk_at dksX4_part_1 15 rfl rfl)
theorem dX4_part_42 : decode cX4_part 42 = .ok (.goto 55, 3) := dk_167 0 55 (dk_at dksX4_part_1 18 rfl rfl)
theorem dX4_part_45 : decode cX4_part 45 = .ok (.aload_n 0, 1) := dk_42 (dk_at dksX4_part_1 21 rfl rfl)
theorem dX4_part_46 : decode cX4_part 46 = .ok (.getfield 153, 3) := dk_180 0 153 (dk_at dksX4_part_2 0 rfl rfl)
theorem dX4_part_49 : decode cX4_part 49 = .ok (.iconst 1, 1) := dk_4 (dk_at dksX4_part_2 3 rfl rfl)
theorem dX4_part_50 : decode cX4_part 50 = .ok (.if_icmp .ne 42, 3) := dk_160 0 42 (dk_at dksX4_part_2 4 rfl rfl)
theorem dX4_part_53 : decode cX4_part 53 = .ok (.aload_n 0, 1) := dk_42 (dk_at dksX4_part_2 7 rfl rfl)
theorem dX4_part_54 : decode cX4_part 54 = .ok (.invokevirtual 204, 3) := dk_182 0 204 (dk_at dksX4_part_2 8 rfl rfl)
theorem dX4_part_57 : decode cX4_part 57 = .ok (.istore_n 1, 1) := dk_60 (dk_at dksX4_part_2 11 rfl rfl)
theorem dX4_part_58 : decode cX4_part 58 = .ok (.iload_n 1, 1) := dk_27 (dk_at dksX4_part_2 12 rfl rfl)
theorem dX4_part_59 : decode cX4_part 59 = .ok (.aload_n 0, 1) := dk_42 (dk_at dksX4_part_2 13 rfl rfl)
theorem dX4_part_60 : decode cX4_part 60 = .ok (.getfield 208, 3) := dk_180 0 208 (dk_at dksX4_part_2 14 rfl rfl)
theorem dX4_part_63 : decode cX4_part 63 = .ok (.if_icmp .lt 11, 3) := dk_161 0 11 (dk_at dksX4_part_2 17 rfl rfl)
theorem dX4_part_66 : decode cX4_part 66 = .ok (.iload_n 1, 1) := dk_27 (dk_at dksX4_part_2 20 rfl rfl)
theorem dX4_part_67 : decode cX4_part 67 = .ok (.aload_n 0, 1) := dk_42 (dk_at dksX4_part_2 21 rfl rfl)
theorem dX4_part_68 : decode cX4_part 68 = .ok (.getfield 211, 3) := dk_180 0 211 (dk_at dksX4_part_3 0 rfl rfl)
theorem dX4_part_71 : decode cX4_part 71 = .ok (.if_icmp .le 8, 3) := dk_164 0 8 (dk_at dksX4_part_3 3 rfl rfl)
theorem dX4_part_74 : decode cX4_part 74 = .ok (.aload_n 0, 1) := dk_42 (dk_at dksX4_part_3 6 rfl rfl)
theorem dX4_part_75 : decode cX4_part 75 = .ok (.iconst 3, 1) := dk_6 (dk_at dksX4_part_3 7 rfl rfl)
theorem dX4_part_76 : decode cX4_part 76 = .ok (.invokevirtual 186, 3) := dk_182 0 186 (dk_at dksX4_part_3 8 rfl rfl)
theorem dX4_part_79 : decode cX4_part 79 = .ok (.aload_n 0, 1) := dk_42 (dk_at dksX4_part_3 11 rfl rfl)
theorem dX4_part_80 : decode cX4_part 80 = .ok (.iconst 2, 1) := dk_5 (dk_at dksX4_part_3 12 rfl rfl)
theorem dX4_part_81 : decode cX4_part 81 = .ok (.invokevirtual 201, 3) := dk_182 0 201 (dk_at dksX4_part_3 13 rfl rfl)
theorem dX4_part_84 : decode cX4_part 84 = .ok (.aload_n 0, 1) := dk_42 (dk_at dksX4_part_3 16 rfl rfl)
theorem dX4_part_85 : decode cX4_part 85 = .ok (.iload_n 1, 1) := dk_27 (dk_at dksX4_part_3 17 rfl rfl)
theorem dX4_part_86 : decode cX4_part 86 = .ok (.invokevirtual 201, 3) := dk_182 0 201 (dk_at dksX4_part_3 18 rfl rfl)
theorem dX4_part_89 : decode cX4_part 89 = .ok (.goto 8, 3) := dk_167 0 8 (dk_at dksX4_part_3 21 rfl rfl)
theorem dX4_part_92 : decode cX4_part 92 = .ok (.aload_n 0, 1) := dk_42 (dk_at dksX4_part_4 0 rfl rfl)
theorem dX4_part_93 : decode cX4_part 93 = .ok (.iconst 1, 1) := dk_4 (dk_at dksX4_part_4 1 rfl rfl)
theorem dX4_part_94 : decode cX4_part 94 = .ok (.invokevirtual 186, 3) := dk_182 0 186 (dk_at dksX4_part_4 2 rfl rfl)
theorem dX4_part_97 : decode cX4_part 97 = .ok (.aload_n 0, 1) := dk_42 (dk_at dksX4_part_4 5 rfl rfl)
theorem dX4_part_98 : decode cX4_part 98 = .ok (.invokevirtual 179, 3) := dk_182 0 179 (dk_at dksX4_part_4 6 rfl rfl)
theorem dX4_part_101 : decode cX4_part 101 = .ok (.ifCond .eq 7, 3) := dk_153 0 7 (dk_at dksX4_part_4 9 rfl rfl)
theorem dX4_part_104 : decode cX4_part 104 = .ok (.aload_n 0, 1) := dk_42 (dk_at dksX4_part_4 12 rfl rfl)
theorem dX4_part_105 : decode cX4_part 105 = .ok (.invokevirtual 183, 3) := dk_182 0 183 (dk_at dksX4_part_4 13 rfl rfl)
theorem dX4_part_108 : decode cX4_part 108 = .ok (.return_, 1) := dk_177 (dk_at dksX4_part_4 16 rfl rfl)
abbrev cX4_puts : ByteArray := prog_14_method_21_code
def yX4_puts : MethodName := ⟨RX4, "puts", "(I)V"⟩
def dkwX4_puts_0 : List UInt8 := [42, 180, 0, 80, 42, 180, 0, 189, 27, 79, 42, 89, 180, 0, 189, 4, 96, 181, 0, 189, 177]
abbrev dktX4_puts_0 : List UInt8 := dkwX4_puts_0 ++ []
theorem dksX4_puts_0 : cX4_puts.data.toList.drop 0 = dktX4_puts_0 := by decide +kernel
theorem dX4_puts_0 : decode cX4_puts 0 = .ok (.aload_n 0, 1) := dk_42 (dk_at dksX4_puts_0 0 rfl rfl)
theorem dX4_puts_1 : decode cX4_puts 1 = .ok (.getfield 80, 3) := dk_180 0 80 (dk_at dksX4_puts_0 1 rfl rfl)
theorem dX4_puts_4 : decode cX4_puts 4 = .ok (.aload_n 0, 1) := dk_42 (dk_at dksX4_puts_0 4 rfl rfl)
theorem dX4_puts_5 : decode cX4_puts 5 = .ok (.getfield 189, 3) := dk_180 0 189 (dk_at dksX4_puts_0 5 rfl rfl)
theorem dX4_puts_8 : decode cX4_puts 8 = .ok (.iload_n 1, 1) := dk_27 (dk_at dksX4_puts_0 8 rfl rfl)
theorem dX4_puts_9 : decode cX4_puts 9 = .ok (.iastore, 1) := dk_79 (dk_at dksX4_puts_0 9 rfl rfl)
theorem dX4_puts_10 : decode cX4_puts 10 = .ok (.aload_n 0, 1) := dk_42 (dk_at dksX4_puts_0 10 rfl rfl)
theorem dX4_puts_11 : decode cX4_puts 11 = .ok (.dup, 1) := dk_89 (dk_at dksX4_puts_0 11 rfl rfl)
theorem dX4_puts_12 : decode cX4_puts 12 = .ok (.getfield 189, 3) := dk_180 0 189 (dk_at dksX4_puts_0 12 rfl rfl)
theorem dX4_puts_15 : decode cX4_puts 15 = .ok (.iconst 1, 1) := dk_4 (dk_at dksX4_puts_0 15 rfl rfl)
theorem dX4_puts_16 : decode cX4_puts 16 = .ok (.iadd, 1) := dk_96 (dk_at dksX4_puts_0 16 rfl rfl)
theorem dX4_puts_17 : decode cX4_puts 17 = .ok (.putfield 189, 3) := dk_181 0 189 (dk_at dksX4_puts_0 17 rfl rfl)
theorem dX4_puts_20 : decode cX4_puts 20 = .ok (.return_, 1) := dk_177 (dk_at dksX4_puts_0 20 rfl rfl)
abbrev cX4_drops : ByteArray := prog_14_method_24_code
def yX4_drops : MethodName := ⟨RX4, "drops", "(I)V"⟩
def dkwX4_drops_2 : List UInt8 := [100, 181, 0, 192, 42, 42, 180, 0, 83, 42, 180, 0, 192, 46, 182, 0, 201, 167, 255, 191, 177]
abbrev dktX4_drops_2 : List UInt8 := dkwX4_drops_2 ++ []
def dkwX4_drops_1 : List UInt8 := [42, 180, 0, 83, 42, 180, 0, 192, 4, 100, 46, 184, 0, 198, 27, 161, 0, 29, 42, 89, 180, 0, 192, 4]
abbrev dktX4_drops_1 : List UInt8 := dkwX4_drops_1 ++ dktX4_drops_2
def dkwX4_drops_0 : List UInt8 := [42, 180, 0, 192, 158, 0, 64, 42, 180, 0, 83, 42, 180, 0, 192, 4, 100, 46, 184, 0, 195, 154, 0, 47]
abbrev dktX4_drops_0 : List UInt8 := dkwX4_drops_0 ++ dktX4_drops_1
theorem dksX4_drops_0 : cX4_drops.data.toList.drop 0 = dktX4_drops_0 := by decide +kernel
theorem dksX4_drops_1 : cX4_drops.data.toList.drop 24 = dktX4_drops_1 := dk_seg dksX4_drops_0 24 rfl rfl
theorem dksX4_drops_2 : cX4_drops.data.toList.drop 48 = dktX4_drops_2 := dk_seg dksX4_drops_1 24 rfl rfl
theorem dX4_drops_0 : decode cX4_drops 0 = .ok (.aload_n 0, 1) := dk_42 (dk_at dksX4_drops_0 0 rfl rfl)
theorem dX4_drops_1 : decode cX4_drops 1 = .ok (.getfield 192, 3) := dk_180 0 192 (dk_at dksX4_drops_0 1 rfl rfl)
theorem dX4_drops_4 : decode cX4_drops 4 = .ok (.ifCond .le 64, 3) := dk_158 0 64 (dk_at dksX4_drops_0 4 rfl rfl)
theorem dX4_drops_7 : decode cX4_drops 7 = .ok (.aload_n 0, 1) := dk_42 (dk_at dksX4_drops_0 7 rfl rfl)
theorem dX4_drops_8 : decode cX4_drops 8 = .ok (.getfield 83, 3) := dk_180 0 83 (dk_at dksX4_drops_0 8 rfl rfl)
theorem dX4_drops_11 : decode cX4_drops 11 = .ok (.aload_n 0, 1) := dk_42 (dk_at dksX4_drops_0 11 rfl rfl)
theorem dX4_drops_12 : decode cX4_drops 12 = .ok (.getfield 192, 3) := dk_180 0 192 (dk_at dksX4_drops_0 12 rfl rfl)
theorem dX4_drops_15 : decode cX4_drops 15 = .ok (.iconst 1, 1) := dk_4 (dk_at dksX4_drops_0 15 rfl rfl)
theorem dX4_drops_16 : decode cX4_drops 16 = .ok (.isub, 1) := dk_100 (dk_at dksX4_drops_0 16 rfl rfl)
theorem dX4_drops_17 : decode cX4_drops 17 = .ok (.iaload, 1) := dk_46 (dk_at dksX4_drops_0 17 rfl rfl)
theorem dX4_drops_18 : decode cX4_drops 18 = .ok (.invokestatic 195, 3) := dk_184 0 195 (dk_at dksX4_drops_0 18 rfl rfl)
theorem dX4_drops_21 : decode cX4_drops 21 = .ok (.ifCond .ne 47, 3) := dk_154 0 47 (dk_at dksX4_drops_0 21 rfl rfl)
theorem dX4_drops_24 : decode cX4_drops 24 = .ok (.aload_n 0, 1) := dk_42 (dk_at dksX4_drops_1 0 rfl rfl)
theorem dX4_drops_25 : decode cX4_drops 25 = .ok (.getfield 83, 3) := dk_180 0 83 (dk_at dksX4_drops_1 1 rfl rfl)
theorem dX4_drops_28 : decode cX4_drops 28 = .ok (.aload_n 0, 1) := dk_42 (dk_at dksX4_drops_1 4 rfl rfl)
theorem dX4_drops_29 : decode cX4_drops 29 = .ok (.getfield 192, 3) := dk_180 0 192 (dk_at dksX4_drops_1 5 rfl rfl)
theorem dX4_drops_32 : decode cX4_drops 32 = .ok (.iconst 1, 1) := dk_4 (dk_at dksX4_drops_1 8 rfl rfl)
theorem dX4_drops_33 : decode cX4_drops 33 = .ok (.isub, 1) := dk_100 (dk_at dksX4_drops_1 9 rfl rfl)
theorem dX4_drops_34 : decode cX4_drops 34 = .ok (.iaload, 1) := dk_46 (dk_at dksX4_drops_1 10 rfl rfl)
theorem dX4_drops_35 : decode cX4_drops 35 = .ok (.invokestatic 198, 3) := dk_184 0 198 (dk_at dksX4_drops_1 11 rfl rfl)
theorem dX4_drops_38 : decode cX4_drops 38 = .ok (.iload_n 1, 1) := dk_27 (dk_at dksX4_drops_1 14 rfl rfl)
theorem dX4_drops_39 : decode cX4_drops 39 = .ok (.if_icmp .lt 29, 3) := dk_161 0 29 (dk_at dksX4_drops_1 15 rfl rfl)
theorem dX4_drops_42 : decode cX4_drops 42 = .ok (.aload_n 0, 1) := dk_42 (dk_at dksX4_drops_1 18 rfl rfl)
theorem dX4_drops_43 : decode cX4_drops 43 = .ok (.dup, 1) := dk_89 (dk_at dksX4_drops_1 19 rfl rfl)
theorem dX4_drops_44 : decode cX4_drops 44 = .ok (.getfield 192, 3) := dk_180 0 192 (dk_at dksX4_drops_1 20 rfl rfl)
theorem dX4_drops_47 : decode cX4_drops 47 = .ok (.iconst 1, 1) := dk_4 (dk_at dksX4_drops_1 23 rfl rfl)
theorem dX4_drops_48 : decode cX4_drops 48 = .ok (.isub, 1) := dk_100 (dk_at dksX4_drops_2 0 rfl rfl)
theorem dX4_drops_49 : decode cX4_drops 49 = .ok (.putfield 192, 3) := dk_181 0 192 (dk_at dksX4_drops_2 1 rfl rfl)
theorem dX4_drops_52 : decode cX4_drops 52 = .ok (.aload_n 0, 1) := dk_42 (dk_at dksX4_drops_2 4 rfl rfl)
theorem dX4_drops_53 : decode cX4_drops 53 = .ok (.aload_n 0, 1) := dk_42 (dk_at dksX4_drops_2 5 rfl rfl)
theorem dX4_drops_54 : decode cX4_drops 54 = .ok (.getfield 83, 3) := dk_180 0 83 (dk_at dksX4_drops_2 6 rfl rfl)
theorem dX4_drops_57 : decode cX4_drops 57 = .ok (.aload_n 0, 1) := dk_42 (dk_at dksX4_drops_2 9 rfl rfl)
theorem dX4_drops_58 : decode cX4_drops 58 = .ok (.getfield 192, 3) := dk_180 0 192 (dk_at dksX4_drops_2 10 rfl rfl)
theorem dX4_drops_61 : decode cX4_drops 61 = .ok (.iaload, 1) := dk_46 (dk_at dksX4_drops_2 13 rfl rfl)
theorem dX4_drops_62 : decode cX4_drops 62 = .ok (.invokevirtual 201, 3) := dk_182 0 201 (dk_at dksX4_drops_2 14 rfl rfl)
theorem dX4_drops_65 : decode cX4_drops 65 = .ok (.goto (-65), 3) := dk_167 255 191 (dk_at dksX4_drops_2 17 rfl rfl)
theorem dX4_drops_68 : decode cX4_drops 68 = .ok (.return_, 1) := dk_177 (dk_at dksX4_drops_2 20 rfl rfl)
abbrev cX4_isOpen : ByteArray := prog_14_method_22_code
def yX4_isOpen : MethodName := ⟨RX4, "isOpen", "(I)Z"⟩
def dkwX4_isOpen_0 : List UInt8 := [26, 16, 14, 161, 0, 7, 4, 167, 0, 4, 3, 172]
abbrev dktX4_isOpen_0 : List UInt8 := dkwX4_isOpen_0 ++ []
theorem dksX4_isOpen_0 : cX4_isOpen.data.toList.drop 0 = dktX4_isOpen_0 := by decide +kernel
theorem dX4_isOpen_0 : decode cX4_isOpen 0 = .ok (.iload_n 0, 1) := dk_26 (dk_at dksX4_isOpen_0 0 rfl rfl)
theorem dX4_isOpen_1 : decode cX4_isOpen 1 = .ok (.bipush 14, 2) := dk_16 14 (dk_at dksX4_isOpen_0 1 rfl rfl)
theorem dX4_isOpen_3 : decode cX4_isOpen 3 = .ok (.if_icmp .lt 7, 3) := dk_161 0 7 (dk_at dksX4_isOpen_0 3 rfl rfl)
theorem dX4_isOpen_6 : decode cX4_isOpen 6 = .ok (.iconst 1, 1) := dk_4 (dk_at dksX4_isOpen_0 6 rfl rfl)
theorem dX4_isOpen_7 : decode cX4_isOpen 7 = .ok (.goto 4, 3) := dk_167 0 4 (dk_at dksX4_isOpen_0 7 rfl rfl)
theorem dX4_isOpen_10 : decode cX4_isOpen 10 = .ok (.iconst 0, 1) := dk_3 (dk_at dksX4_isOpen_0 10 rfl rfl)
theorem dX4_isOpen_11 : decode cX4_isOpen 11 = .ok (.ireturn, 1) := dk_172 (dk_at dksX4_isOpen_0 11 rfl rfl)
abbrev cX4_strength : ByteArray := prog_14_method_23_code
def yX4_strength : MethodName := ⟨RX4, "strength", "(I)I"⟩
def dkwX4_strength_2 : List UInt8 := [159, 0, 9, 26, 16, 9, 160, 0, 7, 8, 167, 0, 5, 16, 6, 172]
abbrev dktX4_strength_2 : List UInt8 := dkwX4_strength_2 ++ []
def dkwX4_strength_1 : List UInt8 := [167, 0, 37, 26, 16, 6, 159, 0, 9, 26, 16, 7, 160, 0, 7, 7, 167, 0, 21, 26, 16, 8]
abbrev dktX4_strength_1 : List UInt8 := dkwX4_strength_1 ++ dktX4_strength_2
def dkwX4_strength_0 : List UInt8 := [26, 8, 160, 0, 7, 4, 167, 0, 55, 26, 7, 160, 0, 7, 5, 167, 0, 46, 26, 6, 160, 0, 7, 6]
abbrev dktX4_strength_0 : List UInt8 := dkwX4_strength_0 ++ dktX4_strength_1
theorem dksX4_strength_0 : cX4_strength.data.toList.drop 0 = dktX4_strength_0 := by decide +kernel
theorem dksX4_strength_1 : cX4_strength.data.toList.drop 24 = dktX4_strength_1 := dk_seg dksX4_strength_0 24 rfl rfl
theorem dksX4_strength_2 : cX4_strength.data.toList.drop 46 = dktX4_strength_2 := dk_seg dksX4_strength_1 22 rfl rfl
theorem dX4_strength_0 : decode cX4_strength 0 = .ok (.iload_n 0, 1) := dk_26 (dk_at dksX4_strength_0 0 rfl rfl)
theorem dX4_strength_1 : decode cX4_strength 1 = .ok (.iconst 5, 1) := dk_8 (dk_at dksX4_strength_0 1 rfl rfl)
theorem dX4_strength_2 : decode cX4_strength 2 = .ok (.if_icmp .ne 7, 3) := dk_160 0 7 (dk_at dksX4_strength_0 2 rfl rfl)
theorem dX4_strength_5 : decode cX4_strength 5 = .ok (.iconst 1, 1) := dk_4 (dk_at dksX4_strength_0 5 rfl rfl)
theorem dX4_strength_6 : decode cX4_strength 6 = .ok (.goto 55, 3) := dk_167 0 55 (dk_at dksX4_strength_0 6 rfl rfl)
theorem dX4_strength_9 : decode cX4_strength 9 = .ok (.iload_n 0, 1) := dk_26 (dk_at dksX4_strength_0 9 rfl rfl)
theorem dX4_strength_10 : decode cX4_strength 10 = .ok (.iconst 4, 1) := dk_7 (dk_at dksX4_strength_0 10 rfl rfl)
theorem dX4_strength_11 : decode cX4_strength 11 = .ok (.if_icmp .ne 7, 3) := dk_160 0 7 (dk_at dksX4_strength_0 11 rfl rfl)
theorem dX4_strength_14 : decode cX4_strength 14 = .ok (.iconst 2, 1) := dk_5 (dk_at dksX4_strength_0 14 rfl rfl)
theorem dX4_strength_15 : decode cX4_strength 15 = .ok (.goto 46, 3) := dk_167 0 46 (dk_at dksX4_strength_0 15 rfl rfl)
theorem dX4_strength_18 : decode cX4_strength 18 = .ok (.iload_n 0, 1) := dk_26 (dk_at dksX4_strength_0 18 rfl rfl)
theorem dX4_strength_19 : decode cX4_strength 19 = .ok (.iconst 3, 1) := dk_6 (dk_at dksX4_strength_0 19 rfl rfl)
theorem dX4_strength_20 : decode cX4_strength 20 = .ok (.if_icmp .ne 7, 3) := dk_160 0 7 (dk_at dksX4_strength_0 20 rfl rfl)
theorem dX4_strength_23 : decode cX4_strength 23 = .ok (.iconst 3, 1) := dk_6 (dk_at dksX4_strength_0 23 rfl rfl)
theorem dX4_strength_24 : decode cX4_strength 24 = .ok (.goto 37, 3) := dk_167 0 37 (dk_at dksX4_strength_1 0 rfl rfl)
theorem dX4_strength_27 : decode cX4_strength 27 = .ok (.iload_n 0, 1) := dk_26 (dk_at dksX4_strength_1 3 rfl rfl)
theorem dX4_strength_28 : decode cX4_strength 28 = .ok (.bipush 6, 2) := dk_16 6 (dk_at dksX4_strength_1 4 rfl rfl)
theorem dX4_strength_30 : decode cX4_strength 30 = .ok (.if_icmp .eq 9, 3) := dk_159 0 9 (dk_at dksX4_strength_1 6 rfl rfl)
theorem dX4_strength_33 : decode cX4_strength 33 = .ok (.iload_n 0, 1) := dk_26 (dk_at dksX4_strength_1 9 rfl rfl)
theorem dX4_strength_34 : decode cX4_strength 34 = .ok (.bipush 7, 2) := dk_16 7 (dk_at dksX4_strength_1 10 rfl rfl)
theorem dX4_strength_36 : decode cX4_strength 36 = .ok (.if_icmp .ne 7, 3) := dk_160 0 7 (dk_at dksX4_strength_1 12 rfl rfl)
theorem dX4_strength_39 : decode cX4_strength 39 = .ok (.iconst 4, 1) := dk_7 (dk_at dksX4_strength_1 15 rfl rfl)
theorem dX4_strength_40 : decode cX4_strength 40 = .ok (.goto 21, 3) := dk_167 0 21 (dk_at dksX4_strength_1 16 rfl rfl)
theorem dX4_strength_43 : decode cX4_strength 43 = .ok (.iload_n 0, 1) := dk_26 (dk_at dksX4_strength_1 19 rfl rfl)
theorem dX4_strength_44 : decode cX4_strength 44 = .ok (.bipush 8, 2) := dk_16 8 (dk_at dksX4_strength_1 20 rfl rfl)
theorem dX4_strength_46 : decode cX4_strength 46 = .ok (.if_icmp .eq 9, 3) := dk_159 0 9 (dk_at dksX4_strength_2 0 rfl rfl)
theorem dX4_strength_49 : decode cX4_strength 49 = .ok (.iload_n 0, 1) := dk_26 (dk_at dksX4_strength_2 3 rfl rfl)
theorem dX4_strength_50 : decode cX4_strength 50 = .ok (.bipush 9, 2) := dk_16 9 (dk_at dksX4_strength_2 4 rfl rfl)
theorem dX4_strength_52 : decode cX4_strength 52 = .ok (.if_icmp .ne 7, 3) := dk_160 0 7 (dk_at dksX4_strength_2 6 rfl rfl)
theorem dX4_strength_55 : decode cX4_strength 55 = .ok (.iconst 5, 1) := dk_8 (dk_at dksX4_strength_2 9 rfl rfl)
theorem dX4_strength_56 : decode cX4_strength 56 = .ok (.goto 5, 3) := dk_167 0 5 (dk_at dksX4_strength_2 10 rfl rfl)
theorem dX4_strength_59 : decode cX4_strength 59 = .ok (.bipush 6, 2) := dk_16 6 (dk_at dksX4_strength_2 13 rfl rfl)
theorem dX4_strength_61 : decode cX4_strength 61 = .ok (.ireturn, 1) := dk_172 (dk_at dksX4_strength_2 15 rfl rfl)
abbrev cX4_isOpened : ByteArray := prog_14_method_29_code
def yX4_isOpened : MethodName := ⟨RX4, "isOpened", "()Z"⟩
def dkwX4_isOpened_1 : List UInt8 := [132, 1, 255, 167, 255, 237, 27, 155, 0, 7, 4, 167, 0, 4, 3, 172]
abbrev dktX4_isOpened_1 : List UInt8 := dkwX4_isOpened_1 ++ []
def dkwX4_isOpened_0 : List UInt8 := [42, 180, 0, 192, 4, 100, 60, 27, 155, 0, 21, 42, 180, 0, 83, 27, 46, 184, 0, 195, 154, 0, 9]
abbrev dktX4_isOpened_0 : List UInt8 := dkwX4_isOpened_0 ++ dktX4_isOpened_1
theorem dksX4_isOpened_0 : cX4_isOpened.data.toList.drop 0 = dktX4_isOpened_0 := by decide +kernel
theorem dksX4_isOpened_1 : cX4_isOpened.data.toList.drop 23 = dktX4_isOpened_1 := dk_seg dksX4_isOpened_0 23 rfl rfl
theorem dX4_isOpened_0 : decode cX4_isOpened 0 = .ok (.aload_n 0, 1) := dk_42 (dk_at dksX4_isOpened_0 0 rfl rfl)
theorem dX4_isOpened_1 : decode cX4_isOpened 1 = .ok (.getfield 192, 3) := dk_180 0 192 (dk_at dksX4_isOpened_0 1 rfl rfl)
theorem dX4_isOpened_4 : decode cX4_isOpened 4 = .ok (.iconst 1, 1) := dk_4 (dk_at dksX4_isOpened_0 4 rfl rfl)
theorem dX4_isOpened_5 : decode cX4_isOpened 5 = .ok (.isub, 1) := dk_100 (dk_at dksX4_isOpened_0 5 rfl rfl)
theorem dX4_isOpened_6 : decode cX4_isOpened 6 = .ok (.istore_n 1, 1) := dk_60 (dk_at dksX4_isOpened_0 6 rfl rfl)
theorem dX4_isOpened_7 : decode cX4_isOpened 7 = .ok (.iload_n 1, 1) := dk_27 (dk_at dksX4_isOpened_0 7 rfl rfl)
theorem dX4_isOpened_8 : decode cX4_isOpened 8 = .ok (.ifCond .lt 21, 3) := dk_155 0 21 (dk_at dksX4_isOpened_0 8 rfl rfl)
theorem dX4_isOpened_11 : decode cX4_isOpened 11 = .ok (.aload_n 0, 1) := dk_42 (dk_at dksX4_isOpened_0 11 rfl rfl)
theorem dX4_isOpened_12 : decode cX4_isOpened 12 = .ok (.getfield 83, 3) := dk_180 0 83 (dk_at dksX4_isOpened_0 12 rfl rfl)
theorem dX4_isOpened_15 : decode cX4_isOpened 15 = .ok (.iload_n 1, 1) := dk_27 (dk_at dksX4_isOpened_0 15 rfl rfl)
theorem dX4_isOpened_16 : decode cX4_isOpened 16 = .ok (.iaload, 1) := dk_46 (dk_at dksX4_isOpened_0 16 rfl rfl)
theorem dX4_isOpened_17 : decode cX4_isOpened 17 = .ok (.invokestatic 195, 3) := dk_184 0 195 (dk_at dksX4_isOpened_0 17 rfl rfl)
theorem dX4_isOpened_20 : decode cX4_isOpened 20 = .ok (.ifCond .ne 9, 3) := dk_154 0 9 (dk_at dksX4_isOpened_0 20 rfl rfl)
theorem dX4_isOpened_23 : decode cX4_isOpened 23 = .ok (.iinc 1 (-1), 3) := dk_132 1 255 (dk_at dksX4_isOpened_1 0 rfl rfl)
theorem dX4_isOpened_26 : decode cX4_isOpened 26 = .ok (.goto (-19), 3) := dk_167 255 237 (dk_at dksX4_isOpened_1 3 rfl rfl)
theorem dX4_isOpened_29 : decode cX4_isOpened 29 = .ok (.iload_n 1, 1) := dk_27 (dk_at dksX4_isOpened_1 6 rfl rfl)
theorem dX4_isOpened_30 : decode cX4_isOpened 30 = .ok (.ifCond .lt 7, 3) := dk_155 0 7 (dk_at dksX4_isOpened_1 7 rfl rfl)
theorem dX4_isOpened_33 : decode cX4_isOpened 33 = .ok (.iconst 1, 1) := dk_4 (dk_at dksX4_isOpened_1 10 rfl rfl)
theorem dX4_isOpened_34 : decode cX4_isOpened 34 = .ok (.goto 4, 3) := dk_167 0 4 (dk_at dksX4_isOpened_1 11 rfl rfl)
theorem dX4_isOpened_37 : decode cX4_isOpened 37 = .ok (.iconst 0, 1) := dk_3 (dk_at dksX4_isOpened_1 14 rfl rfl)
theorem dX4_isOpened_38 : decode cX4_isOpened 38 = .ok (.ireturn, 1) := dk_172 (dk_at dksX4_isOpened_1 15 rfl rfl)
abbrev cX4_closes : ByteArray := prog_14_method_30_code
def yX4_closes : MethodName := ⟨RX4, "closes", "()V"⟩
def dkwX4_closes_1 : List UInt8 := [181, 0, 214, 42, 182, 0, 183, 177]
abbrev dktX4_closes_1 : List UInt8 := dkwX4_closes_1 ++ []
def dkwX4_closes_0 : List UInt8 := [42, 3, 182, 0, 228, 42, 89, 180, 0, 192, 4, 100, 181, 0, 192, 42, 89, 180, 0, 214, 4, 100]
abbrev dktX4_closes_0 : List UInt8 := dkwX4_closes_0 ++ dktX4_closes_1
theorem dksX4_closes_0 : cX4_closes.data.toList.drop 0 = dktX4_closes_0 := by decide +kernel
theorem dksX4_closes_1 : cX4_closes.data.toList.drop 22 = dktX4_closes_1 := dk_seg dksX4_closes_0 22 rfl rfl
theorem dX4_closes_0 : decode cX4_closes 0 = .ok (.aload_n 0, 1) := dk_42 (dk_at dksX4_closes_0 0 rfl rfl)
theorem dX4_closes_1 : decode cX4_closes 1 = .ok (.iconst 0, 1) := dk_3 (dk_at dksX4_closes_0 1 rfl rfl)
theorem dX4_closes_2 : decode cX4_closes 2 = .ok (.invokevirtual 228, 3) := dk_182 0 228 (dk_at dksX4_closes_0 2 rfl rfl)
theorem dX4_closes_5 : decode cX4_closes 5 = .ok (.aload_n 0, 1) := dk_42 (dk_at dksX4_closes_0 5 rfl rfl)
theorem dX4_closes_6 : decode cX4_closes 6 = .ok (.dup, 1) := dk_89 (dk_at dksX4_closes_0 6 rfl rfl)
theorem dX4_closes_7 : decode cX4_closes 7 = .ok (.getfield 192, 3) := dk_180 0 192 (dk_at dksX4_closes_0 7 rfl rfl)
theorem dX4_closes_10 : decode cX4_closes 10 = .ok (.iconst 1, 1) := dk_4 (dk_at dksX4_closes_0 10 rfl rfl)
theorem dX4_closes_11 : decode cX4_closes 11 = .ok (.isub, 1) := dk_100 (dk_at dksX4_closes_0 11 rfl rfl)
theorem dX4_closes_12 : decode cX4_closes 12 = .ok (.putfield 192, 3) := dk_181 0 192 (dk_at dksX4_closes_0 12 rfl rfl)
theorem dX4_closes_15 : decode cX4_closes 15 = .ok (.aload_n 0, 1) := dk_42 (dk_at dksX4_closes_0 15 rfl rfl)
theorem dX4_closes_16 : decode cX4_closes 16 = .ok (.dup, 1) := dk_89 (dk_at dksX4_closes_0 16 rfl rfl)
theorem dX4_closes_17 : decode cX4_closes 17 = .ok (.getfield 214, 3) := dk_180 0 214 (dk_at dksX4_closes_0 17 rfl rfl)
theorem dX4_closes_20 : decode cX4_closes 20 = .ok (.iconst 1, 1) := dk_4 (dk_at dksX4_closes_0 20 rfl rfl)
theorem dX4_closes_21 : decode cX4_closes 21 = .ok (.isub, 1) := dk_100 (dk_at dksX4_closes_0 21 rfl rfl)
theorem dX4_closes_22 : decode cX4_closes 22 = .ok (.putfield 214, 3) := dk_181 0 214 (dk_at dksX4_closes_1 0 rfl rfl)
theorem dX4_closes_25 : decode cX4_closes 25 = .ok (.aload_n 0, 1) := dk_42 (dk_at dksX4_closes_1 3 rfl rfl)
theorem dX4_closes_26 : decode cX4_closes 26 = .ok (.invokevirtual 183, 3) := dk_182 0 183 (dk_at dksX4_closes_1 4 rfl rfl)
theorem dX4_closes_29 : decode cX4_closes 29 = .ok (.return_, 1) := dk_177 (dk_at dksX4_closes_1 7 rfl rfl)
abbrev cX4_need : ByteArray := prog_14_method_19_code
def yX4_need : MethodName := ⟨RX4, "need", "(Z)V"⟩
def dkwX4_need_1 : List UInt8 := [177]
abbrev dktX4_need_1 : List UInt8 := dkwX4_need_1 ++ []
def dkwX4_need_0 : List UInt8 := [42, 182, 0, 179, 154, 0, 4, 177, 27, 153, 0, 10, 42, 182, 0, 183, 167, 0, 8, 42, 4, 182, 0, 186]
abbrev dktX4_need_0 : List UInt8 := dkwX4_need_0 ++ dktX4_need_1
theorem dksX4_need_0 : cX4_need.data.toList.drop 0 = dktX4_need_0 := by decide +kernel
theorem dksX4_need_1 : cX4_need.data.toList.drop 24 = dktX4_need_1 := dk_seg dksX4_need_0 24 rfl rfl
theorem dX4_need_0 : decode cX4_need 0 = .ok (.aload_n 0, 1) := dk_42 (dk_at dksX4_need_0 0 rfl rfl)
theorem dX4_need_1 : decode cX4_need 1 = .ok (.invokevirtual 179, 3) := dk_182 0 179 (dk_at dksX4_need_0 1 rfl rfl)
theorem dX4_need_4 : decode cX4_need 4 = .ok (.ifCond .ne 4, 3) := dk_154 0 4 (dk_at dksX4_need_0 4 rfl rfl)
theorem dX4_need_7 : decode cX4_need 7 = .ok (.return_, 1) := dk_177 (dk_at dksX4_need_0 7 rfl rfl)
theorem dX4_need_8 : decode cX4_need 8 = .ok (.iload_n 1, 1) := dk_27 (dk_at dksX4_need_0 8 rfl rfl)
theorem dX4_need_9 : decode cX4_need 9 = .ok (.ifCond .eq 10, 3) := dk_153 0 10 (dk_at dksX4_need_0 9 rfl rfl)
theorem dX4_need_12 : decode cX4_need 12 = .ok (.aload_n 0, 1) := dk_42 (dk_at dksX4_need_0 12 rfl rfl)
theorem dX4_need_13 : decode cX4_need 13 = .ok (.invokevirtual 183, 3) := dk_182 0 183 (dk_at dksX4_need_0 13 rfl rfl)
theorem dX4_need_16 : decode cX4_need 16 = .ok (.goto 8, 3) := dk_167 0 8 (dk_at dksX4_need_0 16 rfl rfl)
theorem dX4_need_19 : decode cX4_need 19 = .ok (.aload_n 0, 1) := dk_42 (dk_at dksX4_need_0 19 rfl rfl)
theorem dX4_need_20 : decode cX4_need 20 = .ok (.iconst 1, 1) := dk_4 (dk_at dksX4_need_0 20 rfl rfl)
theorem dX4_need_21 : decode cX4_need 21 = .ok (.invokevirtual 186, 3) := dk_182 0 186 (dk_at dksX4_need_0 21 rfl rfl)
theorem dX4_need_24 : decode cX4_need 24 = .ok (.return_, 1) := dk_177 (dk_at dksX4_need_1 0 rfl rfl)
abbrev cX4_copies : ByteArray := prog_14_method_5_code
def yX4_copies : MethodName := ⟨RX4, "copies", "([I[I)V"⟩
def dkwX4_copies_0 : List UInt8 := [3, 62, 29, 43, 190, 162, 0, 15, 44, 29, 43, 29, 46, 79, 132, 3, 1, 167, 255, 241, 177]
abbrev dktX4_copies_0 : List UInt8 := dkwX4_copies_0 ++ []
theorem dksX4_copies_0 : cX4_copies.data.toList.drop 0 = dktX4_copies_0 := by decide +kernel
theorem dX4_copies_0 : decode cX4_copies 0 = .ok (.iconst 0, 1) := dk_3 (dk_at dksX4_copies_0 0 rfl rfl)
theorem dX4_copies_1 : decode cX4_copies 1 = .ok (.istore_n 3, 1) := dk_62 (dk_at dksX4_copies_0 1 rfl rfl)
theorem dX4_copies_2 : decode cX4_copies 2 = .ok (.iload_n 3, 1) := dk_29 (dk_at dksX4_copies_0 2 rfl rfl)
theorem dX4_copies_3 : decode cX4_copies 3 = .ok (.aload_n 1, 1) := dk_43 (dk_at dksX4_copies_0 3 rfl rfl)
theorem dX4_copies_4 : decode cX4_copies 4 = .ok (.arraylength, 1) := dk_190 (dk_at dksX4_copies_0 4 rfl rfl)
theorem dX4_copies_5 : decode cX4_copies 5 = .ok (.if_icmp .ge 15, 3) := dk_162 0 15 (dk_at dksX4_copies_0 5 rfl rfl)
theorem dX4_copies_8 : decode cX4_copies 8 = .ok (.aload_n 2, 1) := dk_44 (dk_at dksX4_copies_0 8 rfl rfl)
theorem dX4_copies_9 : decode cX4_copies 9 = .ok (.iload_n 3, 1) := dk_29 (dk_at dksX4_copies_0 9 rfl rfl)
theorem dX4_copies_10 : decode cX4_copies 10 = .ok (.aload_n 1, 1) := dk_43 (dk_at dksX4_copies_0 10 rfl rfl)
theorem dX4_copies_11 : decode cX4_copies 11 = .ok (.iload_n 3, 1) := dk_29 (dk_at dksX4_copies_0 11 rfl rfl)
theorem dX4_copies_12 : decode cX4_copies 12 = .ok (.iaload, 1) := dk_46 (dk_at dksX4_copies_0 12 rfl rfl)
theorem dX4_copies_13 : decode cX4_copies 13 = .ok (.iastore, 1) := dk_79 (dk_at dksX4_copies_0 13 rfl rfl)
theorem dX4_copies_14 : decode cX4_copies 14 = .ok (.iinc 3 1, 3) := dk_132 3 1 (dk_at dksX4_copies_0 14 rfl rfl)
theorem dX4_copies_17 : decode cX4_copies 17 = .ok (.goto (-15), 3) := dk_167 255 241 (dk_at dksX4_copies_0 17 rfl rfl)
theorem dX4_copies_20 : decode cX4_copies 20 = .ok (.return_, 1) := dk_177 (dk_at dksX4_copies_0 20 rfl rfl)
abbrev cX4_fault : ByteArray := prog_14_method_37_code
def yX4_fault : MethodName := ⟨RX4, "fault", "()I"⟩
def dkwX4_fault_0 : List UInt8 := [42, 3, 181, 0, 120, 42, 180, 0, 47, 172]
abbrev dktX4_fault_0 : List UInt8 := dkwX4_fault_0 ++ []
theorem dksX4_fault_0 : cX4_fault.data.toList.drop 0 = dktX4_fault_0 := by decide +kernel
theorem dX4_fault_0 : decode cX4_fault 0 = .ok (.aload_n 0, 1) := dk_42 (dk_at dksX4_fault_0 0 rfl rfl)
theorem dX4_fault_1 : decode cX4_fault 1 = .ok (.iconst 0, 1) := dk_3 (dk_at dksX4_fault_0 1 rfl rfl)
theorem dX4_fault_2 : decode cX4_fault 2 = .ok (.putfield 120, 3) := dk_181 0 120 (dk_at dksX4_fault_0 2 rfl rfl)
theorem dX4_fault_5 : decode cX4_fault 5 = .ok (.aload_n 0, 1) := dk_42 (dk_at dksX4_fault_0 5 rfl rfl)
theorem dX4_fault_6 : decode cX4_fault 6 = .ok (.getfield 47, 3) := dk_180 0 47 (dk_at dksX4_fault_0 6 rfl rfl)
theorem dX4_fault_9 : decode cX4_fault 9 = .ok (.ireturn, 1) := dk_172 (dk_at dksX4_fault_0 9 rfl rfl)
abbrev cX4_undo : ByteArray := prog_14_method_40_code
def yX4_undo : MethodName := ⟨RX4, "undo", "()I"⟩
def dkwX4_undo_2 : List UInt8 := [27, 96, 46, 79, 132, 1, 1, 167, 255, 227, 42, 180, 1, 31, 172]
abbrev dktX4_undo_2 : List UInt8 := dkwX4_undo_2 ++ []
def dkwX4_undo_1 : List UInt8 := [3, 60, 27, 16, 16, 162, 0, 29, 42, 180, 0, 90, 27, 42, 180, 0, 96, 16, 16, 42, 180, 1, 31, 104]
abbrev dktX4_undo_1 : List UInt8 := dkwX4_undo_1 ++ dktX4_undo_2
def dkwX4_undo_0 : List UInt8 := [42, 3, 181, 0, 120, 42, 180, 1, 31, 154, 0, 5, 2, 172, 42, 89, 180, 1, 31, 4, 100, 181, 1, 31]
abbrev dktX4_undo_0 : List UInt8 := dkwX4_undo_0 ++ dktX4_undo_1
theorem dksX4_undo_0 : cX4_undo.data.toList.drop 0 = dktX4_undo_0 := by decide +kernel
theorem dksX4_undo_1 : cX4_undo.data.toList.drop 24 = dktX4_undo_1 := dk_seg dksX4_undo_0 24 rfl rfl
theorem dksX4_undo_2 : cX4_undo.data.toList.drop 48 = dktX4_undo_2 := dk_seg dksX4_undo_1 24 rfl rfl
theorem dX4_undo_0 : decode cX4_undo 0 = .ok (.aload_n 0, 1) := dk_42 (dk_at dksX4_undo_0 0 rfl rfl)
theorem dX4_undo_1 : decode cX4_undo 1 = .ok (.iconst 0, 1) := dk_3 (dk_at dksX4_undo_0 1 rfl rfl)
theorem dX4_undo_2 : decode cX4_undo 2 = .ok (.putfield 120, 3) := dk_181 0 120 (dk_at dksX4_undo_0 2 rfl rfl)
theorem dX4_undo_5 : decode cX4_undo 5 = .ok (.aload_n 0, 1) := dk_42 (dk_at dksX4_undo_0 5 rfl rfl)
theorem dX4_undo_6 : decode cX4_undo 6 = .ok (.getfield 287, 3) := dk_180 1 31 (dk_at dksX4_undo_0 6 rfl rfl)
theorem dX4_undo_9 : decode cX4_undo 9 = .ok (.ifCond .ne 5, 3) := dk_154 0 5 (dk_at dksX4_undo_0 9 rfl rfl)
theorem dX4_undo_12 : decode cX4_undo 12 = .ok (.iconst (-1), 1) := dk_2 (dk_at dksX4_undo_0 12 rfl rfl)
theorem dX4_undo_13 : decode cX4_undo 13 = .ok (.ireturn, 1) := dk_172 (dk_at dksX4_undo_0 13 rfl rfl)
theorem dX4_undo_14 : decode cX4_undo 14 = .ok (.aload_n 0, 1) := dk_42 (dk_at dksX4_undo_0 14 rfl rfl)
theorem dX4_undo_15 : decode cX4_undo 15 = .ok (.dup, 1) := dk_89 (dk_at dksX4_undo_0 15 rfl rfl)
theorem dX4_undo_16 : decode cX4_undo 16 = .ok (.getfield 287, 3) := dk_180 1 31 (dk_at dksX4_undo_0 16 rfl rfl)
theorem dX4_undo_19 : decode cX4_undo 19 = .ok (.iconst 1, 1) := dk_4 (dk_at dksX4_undo_0 19 rfl rfl)
theorem dX4_undo_20 : decode cX4_undo 20 = .ok (.isub, 1) := dk_100 (dk_at dksX4_undo_0 20 rfl rfl)
theorem dX4_undo_21 : decode cX4_undo 21 = .ok (.putfield 287, 3) := dk_181 1 31 (dk_at dksX4_undo_0 21 rfl rfl)
theorem dX4_undo_24 : decode cX4_undo 24 = .ok (.iconst 0, 1) := dk_3 (dk_at dksX4_undo_1 0 rfl rfl)
theorem dX4_undo_25 : decode cX4_undo 25 = .ok (.istore_n 1, 1) := dk_60 (dk_at dksX4_undo_1 1 rfl rfl)
theorem dX4_undo_26 : decode cX4_undo 26 = .ok (.iload_n 1, 1) := dk_27 (dk_at dksX4_undo_1 2 rfl rfl)
theorem dX4_undo_27 : decode cX4_undo 27 = .ok (.bipush 16, 2) := dk_16 16 (dk_at dksX4_undo_1 3 rfl rfl)
theorem dX4_undo_29 : decode cX4_undo 29 = .ok (.if_icmp .ge 29, 3) := dk_162 0 29 (dk_at dksX4_undo_1 5 rfl rfl)
theorem dX4_undo_32 : decode cX4_undo 32 = .ok (.aload_n 0, 1) := dk_42 (dk_at dksX4_undo_1 8 rfl rfl)
theorem dX4_undo_33 : decode cX4_undo 33 = .ok (.getfield 90, 3) := dk_180 0 90 (dk_at dksX4_undo_1 9 rfl rfl)
theorem dX4_undo_36 : decode cX4_undo 36 = .ok (.iload_n 1, 1) := dk_27 (dk_at dksX4_undo_1 12 rfl rfl)
theorem dX4_undo_37 : decode cX4_undo 37 = .ok (.aload_n 0, 1) := dk_42 (dk_at dksX4_undo_1 13 rfl rfl)
theorem dX4_undo_38 : decode cX4_undo 38 = .ok (.getfield 96, 3) := dk_180 0 96 (dk_at dksX4_undo_1 14 rfl rfl)
theorem dX4_undo_41 : decode cX4_undo 41 = .ok (.bipush 16, 2) := dk_16 16 (dk_at dksX4_undo_1 17 rfl rfl)
theorem dX4_undo_43 : decode cX4_undo 43 = .ok (.aload_n 0, 1) := dk_42 (dk_at dksX4_undo_1 19 rfl rfl)
theorem dX4_undo_44 : decode cX4_undo 44 = .ok (.getfield 287, 3) := dk_180 1 31 (dk_at dksX4_undo_1 20 rfl rfl)
theorem dX4_undo_47 : decode cX4_undo 47 = .ok (.imul, 1) := dk_104 (dk_at dksX4_undo_1 23 rfl rfl)
theorem dX4_undo_48 : decode cX4_undo 48 = .ok (.iload_n 1, 1) := dk_27 (dk_at dksX4_undo_2 0 rfl rfl)
theorem dX4_undo_49 : decode cX4_undo 49 = .ok (.iadd, 1) := dk_96 (dk_at dksX4_undo_2 1 rfl rfl)
theorem dX4_undo_50 : decode cX4_undo 50 = .ok (.iaload, 1) := dk_46 (dk_at dksX4_undo_2 2 rfl rfl)
theorem dX4_undo_51 : decode cX4_undo 51 = .ok (.iastore, 1) := dk_79 (dk_at dksX4_undo_2 3 rfl rfl)
theorem dX4_undo_52 : decode cX4_undo 52 = .ok (.iinc 1 1, 3) := dk_132 1 1 (dk_at dksX4_undo_2 4 rfl rfl)
theorem dX4_undo_55 : decode cX4_undo 55 = .ok (.goto (-29), 3) := dk_167 255 227 (dk_at dksX4_undo_2 7 rfl rfl)
theorem dX4_undo_58 : decode cX4_undo 58 = .ok (.aload_n 0, 1) := dk_42 (dk_at dksX4_undo_2 10 rfl rfl)
theorem dX4_undo_59 : decode cX4_undo 59 = .ok (.getfield 287, 3) := dk_180 1 31 (dk_at dksX4_undo_2 11 rfl rfl)
theorem dX4_undo_62 : decode cX4_undo 62 = .ok (.ireturn, 1) := dk_172 (dk_at dksX4_undo_2 14 rfl rfl)
abbrev cX4_count : ByteArray := prog_14_method_48_code
def yX4_count : MethodName := ⟨RX4, "count", "(I)I"⟩
def dkwX4_count_6 : List UInt8 := [16, 12, 100, 46, 172]
abbrev dktX4_count_6 : List UInt8 := dkwX4_count_6 ++ []
def dkwX4_count_5 : List UInt8 := [182, 1, 65, 172, 42, 180, 1, 31, 172, 42, 180, 1, 34, 172, 42, 180, 0, 123, 172, 42, 180, 0, 50, 27]
abbrev dktX4_count_5 : List UInt8 := dkwX4_count_5 ++ dktX4_count_6
def dkwX4_count_4 : List UInt8 := [182, 1, 61, 172, 42, 42, 180, 0, 90, 5, 182, 1, 61, 172, 42, 42, 42, 180, 0, 90, 3, 182, 1, 61]
abbrev dktX4_count_4 : List UInt8 := dkwX4_count_4 ++ dktX4_count_5
def dkwX4_count_3 : List UInt8 := [180, 0, 90, 16, 15, 46, 172, 42, 42, 180, 0, 90, 3, 182, 1, 61, 172, 42, 42, 180, 0, 90, 4]
abbrev dktX4_count_3 : List UInt8 := dkwX4_count_3 ++ dktX4_count_4
def dkwX4_count_2 : List UInt8 := [42, 180, 1, 21, 172, 42, 180, 1, 24, 172, 42, 180, 0, 7, 172, 42, 180, 0, 90, 16, 14, 46, 172, 42]
abbrev dktX4_count_2 : List UInt8 := dkwX4_count_2 ++ dktX4_count_3
def dkwX4_count_1 : List UInt8 := [170, 0, 0, 0, 151, 0, 0, 0, 0, 0, 0, 0, 11, 0, 0, 0, 61, 0, 0, 0, 66, 0, 0, 0, 71, 0, 0, 0, 76, 0, 0, 0, 84, 0, 0, 0, 92, 0, 0, 0, 102, 0, 0, 0, 112, 0, 0, 0, 122, 0, 0, 0, 136, 0, 0, 0, 141, 0, 0, 0, 146]
abbrev dktX4_count_1 : List UInt8 := dkwX4_count_1 ++ dktX4_count_2
def dkwX4_count_0 : List UInt8 := [42, 3, 181, 0, 120, 42, 27, 3, 16, 14, 184, 1, 41, 4, 182, 1, 14, 154, 0, 5, 3, 172, 27]
abbrev dktX4_count_0 : List UInt8 := dkwX4_count_0 ++ dktX4_count_1
theorem dksX4_count_0 : cX4_count.data.toList.drop 0 = dktX4_count_0 := by decide +kernel
theorem dksX4_count_1 : cX4_count.data.toList.drop 23 = dktX4_count_1 := dk_seg dksX4_count_0 23 rfl rfl
theorem dksX4_count_2 : cX4_count.data.toList.drop 84 = dktX4_count_2 := dk_seg dksX4_count_1 61 rfl rfl
theorem dksX4_count_3 : cX4_count.data.toList.drop 108 = dktX4_count_3 := dk_seg dksX4_count_2 24 rfl rfl
theorem dksX4_count_4 : cX4_count.data.toList.drop 131 = dktX4_count_4 := dk_seg dksX4_count_3 23 rfl rfl
theorem dksX4_count_5 : cX4_count.data.toList.drop 155 = dktX4_count_5 := dk_seg dksX4_count_4 24 rfl rfl
theorem dksX4_count_6 : cX4_count.data.toList.drop 179 = dktX4_count_6 := dk_seg dksX4_count_5 24 rfl rfl
theorem dX4_count_0 : decode cX4_count 0 = .ok (.aload_n 0, 1) := dk_42 (dk_at dksX4_count_0 0 rfl rfl)
theorem dX4_count_1 : decode cX4_count 1 = .ok (.iconst 0, 1) := dk_3 (dk_at dksX4_count_0 1 rfl rfl)
theorem dX4_count_2 : decode cX4_count 2 = .ok (.putfield 120, 3) := dk_181 0 120 (dk_at dksX4_count_0 2 rfl rfl)
theorem dX4_count_5 : decode cX4_count 5 = .ok (.aload_n 0, 1) := dk_42 (dk_at dksX4_count_0 5 rfl rfl)
theorem dX4_count_6 : decode cX4_count 6 = .ok (.iload_n 1, 1) := dk_27 (dk_at dksX4_count_0 6 rfl rfl)
theorem dX4_count_7 : decode cX4_count 7 = .ok (.iconst 0, 1) := dk_3 (dk_at dksX4_count_0 7 rfl rfl)
theorem dX4_count_8 : decode cX4_count 8 = .ok (.bipush 14, 2) := dk_16 14 (dk_at dksX4_count_0 8 rfl rfl)
theorem dX4_count_10 : decode cX4_count 10 = .ok (.invokestatic 297, 3) := dk_184 1 41 (dk_at dksX4_count_0 10 rfl rfl)
theorem dX4_count_13 : decode cX4_count 13 = .ok (.iconst 1, 1) := dk_4 (dk_at dksX4_count_0 13 rfl rfl)
theorem dX4_count_14 : decode cX4_count 14 = .ok (.invokevirtual 270, 3) := dk_182 1 14 (dk_at dksX4_count_0 14 rfl rfl)
theorem dX4_count_17 : decode cX4_count 17 = .ok (.ifCond .ne 5, 3) := dk_154 0 5 (dk_at dksX4_count_0 17 rfl rfl)
theorem dX4_count_20 : decode cX4_count 20 = .ok (.iconst 0, 1) := dk_3 (dk_at dksX4_count_0 20 rfl rfl)
theorem dX4_count_21 : decode cX4_count 21 = .ok (.ireturn, 1) := dk_172 (dk_at dksX4_count_0 21 rfl rfl)
theorem dX4_count_22 : decode cX4_count 22 = .ok (.iload_n 1, 1) := dk_27 (dk_at dksX4_count_0 22 rfl rfl)
theorem dX4_count_23 : decode cX4_count 23 = .ok (.tableswitch 151 0 11 #[61, 66, 71, 76, 84, 92, 102, 112, 122, 136, 141, 146], 61) := by decide +kernel
theorem dX4_count_84 : decode cX4_count 84 = .ok (.aload_n 0, 1) := dk_42 (dk_at dksX4_count_2 0 rfl rfl)
theorem dX4_count_85 : decode cX4_count 85 = .ok (.getfield 277, 3) := dk_180 1 21 (dk_at dksX4_count_2 1 rfl rfl)
theorem dX4_count_88 : decode cX4_count 88 = .ok (.ireturn, 1) := dk_172 (dk_at dksX4_count_2 4 rfl rfl)
theorem dX4_count_89 : decode cX4_count 89 = .ok (.aload_n 0, 1) := dk_42 (dk_at dksX4_count_2 5 rfl rfl)
theorem dX4_count_90 : decode cX4_count 90 = .ok (.getfield 280, 3) := dk_180 1 24 (dk_at dksX4_count_2 6 rfl rfl)
theorem dX4_count_93 : decode cX4_count 93 = .ok (.ireturn, 1) := dk_172 (dk_at dksX4_count_2 9 rfl rfl)
theorem dX4_count_94 : decode cX4_count 94 = .ok (.aload_n 0, 1) := dk_42 (dk_at dksX4_count_2 10 rfl rfl)
theorem dX4_count_95 : decode cX4_count 95 = .ok (.getfield 7, 3) := dk_180 0 7 (dk_at dksX4_count_2 11 rfl rfl)
theorem dX4_count_98 : decode cX4_count 98 = .ok (.ireturn, 1) := dk_172 (dk_at dksX4_count_2 14 rfl rfl)
theorem dX4_count_99 : decode cX4_count 99 = .ok (.aload_n 0, 1) := dk_42 (dk_at dksX4_count_2 15 rfl rfl)
theorem dX4_count_100 : decode cX4_count 100 = .ok (.getfield 90, 3) := dk_180 0 90 (dk_at dksX4_count_2 16 rfl rfl)
theorem dX4_count_103 : decode cX4_count 103 = .ok (.bipush 14, 2) := dk_16 14 (dk_at dksX4_count_2 19 rfl rfl)
theorem dX4_count_105 : decode cX4_count 105 = .ok (.iaload, 1) := dk_46 (dk_at dksX4_count_2 21 rfl rfl)
theorem dX4_count_106 : decode cX4_count 106 = .ok (.ireturn, 1) := dk_172 (dk_at dksX4_count_2 22 rfl rfl)
theorem dX4_count_107 : decode cX4_count 107 = .ok (.aload_n 0, 1) := dk_42 (dk_at dksX4_count_2 23 rfl rfl)
theorem dX4_count_108 : decode cX4_count 108 = .ok (.getfield 90, 3) := dk_180 0 90 (dk_at dksX4_count_3 0 rfl rfl)
theorem dX4_count_111 : decode cX4_count 111 = .ok (.bipush 15, 2) := dk_16 15 (dk_at dksX4_count_3 3 rfl rfl)
theorem dX4_count_113 : decode cX4_count 113 = .ok (.iaload, 1) := dk_46 (dk_at dksX4_count_3 5 rfl rfl)
theorem dX4_count_114 : decode cX4_count 114 = .ok (.ireturn, 1) := dk_172 (dk_at dksX4_count_3 6 rfl rfl)
theorem dX4_count_115 : decode cX4_count 115 = .ok (.aload_n 0, 1) := dk_42 (dk_at dksX4_count_3 7 rfl rfl)
theorem dX4_count_116 : decode cX4_count 116 = .ok (.aload_n 0, 1) := dk_42 (dk_at dksX4_count_3 8 rfl rfl)
theorem dX4_count_117 : decode cX4_count 117 = .ok (.getfield 90, 3) := dk_180 0 90 (dk_at dksX4_count_3 9 rfl rfl)
theorem dX4_count_120 : decode cX4_count 120 = .ok (.iconst 0, 1) := dk_3 (dk_at dksX4_count_3 12 rfl rfl)
theorem dX4_count_121 : decode cX4_count 121 = .ok (.invokevirtual 317, 3) := dk_182 1 61 (dk_at dksX4_count_3 13 rfl rfl)
theorem dX4_count_124 : decode cX4_count 124 = .ok (.ireturn, 1) := dk_172 (dk_at dksX4_count_3 16 rfl rfl)
theorem dX4_count_125 : decode cX4_count 125 = .ok (.aload_n 0, 1) := dk_42 (dk_at dksX4_count_3 17 rfl rfl)
theorem dX4_count_126 : decode cX4_count 126 = .ok (.aload_n 0, 1) := dk_42 (dk_at dksX4_count_3 18 rfl rfl)
theorem dX4_count_127 : decode cX4_count 127 = .ok (.getfield 90, 3) := dk_180 0 90 (dk_at dksX4_count_3 19 rfl rfl)
theorem dX4_count_130 : decode cX4_count 130 = .ok (.iconst 1, 1) := dk_4 (dk_at dksX4_count_3 22 rfl rfl)
theorem dX4_count_131 : decode cX4_count 131 = .ok (.invokevirtual 317, 3) := dk_182 1 61 (dk_at dksX4_count_4 0 rfl rfl)
theorem dX4_count_134 : decode cX4_count 134 = .ok (.ireturn, 1) := dk_172 (dk_at dksX4_count_4 3 rfl rfl)
theorem dX4_count_135 : decode cX4_count 135 = .ok (.aload_n 0, 1) := dk_42 (dk_at dksX4_count_4 4 rfl rfl)
theorem dX4_count_136 : decode cX4_count 136 = .ok (.aload_n 0, 1) := dk_42 (dk_at dksX4_count_4 5 rfl rfl)
theorem dX4_count_137 : decode cX4_count 137 = .ok (.getfield 90, 3) := dk_180 0 90 (dk_at dksX4_count_4 6 rfl rfl)
theorem dX4_count_140 : decode cX4_count 140 = .ok (.iconst 2, 1) := dk_5 (dk_at dksX4_count_4 9 rfl rfl)
theorem dX4_count_141 : decode cX4_count 141 = .ok (.invokevirtual 317, 3) := dk_182 1 61 (dk_at dksX4_count_4 10 rfl rfl)
theorem dX4_count_144 : decode cX4_count 144 = .ok (.ireturn, 1) := dk_172 (dk_at dksX4_count_4 13 rfl rfl)
theorem dX4_count_145 : decode cX4_count 145 = .ok (.aload_n 0, 1) := dk_42 (dk_at dksX4_count_4 14 rfl rfl)
theorem dX4_count_146 : decode cX4_count 146 = .ok (.aload_n 0, 1) := dk_42 (dk_at dksX4_count_4 15 rfl rfl)
theorem dX4_count_147 : decode cX4_count 147 = .ok (.aload_n 0, 1) := dk_42 (dk_at dksX4_count_4 16 rfl rfl)
theorem dX4_count_148 : decode cX4_count 148 = .ok (.getfield 90, 3) := dk_180 0 90 (dk_at dksX4_count_4 17 rfl rfl)
theorem dX4_count_151 : decode cX4_count 151 = .ok (.iconst 0, 1) := dk_3 (dk_at dksX4_count_4 20 rfl rfl)
theorem dX4_count_152 : decode cX4_count 152 = .ok (.invokevirtual 317, 3) := dk_182 1 61 (dk_at dksX4_count_4 21 rfl rfl)
theorem dX4_count_155 : decode cX4_count 155 = .ok (.invokevirtual 321, 3) := dk_182 1 65 (dk_at dksX4_count_5 0 rfl rfl)
theorem dX4_count_158 : decode cX4_count 158 = .ok (.ireturn, 1) := dk_172 (dk_at dksX4_count_5 3 rfl rfl)
theorem dX4_count_159 : decode cX4_count 159 = .ok (.aload_n 0, 1) := dk_42 (dk_at dksX4_count_5 4 rfl rfl)
theorem dX4_count_160 : decode cX4_count 160 = .ok (.getfield 287, 3) := dk_180 1 31 (dk_at dksX4_count_5 5 rfl rfl)
theorem dX4_count_163 : decode cX4_count 163 = .ok (.ireturn, 1) := dk_172 (dk_at dksX4_count_5 8 rfl rfl)
theorem dX4_count_164 : decode cX4_count 164 = .ok (.aload_n 0, 1) := dk_42 (dk_at dksX4_count_5 9 rfl rfl)
theorem dX4_count_165 : decode cX4_count 165 = .ok (.getfield 290, 3) := dk_180 1 34 (dk_at dksX4_count_5 10 rfl rfl)
theorem dX4_count_168 : decode cX4_count 168 = .ok (.ireturn, 1) := dk_172 (dk_at dksX4_count_5 13 rfl rfl)
theorem dX4_count_169 : decode cX4_count 169 = .ok (.aload_n 0, 1) := dk_42 (dk_at dksX4_count_5 14 rfl rfl)
theorem dX4_count_170 : decode cX4_count 170 = .ok (.getfield 123, 3) := dk_180 0 123 (dk_at dksX4_count_5 15 rfl rfl)
theorem dX4_count_173 : decode cX4_count 173 = .ok (.ireturn, 1) := dk_172 (dk_at dksX4_count_5 18 rfl rfl)
theorem dX4_count_174 : decode cX4_count 174 = .ok (.aload_n 0, 1) := dk_42 (dk_at dksX4_count_5 19 rfl rfl)
theorem dX4_count_175 : decode cX4_count 175 = .ok (.getfield 50, 3) := dk_180 0 50 (dk_at dksX4_count_5 20 rfl rfl)
theorem dX4_count_178 : decode cX4_count 178 = .ok (.iload_n 1, 1) := dk_27 (dk_at dksX4_count_5 23 rfl rfl)
theorem dX4_count_179 : decode cX4_count 179 = .ok (.bipush 12, 2) := dk_16 12 (dk_at dksX4_count_6 0 rfl rfl)
theorem dX4_count_181 : decode cX4_count 181 = .ok (.isub, 1) := dk_100 (dk_at dksX4_count_6 2 rfl rfl)
theorem dX4_count_182 : decode cX4_count 182 = .ok (.iaload, 1) := dk_46 (dk_at dksX4_count_6 3 rfl rfl)
theorem dX4_count_183 : decode cX4_count 183 = .ok (.ireturn, 1) := dk_172 (dk_at dksX4_count_6 4 rfl rfl)
abbrev cX4_within : ByteArray := prog_14_method_4_code
def yX4_within : MethodName := ⟨RX4, "within", "(III)Z"⟩
def dkwX4_within_0 : List UInt8 := [26, 27, 161, 0, 12, 26, 28, 163, 0, 7, 4, 167, 0, 4, 3, 172]
abbrev dktX4_within_0 : List UInt8 := dkwX4_within_0 ++ []
theorem dksX4_within_0 : cX4_within.data.toList.drop 0 = dktX4_within_0 := by decide +kernel
theorem dX4_within_0 : decode cX4_within 0 = .ok (.iload_n 0, 1) := dk_26 (dk_at dksX4_within_0 0 rfl rfl)
theorem dX4_within_1 : decode cX4_within 1 = .ok (.iload_n 1, 1) := dk_27 (dk_at dksX4_within_0 1 rfl rfl)
theorem dX4_within_2 : decode cX4_within 2 = .ok (.if_icmp .lt 12, 3) := dk_161 0 12 (dk_at dksX4_within_0 2 rfl rfl)
theorem dX4_within_5 : decode cX4_within 5 = .ok (.iload_n 0, 1) := dk_26 (dk_at dksX4_within_0 5 rfl rfl)
theorem dX4_within_6 : decode cX4_within 6 = .ok (.iload_n 2, 1) := dk_28 (dk_at dksX4_within_0 6 rfl rfl)
theorem dX4_within_7 : decode cX4_within 7 = .ok (.if_icmp .gt 7, 3) := dk_163 0 7 (dk_at dksX4_within_0 7 rfl rfl)
theorem dX4_within_10 : decode cX4_within 10 = .ok (.iconst 1, 1) := dk_4 (dk_at dksX4_within_0 10 rfl rfl)
theorem dX4_within_11 : decode cX4_within 11 = .ok (.goto 4, 3) := dk_167 0 4 (dk_at dksX4_within_0 11 rfl rfl)
theorem dX4_within_14 : decode cX4_within 14 = .ok (.iconst 0, 1) := dk_3 (dk_at dksX4_within_0 14 rfl rfl)
theorem dX4_within_15 : decode cX4_within 15 = .ok (.ireturn, 1) := dk_172 (dk_at dksX4_within_0 15 rfl rfl)
abbrev cX4_areSo : ByteArray := prog_14_method_41_code
def yX4_areSo : MethodName := ⟨RX4, "areSo", "([II)I"⟩
def dkwX4_areSo_1 : List UInt8 := [21, 4, 120, 167, 0, 4, 3, 128, 62, 132, 4, 1, 167, 255, 225, 29, 172]
abbrev dktX4_areSo_1 : List UInt8 := dkwX4_areSo_1 ++ []
def dkwX4_areSo_0 : List UInt8 := [3, 62, 3, 54, 4, 21, 4, 42, 180, 1, 21, 162, 0, 28, 29, 43, 21, 4, 46, 28, 160, 0, 10, 4]
abbrev dktX4_areSo_0 : List UInt8 := dkwX4_areSo_0 ++ dktX4_areSo_1
theorem dksX4_areSo_0 : cX4_areSo.data.toList.drop 0 = dktX4_areSo_0 := by decide +kernel
theorem dksX4_areSo_1 : cX4_areSo.data.toList.drop 24 = dktX4_areSo_1 := dk_seg dksX4_areSo_0 24 rfl rfl
theorem dX4_areSo_0 : decode cX4_areSo 0 = .ok (.iconst 0, 1) := dk_3 (dk_at dksX4_areSo_0 0 rfl rfl)
theorem dX4_areSo_1 : decode cX4_areSo 1 = .ok (.istore_n 3, 1) := dk_62 (dk_at dksX4_areSo_0 1 rfl rfl)
theorem dX4_areSo_2 : decode cX4_areSo 2 = .ok (.iconst 0, 1) := dk_3 (dk_at dksX4_areSo_0 2 rfl rfl)
theorem dX4_areSo_3 : decode cX4_areSo 3 = .ok (.istore 4, 2) := dk_54 4 (dk_at dksX4_areSo_0 3 rfl rfl)
theorem dX4_areSo_5 : decode cX4_areSo 5 = .ok (.iload 4, 2) := dk_21 4 (dk_at dksX4_areSo_0 5 rfl rfl)
theorem dX4_areSo_7 : decode cX4_areSo 7 = .ok (.aload_n 0, 1) := dk_42 (dk_at dksX4_areSo_0 7 rfl rfl)
theorem dX4_areSo_8 : decode cX4_areSo 8 = .ok (.getfield 277, 3) := dk_180 1 21 (dk_at dksX4_areSo_0 8 rfl rfl)
theorem dX4_areSo_11 : decode cX4_areSo 11 = .ok (.if_icmp .ge 28, 3) := dk_162 0 28 (dk_at dksX4_areSo_0 11 rfl rfl)
theorem dX4_areSo_14 : decode cX4_areSo 14 = .ok (.iload_n 3, 1) := dk_29 (dk_at dksX4_areSo_0 14 rfl rfl)
theorem dX4_areSo_15 : decode cX4_areSo 15 = .ok (.aload_n 1, 1) := dk_43 (dk_at dksX4_areSo_0 15 rfl rfl)
theorem dX4_areSo_16 : decode cX4_areSo 16 = .ok (.iload 4, 2) := dk_21 4 (dk_at dksX4_areSo_0 16 rfl rfl)
theorem dX4_areSo_18 : decode cX4_areSo 18 = .ok (.iaload, 1) := dk_46 (dk_at dksX4_areSo_0 18 rfl rfl)
theorem dX4_areSo_19 : decode cX4_areSo 19 = .ok (.iload_n 2, 1) := dk_28 (dk_at dksX4_areSo_0 19 rfl rfl)
theorem dX4_areSo_20 : decode cX4_areSo 20 = .ok (.if_icmp .ne 10, 3) := dk_160 0 10 (dk_at dksX4_areSo_0 20 rfl rfl)
theorem dX4_areSo_23 : decode cX4_areSo 23 = .ok (.iconst 1, 1) := dk_4 (dk_at dksX4_areSo_0 23 rfl rfl)
theorem dX4_areSo_24 : decode cX4_areSo 24 = .ok (.iload 4, 2) := dk_21 4 (dk_at dksX4_areSo_1 0 rfl rfl)
theorem dX4_areSo_26 : decode cX4_areSo 26 = .ok (.ishl, 1) := dk_120 (dk_at dksX4_areSo_1 2 rfl rfl)
theorem dX4_areSo_27 : decode cX4_areSo 27 = .ok (.goto 4, 3) := dk_167 0 4 (dk_at dksX4_areSo_1 3 rfl rfl)
theorem dX4_areSo_30 : decode cX4_areSo 30 = .ok (.iconst 0, 1) := dk_3 (dk_at dksX4_areSo_1 6 rfl rfl)
theorem dX4_areSo_31 : decode cX4_areSo 31 = .ok (.ior, 1) := dk_128 (dk_at dksX4_areSo_1 7 rfl rfl)
theorem dX4_areSo_32 : decode cX4_areSo 32 = .ok (.istore_n 3, 1) := dk_62 (dk_at dksX4_areSo_1 8 rfl rfl)
theorem dX4_areSo_33 : decode cX4_areSo 33 = .ok (.iinc 4 1, 3) := dk_132 4 1 (dk_at dksX4_areSo_1 9 rfl rfl)
theorem dX4_areSo_36 : decode cX4_areSo 36 = .ok (.goto (-31), 3) := dk_167 255 225 (dk_at dksX4_areSo_1 12 rfl rfl)
theorem dX4_areSo_39 : decode cX4_areSo 39 = .ok (.iload_n 3, 1) := dk_29 (dk_at dksX4_areSo_1 15 rfl rfl)
theorem dX4_areSo_40 : decode cX4_areSo 40 = .ok (.ireturn, 1) := dk_172 (dk_at dksX4_areSo_1 16 rfl rfl)
abbrev cX4_sungBy : ByteArray := prog_14_method_47_code
def yX4_sungBy : MethodName := ⟨RX4, "sungBy", "(I)I"⟩
def dkwX4_sungBy_1 : List UInt8 := [29, 120, 167, 0, 4, 3, 128, 61, 132, 3, 1, 167, 255, 225, 28, 172]
abbrev dktX4_sungBy_1 : List UInt8 := dkwX4_sungBy_1 ++ []
def dkwX4_sungBy_0 : List UInt8 := [3, 61, 3, 62, 29, 42, 180, 1, 24, 162, 0, 29, 28, 42, 27, 29, 3, 182, 1, 58, 153, 0, 9, 4]
abbrev dktX4_sungBy_0 : List UInt8 := dkwX4_sungBy_0 ++ dktX4_sungBy_1
theorem dksX4_sungBy_0 : cX4_sungBy.data.toList.drop 0 = dktX4_sungBy_0 := by decide +kernel
theorem dksX4_sungBy_1 : cX4_sungBy.data.toList.drop 24 = dktX4_sungBy_1 := dk_seg dksX4_sungBy_0 24 rfl rfl
theorem dX4_sungBy_0 : decode cX4_sungBy 0 = .ok (.iconst 0, 1) := dk_3 (dk_at dksX4_sungBy_0 0 rfl rfl)
theorem dX4_sungBy_1 : decode cX4_sungBy 1 = .ok (.istore_n 2, 1) := dk_61 (dk_at dksX4_sungBy_0 1 rfl rfl)
theorem dX4_sungBy_2 : decode cX4_sungBy 2 = .ok (.iconst 0, 1) := dk_3 (dk_at dksX4_sungBy_0 2 rfl rfl)
theorem dX4_sungBy_3 : decode cX4_sungBy 3 = .ok (.istore_n 3, 1) := dk_62 (dk_at dksX4_sungBy_0 3 rfl rfl)
theorem dX4_sungBy_4 : decode cX4_sungBy 4 = .ok (.iload_n 3, 1) := dk_29 (dk_at dksX4_sungBy_0 4 rfl rfl)
theorem dX4_sungBy_5 : decode cX4_sungBy 5 = .ok (.aload_n 0, 1) := dk_42 (dk_at dksX4_sungBy_0 5 rfl rfl)
theorem dX4_sungBy_6 : decode cX4_sungBy 6 = .ok (.getfield 280, 3) := dk_180 1 24 (dk_at dksX4_sungBy_0 6 rfl rfl)
theorem dX4_sungBy_9 : decode cX4_sungBy 9 = .ok (.if_icmp .ge 29, 3) := dk_162 0 29 (dk_at dksX4_sungBy_0 9 rfl rfl)
theorem dX4_sungBy_12 : decode cX4_sungBy 12 = .ok (.iload_n 2, 1) := dk_28 (dk_at dksX4_sungBy_0 12 rfl rfl)
theorem dX4_sungBy_13 : decode cX4_sungBy 13 = .ok (.aload_n 0, 1) := dk_42 (dk_at dksX4_sungBy_0 13 rfl rfl)
theorem dX4_sungBy_14 : decode cX4_sungBy 14 = .ok (.iload_n 1, 1) := dk_27 (dk_at dksX4_sungBy_0 14 rfl rfl)
theorem dX4_sungBy_15 : decode cX4_sungBy 15 = .ok (.iload_n 3, 1) := dk_29 (dk_at dksX4_sungBy_0 15 rfl rfl)
theorem dX4_sungBy_16 : decode cX4_sungBy 16 = .ok (.iconst 0, 1) := dk_3 (dk_at dksX4_sungBy_0 16 rfl rfl)
theorem dX4_sungBy_17 : decode cX4_sungBy 17 = .ok (.invokevirtual 314, 3) := dk_182 1 58 (dk_at dksX4_sungBy_0 17 rfl rfl)
theorem dX4_sungBy_20 : decode cX4_sungBy 20 = .ok (.ifCond .eq 9, 3) := dk_153 0 9 (dk_at dksX4_sungBy_0 20 rfl rfl)
theorem dX4_sungBy_23 : decode cX4_sungBy 23 = .ok (.iconst 1, 1) := dk_4 (dk_at dksX4_sungBy_0 23 rfl rfl)
theorem dX4_sungBy_24 : decode cX4_sungBy 24 = .ok (.iload_n 3, 1) := dk_29 (dk_at dksX4_sungBy_1 0 rfl rfl)
theorem dX4_sungBy_25 : decode cX4_sungBy 25 = .ok (.ishl, 1) := dk_120 (dk_at dksX4_sungBy_1 1 rfl rfl)
theorem dX4_sungBy_26 : decode cX4_sungBy 26 = .ok (.goto 4, 3) := dk_167 0 4 (dk_at dksX4_sungBy_1 2 rfl rfl)
theorem dX4_sungBy_29 : decode cX4_sungBy 29 = .ok (.iconst 0, 1) := dk_3 (dk_at dksX4_sungBy_1 5 rfl rfl)
theorem dX4_sungBy_30 : decode cX4_sungBy 30 = .ok (.ior, 1) := dk_128 (dk_at dksX4_sungBy_1 6 rfl rfl)
theorem dX4_sungBy_31 : decode cX4_sungBy 31 = .ok (.istore_n 2, 1) := dk_61 (dk_at dksX4_sungBy_1 7 rfl rfl)
theorem dX4_sungBy_32 : decode cX4_sungBy 32 = .ok (.iinc 3 1, 3) := dk_132 3 1 (dk_at dksX4_sungBy_1 8 rfl rfl)
theorem dX4_sungBy_35 : decode cX4_sungBy 35 = .ok (.goto (-31), 3) := dk_167 255 225 (dk_at dksX4_sungBy_1 11 rfl rfl)
theorem dX4_sungBy_38 : decode cX4_sungBy 38 = .ok (.iload_n 2, 1) := dk_28 (dk_at dksX4_sungBy_1 14 rfl rfl)
theorem dX4_sungBy_39 : decode cX4_sungBy 39 = .ok (.ireturn, 1) := dk_172 (dk_at dksX4_sungBy_1 15 rfl rfl)
abbrev cX4_canBeSung : ByteArray := prog_14_method_46_code
def yX4_canBeSung : MethodName := ⟨RX4, "canBeSung", "(III)Z"⟩
def dkwX4_canBeSung_2 : List UInt8 := [3, 172, 132, 4, 1, 167, 255, 220, 4, 172]
abbrev dktX4_canBeSung_2 : List UInt8 := dkwX4_canBeSung_2 ++ []
def dkwX4_canBeSung_1 : List UInt8 := [162, 0, 32, 42, 27, 21, 4, 29, 182, 1, 51, 184, 1, 55, 42, 180, 0, 29, 21, 4, 46, 162, 0, 5]
abbrev dktX4_canBeSung_1 : List UInt8 := dkwX4_canBeSung_1 ++ dktX4_canBeSung_2
def dkwX4_canBeSung_0 : List UInt8 := [42, 28, 182, 1, 48, 154, 0, 5, 3, 172, 7, 28, 104, 54, 4, 21, 4, 7, 28, 104, 7, 96]
abbrev dktX4_canBeSung_0 : List UInt8 := dkwX4_canBeSung_0 ++ dktX4_canBeSung_1
theorem dksX4_canBeSung_0 : cX4_canBeSung.data.toList.drop 0 = dktX4_canBeSung_0 := by decide +kernel
theorem dksX4_canBeSung_1 : cX4_canBeSung.data.toList.drop 22 = dktX4_canBeSung_1 := dk_seg dksX4_canBeSung_0 22 rfl rfl
theorem dksX4_canBeSung_2 : cX4_canBeSung.data.toList.drop 46 = dktX4_canBeSung_2 := dk_seg dksX4_canBeSung_1 24 rfl rfl
theorem dX4_canBeSung_0 : decode cX4_canBeSung 0 = .ok (.aload_n 0, 1) := dk_42 (dk_at dksX4_canBeSung_0 0 rfl rfl)
theorem dX4_canBeSung_1 : decode cX4_canBeSung 1 = .ok (.iload_n 2, 1) := dk_28 (dk_at dksX4_canBeSung_0 1 rfl rfl)
theorem dX4_canBeSung_2 : decode cX4_canBeSung 2 = .ok (.invokevirtual 304, 3) := dk_182 1 48 (dk_at dksX4_canBeSung_0 2 rfl rfl)
theorem dX4_canBeSung_5 : decode cX4_canBeSung 5 = .ok (.ifCond .ne 5, 3) := dk_154 0 5 (dk_at dksX4_canBeSung_0 5 rfl rfl)
theorem dX4_canBeSung_8 : decode cX4_canBeSung 8 = .ok (.iconst 0, 1) := dk_3 (dk_at dksX4_canBeSung_0 8 rfl rfl)
theorem dX4_canBeSung_9 : decode cX4_canBeSung 9 = .ok (.ireturn, 1) := dk_172 (dk_at dksX4_canBeSung_0 9 rfl rfl)
theorem dX4_canBeSung_10 : decode cX4_canBeSung 10 = .ok (.iconst 4, 1) := dk_7 (dk_at dksX4_canBeSung_0 10 rfl rfl)
theorem dX4_canBeSung_11 : decode cX4_canBeSung 11 = .ok (.iload_n 2, 1) := dk_28 (dk_at dksX4_canBeSung_0 11 rfl rfl)
theorem dX4_canBeSung_12 : decode cX4_canBeSung 12 = .ok (.imul, 1) := dk_104 (dk_at dksX4_canBeSung_0 12 rfl rfl)
theorem dX4_canBeSung_13 : decode cX4_canBeSung 13 = .ok (.istore 4, 2) := dk_54 4 (dk_at dksX4_canBeSung_0 13 rfl rfl)
theorem dX4_canBeSung_15 : decode cX4_canBeSung 15 = .ok (.iload 4, 2) := dk_21 4 (dk_at dksX4_canBeSung_0 15 rfl rfl)
theorem dX4_canBeSung_17 : decode cX4_canBeSung 17 = .ok (.iconst 4, 1) := dk_7 (dk_at dksX4_canBeSung_0 17 rfl rfl)
theorem dX4_canBeSung_18 : decode cX4_canBeSung 18 = .ok (.iload_n 2, 1) := dk_28 (dk_at dksX4_canBeSung_0 18 rfl rfl)
theorem dX4_canBeSung_19 : decode cX4_canBeSung 19 = .ok (.imul, 1) := dk_104 (dk_at dksX4_canBeSung_0 19 rfl rfl)
theorem dX4_canBeSung_20 : decode cX4_canBeSung 20 = .ok (.iconst 4, 1) := dk_7 (dk_at dksX4_canBeSung_0 20 rfl rfl)
theorem dX4_canBeSung_21 : decode cX4_canBeSung 21 = .ok (.iadd, 1) := dk_96 (dk_at dksX4_canBeSung_0 21 rfl rfl)
theorem dX4_canBeSung_22 : decode cX4_canBeSung 22 = .ok (.if_icmp .ge 32, 3) := dk_162 0 32 (dk_at dksX4_canBeSung_1 0 rfl rfl)
theorem dX4_canBeSung_25 : decode cX4_canBeSung 25 = .ok (.aload_n 0, 1) := dk_42 (dk_at dksX4_canBeSung_1 3 rfl rfl)
theorem dX4_canBeSung_26 : decode cX4_canBeSung 26 = .ok (.iload_n 1, 1) := dk_27 (dk_at dksX4_canBeSung_1 4 rfl rfl)
theorem dX4_canBeSung_27 : decode cX4_canBeSung 27 = .ok (.iload 4, 2) := dk_21 4 (dk_at dksX4_canBeSung_1 5 rfl rfl)
theorem dX4_canBeSung_29 : decode cX4_canBeSung 29 = .ok (.iload_n 3, 1) := dk_29 (dk_at dksX4_canBeSung_1 7 rfl rfl)
theorem dX4_canBeSung_30 : decode cX4_canBeSung 30 = .ok (.invokevirtual 307, 3) := dk_182 1 51 (dk_at dksX4_canBeSung_1 8 rfl rfl)
theorem dX4_canBeSung_33 : decode cX4_canBeSung 33 = .ok (.invokestatic 311, 3) := dk_184 1 55 (dk_at dksX4_canBeSung_1 11 rfl rfl)
theorem dX4_canBeSung_36 : decode cX4_canBeSung 36 = .ok (.aload_n 0, 1) := dk_42 (dk_at dksX4_canBeSung_1 14 rfl rfl)
theorem dX4_canBeSung_37 : decode cX4_canBeSung 37 = .ok (.getfield 29, 3) := dk_180 0 29 (dk_at dksX4_canBeSung_1 15 rfl rfl)
theorem dX4_canBeSung_40 : decode cX4_canBeSung 40 = .ok (.iload 4, 2) := dk_21 4 (dk_at dksX4_canBeSung_1 18 rfl rfl)
theorem dX4_canBeSung_42 : decode cX4_canBeSung 42 = .ok (.iaload, 1) := dk_46 (dk_at dksX4_canBeSung_1 20 rfl rfl)
theorem dX4_canBeSung_43 : decode cX4_canBeSung 43 = .ok (.if_icmp .ge 5, 3) := dk_162 0 5 (dk_at dksX4_canBeSung_1 21 rfl rfl)
theorem dX4_canBeSung_46 : decode cX4_canBeSung 46 = .ok (.iconst 0, 1) := dk_3 (dk_at dksX4_canBeSung_2 0 rfl rfl)
theorem dX4_canBeSung_47 : decode cX4_canBeSung 47 = .ok (.ireturn, 1) := dk_172 (dk_at dksX4_canBeSung_2 1 rfl rfl)
theorem dX4_canBeSung_48 : decode cX4_canBeSung 48 = .ok (.iinc 4 1, 3) := dk_132 4 1 (dk_at dksX4_canBeSung_2 2 rfl rfl)
theorem dX4_canBeSung_51 : decode cX4_canBeSung 51 = .ok (.goto (-36), 3) := dk_167 255 220 (dk_at dksX4_canBeSung_2 5 rfl rfl)
theorem dX4_canBeSung_54 : decode cX4_canBeSung 54 = .ok (.iconst 1, 1) := dk_4 (dk_at dksX4_canBeSung_2 8 rfl rfl)
theorem dX4_canBeSung_55 : decode cX4_canBeSung 55 = .ok (.ireturn, 1) := dk_172 (dk_at dksX4_canBeSung_2 9 rfl rfl)
abbrev cX4_hasRows : ByteArray := prog_14_method_45_code
def yX4_hasRows : MethodName := ⟨RX4, "hasRows", "(I)Z"⟩
def dkwX4_hasRows_2 : List UInt8 := [3, 172]
abbrev dktX4_hasRows_2 : List UInt8 := dkwX4_hasRows_2 ++ []
def dkwX4_hasRows_1 : List UInt8 := [27, 104, 5, 96, 46, 96, 42, 180, 0, 29, 7, 27, 104, 6, 96, 46, 96, 158, 0, 7, 4, 167, 0, 4]
abbrev dktX4_hasRows_1 : List UInt8 := dkwX4_hasRows_1 ++ dktX4_hasRows_2
def dkwX4_hasRows_0 : List UInt8 := [42, 180, 0, 29, 7, 27, 104, 46, 42, 180, 0, 29, 7, 27, 104, 4, 96, 46, 96, 42, 180, 0, 29, 7]
abbrev dktX4_hasRows_0 : List UInt8 := dkwX4_hasRows_0 ++ dktX4_hasRows_1
theorem dksX4_hasRows_0 : cX4_hasRows.data.toList.drop 0 = dktX4_hasRows_0 := by decide +kernel
theorem dksX4_hasRows_1 : cX4_hasRows.data.toList.drop 24 = dktX4_hasRows_1 := dk_seg dksX4_hasRows_0 24 rfl rfl
theorem dksX4_hasRows_2 : cX4_hasRows.data.toList.drop 48 = dktX4_hasRows_2 := dk_seg dksX4_hasRows_1 24 rfl rfl
theorem dX4_hasRows_0 : decode cX4_hasRows 0 = .ok (.aload_n 0, 1) := dk_42 (dk_at dksX4_hasRows_0 0 rfl rfl)
theorem dX4_hasRows_1 : decode cX4_hasRows 1 = .ok (.getfield 29, 3) := dk_180 0 29 (dk_at dksX4_hasRows_0 1 rfl rfl)
theorem dX4_hasRows_4 : decode cX4_hasRows 4 = .ok (.iconst 4, 1) := dk_7 (dk_at dksX4_hasRows_0 4 rfl rfl)
theorem dX4_hasRows_5 : decode cX4_hasRows 5 = .ok (.iload_n 1, 1) := dk_27 (dk_at dksX4_hasRows_0 5 rfl rfl)
theorem dX4_hasRows_6 : decode cX4_hasRows 6 = .ok (.imul, 1) := dk_104 (dk_at dksX4_hasRows_0 6 rfl rfl)
theorem dX4_hasRows_7 : decode cX4_hasRows 7 = .ok (.iaload, 1) := dk_46 (dk_at dksX4_hasRows_0 7 rfl rfl)
theorem dX4_hasRows_8 : decode cX4_hasRows 8 = .ok (.aload_n 0, 1) := dk_42 (dk_at dksX4_hasRows_0 8 rfl rfl)
theorem dX4_hasRows_9 : decode cX4_hasRows 9 = .ok (.getfield 29, 3) := dk_180 0 29 (dk_at dksX4_hasRows_0 9 rfl rfl)
theorem dX4_hasRows_12 : decode cX4_hasRows 12 = .ok (.iconst 4, 1) := dk_7 (dk_at dksX4_hasRows_0 12 rfl rfl)
theorem dX4_hasRows_13 : decode cX4_hasRows 13 = .ok (.iload_n 1, 1) := dk_27 (dk_at dksX4_hasRows_0 13 rfl rfl)
theorem dX4_hasRows_14 : decode cX4_hasRows 14 = .ok (.imul, 1) := dk_104 (dk_at dksX4_hasRows_0 14 rfl rfl)
theorem dX4_hasRows_15 : decode cX4_hasRows 15 = .ok (.iconst 1, 1) := dk_4 (dk_at dksX4_hasRows_0 15 rfl rfl)
theorem dX4_hasRows_16 : decode cX4_hasRows 16 = .ok (.iadd, 1) := dk_96 (dk_at dksX4_hasRows_0 16 rfl rfl)
theorem dX4_hasRows_17 : decode cX4_hasRows 17 = .ok (.iaload, 1) := dk_46 (dk_at dksX4_hasRows_0 17 rfl rfl)
theorem dX4_hasRows_18 : decode cX4_hasRows 18 = .ok (.iadd, 1) := dk_96 (dk_at dksX4_hasRows_0 18 rfl rfl)
theorem dX4_hasRows_19 : decode cX4_hasRows 19 = .ok (.aload_n 0, 1) := dk_42 (dk_at dksX4_hasRows_0 19 rfl rfl)
theorem dX4_hasRows_20 : decode cX4_hasRows 20 = .ok (.getfield 29, 3) := dk_180 0 29 (dk_at dksX4_hasRows_0 20 rfl rfl)
theorem dX4_hasRows_23 : decode cX4_hasRows 23 = .ok (.iconst 4, 1) := dk_7 (dk_at dksX4_hasRows_0 23 rfl rfl)
theorem dX4_hasRows_24 : decode cX4_hasRows 24 = .ok (.iload_n 1, 1) := dk_27 (dk_at dksX4_hasRows_1 0 rfl rfl)
theorem dX4_hasRows_25 : decode cX4_hasRows 25 = .ok (.imul, 1) := dk_104 (dk_at dksX4_hasRows_1 1 rfl rfl)
theorem dX4_hasRows_26 : decode cX4_hasRows 26 = .ok (.iconst 2, 1) := dk_5 (dk_at dksX4_hasRows_1 2 rfl rfl)
theorem dX4_hasRows_27 : decode cX4_hasRows 27 = .ok (.iadd, 1) := dk_96 (dk_at dksX4_hasRows_1 3 rfl rfl)
theorem dX4_hasRows_28 : decode cX4_hasRows 28 = .ok (.iaload, 1) := dk_46 (dk_at dksX4_hasRows_1 4 rfl rfl)
theorem dX4_hasRows_29 : decode cX4_hasRows 29 = .ok (.iadd, 1) := dk_96 (dk_at dksX4_hasRows_1 5 rfl rfl)
theorem dX4_hasRows_30 : decode cX4_hasRows 30 = .ok (.aload_n 0, 1) := dk_42 (dk_at dksX4_hasRows_1 6 rfl rfl)
theorem dX4_hasRows_31 : decode cX4_hasRows 31 = .ok (.getfield 29, 3) := dk_180 0 29 (dk_at dksX4_hasRows_1 7 rfl rfl)
theorem dX4_hasRows_34 : decode cX4_hasRows 34 = .ok (.iconst 4, 1) := dk_7 (dk_at dksX4_hasRows_1 10 rfl rfl)
theorem dX4_hasRows_35 : decode cX4_hasRows 35 = .ok (.iload_n 1, 1) := dk_27 (dk_at dksX4_hasRows_1 11 rfl rfl)
theorem dX4_hasRows_36 : decode cX4_hasRows 36 = .ok (.imul, 1) := dk_104 (dk_at dksX4_hasRows_1 12 rfl rfl)
theorem dX4_hasRows_37 : decode cX4_hasRows 37 = .ok (.iconst 3, 1) := dk_6 (dk_at dksX4_hasRows_1 13 rfl rfl)
theorem dX4_hasRows_38 : decode cX4_hasRows 38 = .ok (.iadd, 1) := dk_96 (dk_at dksX4_hasRows_1 14 rfl rfl)
theorem dX4_hasRows_39 : decode cX4_hasRows 39 = .ok (.iaload, 1) := dk_46 (dk_at dksX4_hasRows_1 15 rfl rfl)
theorem dX4_hasRows_40 : decode cX4_hasRows 40 = .ok (.iadd, 1) := dk_96 (dk_at dksX4_hasRows_1 16 rfl rfl)
theorem dX4_hasRows_41 : decode cX4_hasRows 41 = .ok (.ifCond .le 7, 3) := dk_158 0 7 (dk_at dksX4_hasRows_1 17 rfl rfl)
theorem dX4_hasRows_44 : decode cX4_hasRows 44 = .ok (.iconst 1, 1) := dk_4 (dk_at dksX4_hasRows_1 20 rfl rfl)
theorem dX4_hasRows_45 : decode cX4_hasRows 45 = .ok (.goto 4, 3) := dk_167 0 4 (dk_at dksX4_hasRows_1 21 rfl rfl)
theorem dX4_hasRows_48 : decode cX4_hasRows 48 = .ok (.iconst 0, 1) := dk_3 (dk_at dksX4_hasRows_2 0 rfl rfl)
theorem dX4_hasRows_49 : decode cX4_hasRows 49 = .ok (.ireturn, 1) := dk_172 (dk_at dksX4_hasRows_2 1 rfl rfl)
abbrev cX4_ableOf : ByteArray := prog_14_method_44_code
def yX4_ableOf : MethodName := ⟨RX4, "ableOf", "(III)I"⟩
def dkwX4_ableOf_3 : List UInt8 := [54, 4, 132, 5, 1, 167, 255, 197, 21, 4, 172]
abbrev dktX4_ableOf_3 : List UInt8 := dkwX4_ableOf_3 ++ []
def dkwX4_ableOf_2 : List UInt8 := [112, 160, 0, 21, 42, 21, 5, 28, 29, 182, 1, 45, 153, 0, 10, 4, 21, 5, 120, 167, 0, 4, 3, 128]
abbrev dktX4_ableOf_2 : List UInt8 := dkwX4_ableOf_2 ++ dktX4_ableOf_3
def dkwX4_ableOf_1 : List UInt8 := [162, 0, 56, 21, 4, 27, 21, 5, 122, 4, 126, 4, 160, 0, 34, 42, 180, 0, 17, 21, 5, 46, 28, 7]
abbrev dktX4_ableOf_1 : List UInt8 := dkwX4_ableOf_1 ++ dktX4_ableOf_2
def dkwX4_ableOf_0 : List UInt8 := [42, 180, 0, 29, 28, 46, 154, 0, 5, 3, 172, 3, 54, 4, 3, 54, 5, 21, 5, 42, 180, 1, 21]
abbrev dktX4_ableOf_0 : List UInt8 := dkwX4_ableOf_0 ++ dktX4_ableOf_1
theorem dksX4_ableOf_0 : cX4_ableOf.data.toList.drop 0 = dktX4_ableOf_0 := by decide +kernel
theorem dksX4_ableOf_1 : cX4_ableOf.data.toList.drop 23 = dktX4_ableOf_1 := dk_seg dksX4_ableOf_0 23 rfl rfl
theorem dksX4_ableOf_2 : cX4_ableOf.data.toList.drop 47 = dktX4_ableOf_2 := dk_seg dksX4_ableOf_1 24 rfl rfl
theorem dksX4_ableOf_3 : cX4_ableOf.data.toList.drop 71 = dktX4_ableOf_3 := dk_seg dksX4_ableOf_2 24 rfl rfl
theorem dX4_ableOf_0 : decode cX4_ableOf 0 = .ok (.aload_n 0, 1) := dk_42 (dk_at dksX4_ableOf_0 0 rfl rfl)
theorem dX4_ableOf_1 : decode cX4_ableOf 1 = .ok (.getfield 29, 3) := dk_180 0 29 (dk_at dksX4_ableOf_0 1 rfl rfl)
theorem dX4_ableOf_4 : decode cX4_ableOf 4 = .ok (.iload_n 2, 1) := dk_28 (dk_at dksX4_ableOf_0 4 rfl rfl)
theorem dX4_ableOf_5 : decode cX4_ableOf 5 = .ok (.iaload, 1) := dk_46 (dk_at dksX4_ableOf_0 5 rfl rfl)
theorem dX4_ableOf_6 : decode cX4_ableOf 6 = .ok (.ifCond .ne 5, 3) := dk_154 0 5 (dk_at dksX4_ableOf_0 6 rfl rfl)
theorem dX4_ableOf_9 : decode cX4_ableOf 9 = .ok (.iconst 0, 1) := dk_3 (dk_at dksX4_ableOf_0 9 rfl rfl)
theorem dX4_ableOf_10 : decode cX4_ableOf 10 = .ok (.ireturn, 1) := dk_172 (dk_at dksX4_ableOf_0 10 rfl rfl)
theorem dX4_ableOf_11 : decode cX4_ableOf 11 = .ok (.iconst 0, 1) := dk_3 (dk_at dksX4_ableOf_0 11 rfl rfl)
theorem dX4_ableOf_12 : decode cX4_ableOf 12 = .ok (.istore 4, 2) := dk_54 4 (dk_at dksX4_ableOf_0 12 rfl rfl)
theorem dX4_ableOf_14 : decode cX4_ableOf 14 = .ok (.iconst 0, 1) := dk_3 (dk_at dksX4_ableOf_0 14 rfl rfl)
theorem dX4_ableOf_15 : decode cX4_ableOf 15 = .ok (.istore 5, 2) := dk_54 5 (dk_at dksX4_ableOf_0 15 rfl rfl)
theorem dX4_ableOf_17 : decode cX4_ableOf 17 = .ok (.iload 5, 2) := dk_21 5 (dk_at dksX4_ableOf_0 17 rfl rfl)
theorem dX4_ableOf_19 : decode cX4_ableOf 19 = .ok (.aload_n 0, 1) := dk_42 (dk_at dksX4_ableOf_0 19 rfl rfl)
theorem dX4_ableOf_20 : decode cX4_ableOf 20 = .ok (.getfield 277, 3) := dk_180 1 21 (dk_at dksX4_ableOf_0 20 rfl rfl)
theorem dX4_ableOf_23 : decode cX4_ableOf 23 = .ok (.if_icmp .ge 56, 3) := dk_162 0 56 (dk_at dksX4_ableOf_1 0 rfl rfl)
theorem dX4_ableOf_26 : decode cX4_ableOf 26 = .ok (.iload 4, 2) := dk_21 4 (dk_at dksX4_ableOf_1 3 rfl rfl)
theorem dX4_ableOf_28 : decode cX4_ableOf 28 = .ok (.iload_n 1, 1) := dk_27 (dk_at dksX4_ableOf_1 5 rfl rfl)
theorem dX4_ableOf_29 : decode cX4_ableOf 29 = .ok (.iload 5, 2) := dk_21 5 (dk_at dksX4_ableOf_1 6 rfl rfl)
theorem dX4_ableOf_31 : decode cX4_ableOf 31 = .ok (.ishr, 1) := dk_122 (dk_at dksX4_ableOf_1 8 rfl rfl)
theorem dX4_ableOf_32 : decode cX4_ableOf 32 = .ok (.iconst 1, 1) := dk_4 (dk_at dksX4_ableOf_1 9 rfl rfl)
theorem dX4_ableOf_33 : decode cX4_ableOf 33 = .ok (.iand, 1) := dk_126 (dk_at dksX4_ableOf_1 10 rfl rfl)
theorem dX4_ableOf_34 : decode cX4_ableOf 34 = .ok (.iconst 1, 1) := dk_4 (dk_at dksX4_ableOf_1 11 rfl rfl)
theorem dX4_ableOf_35 : decode cX4_ableOf 35 = .ok (.if_icmp .ne 34, 3) := dk_160 0 34 (dk_at dksX4_ableOf_1 12 rfl rfl)
theorem dX4_ableOf_38 : decode cX4_ableOf 38 = .ok (.aload_n 0, 1) := dk_42 (dk_at dksX4_ableOf_1 15 rfl rfl)
theorem dX4_ableOf_39 : decode cX4_ableOf 39 = .ok (.getfield 17, 3) := dk_180 0 17 (dk_at dksX4_ableOf_1 16 rfl rfl)
theorem dX4_ableOf_42 : decode cX4_ableOf 42 = .ok (.iload 5, 2) := dk_21 5 (dk_at dksX4_ableOf_1 19 rfl rfl)
theorem dX4_ableOf_44 : decode cX4_ableOf 44 = .ok (.iaload, 1) := dk_46 (dk_at dksX4_ableOf_1 21 rfl rfl)
theorem dX4_ableOf_45 : decode cX4_ableOf 45 = .ok (.iload_n 2, 1) := dk_28 (dk_at dksX4_ableOf_1 22 rfl rfl)
theorem dX4_ableOf_46 : decode cX4_ableOf 46 = .ok (.iconst 4, 1) := dk_7 (dk_at dksX4_ableOf_1 23 rfl rfl)
theorem dX4_ableOf_47 : decode cX4_ableOf 47 = .ok (.irem, 1) := dk_112 (dk_at dksX4_ableOf_2 0 rfl rfl)
theorem dX4_ableOf_48 : decode cX4_ableOf 48 = .ok (.if_icmp .ne 21, 3) := dk_160 0 21 (dk_at dksX4_ableOf_2 1 rfl rfl)
theorem dX4_ableOf_51 : decode cX4_ableOf 51 = .ok (.aload_n 0, 1) := dk_42 (dk_at dksX4_ableOf_2 4 rfl rfl)
theorem dX4_ableOf_52 : decode cX4_ableOf 52 = .ok (.iload 5, 2) := dk_21 5 (dk_at dksX4_ableOf_2 5 rfl rfl)
theorem dX4_ableOf_54 : decode cX4_ableOf 54 = .ok (.iload_n 2, 1) := dk_28 (dk_at dksX4_ableOf_2 7 rfl rfl)
theorem dX4_ableOf_55 : decode cX4_ableOf 55 = .ok (.iload_n 3, 1) := dk_29 (dk_at dksX4_ableOf_2 8 rfl rfl)
theorem dX4_ableOf_56 : decode cX4_ableOf 56 = .ok (.invokevirtual 301, 3) := dk_182 1 45 (dk_at dksX4_ableOf_2 9 rfl rfl)
theorem dX4_ableOf_59 : decode cX4_ableOf 59 = .ok (.ifCond .eq 10, 3) := dk_153 0 10 (dk_at dksX4_ableOf_2 12 rfl rfl)
theorem dX4_ableOf_62 : decode cX4_ableOf 62 = .ok (.iconst 1, 1) := dk_4 (dk_at dksX4_ableOf_2 15 rfl rfl)
theorem dX4_ableOf_63 : decode cX4_ableOf 63 = .ok (.iload 5, 2) := dk_21 5 (dk_at dksX4_ableOf_2 16 rfl rfl)
theorem dX4_ableOf_65 : decode cX4_ableOf 65 = .ok (.ishl, 1) := dk_120 (dk_at dksX4_ableOf_2 18 rfl rfl)
theorem dX4_ableOf_66 : decode cX4_ableOf 66 = .ok (.goto 4, 3) := dk_167 0 4 (dk_at dksX4_ableOf_2 19 rfl rfl)
theorem dX4_ableOf_69 : decode cX4_ableOf 69 = .ok (.iconst 0, 1) := dk_3 (dk_at dksX4_ableOf_2 22 rfl rfl)
theorem dX4_ableOf_70 : decode cX4_ableOf 70 = .ok (.ior, 1) := dk_128 (dk_at dksX4_ableOf_2 23 rfl rfl)
theorem dX4_ableOf_71 : decode cX4_ableOf 71 = .ok (.istore 4, 2) := dk_54 4 (dk_at dksX4_ableOf_3 0 rfl rfl)
theorem dX4_ableOf_73 : decode cX4_ableOf 73 = .ok (.iinc 5 1, 3) := dk_132 5 1 (dk_at dksX4_ableOf_3 2 rfl rfl)
theorem dX4_ableOf_76 : decode cX4_ableOf 76 = .ok (.goto (-59), 3) := dk_167 255 197 (dk_at dksX4_ableOf_3 5 rfl rfl)
theorem dX4_ableOf_79 : decode cX4_ableOf 79 = .ok (.iload 4, 2) := dk_21 4 (dk_at dksX4_ableOf_3 8 rfl rfl)
theorem dX4_ableOf_81 : decode cX4_ableOf 81 = .ok (.ireturn, 1) := dk_172 (dk_at dksX4_ableOf_3 10 rfl rfl)
abbrev cX4_hasAll : ByteArray := prog_14_method_43_code
def yX4_hasAll : MethodName := ⟨RX4, "hasAll", "(III)Z"⟩
def dkwX4_hasAll_2 : List UInt8 := [132, 4, 1, 167, 255, 208, 4, 172]
abbrev dktX4_hasAll_2 : List UInt8 := dkwX4_hasAll_2 ++ []
def dkwX4_hasAll_1 : List UInt8 := [96, 46, 29, 96, 42, 180, 0, 20, 27, 46, 42, 180, 0, 23, 27, 46, 184, 1, 41, 154, 0, 5, 3, 172]
abbrev dktX4_hasAll_1 : List UInt8 := dkwX4_hasAll_1 ++ dktX4_hasAll_2
def dkwX4_hasAll_0 : List UInt8 := [3, 54, 4, 21, 4, 42, 180, 0, 32, 28, 46, 162, 0, 43, 42, 180, 0, 35, 16, 12, 28, 104, 21, 4]
abbrev dktX4_hasAll_0 : List UInt8 := dkwX4_hasAll_0 ++ dktX4_hasAll_1
theorem dksX4_hasAll_0 : cX4_hasAll.data.toList.drop 0 = dktX4_hasAll_0 := by decide +kernel
theorem dksX4_hasAll_1 : cX4_hasAll.data.toList.drop 24 = dktX4_hasAll_1 := dk_seg dksX4_hasAll_0 24 rfl rfl
theorem dksX4_hasAll_2 : cX4_hasAll.data.toList.drop 48 = dktX4_hasAll_2 := dk_seg dksX4_hasAll_1 24 rfl rfl
theorem dX4_hasAll_0 : decode cX4_hasAll 0 = .ok (.iconst 0, 1) := dk_3 (dk_at dksX4_hasAll_0 0 rfl rfl)
theorem dX4_hasAll_1 : decode cX4_hasAll 1 = .ok (.istore 4, 2) := dk_54 4 (dk_at dksX4_hasAll_0 1 rfl rfl)
theorem dX4_hasAll_3 : decode cX4_hasAll 3 = .ok (.iload 4, 2) := dk_21 4 (dk_at dksX4_hasAll_0 3 rfl rfl)
theorem dX4_hasAll_5 : decode cX4_hasAll 5 = .ok (.aload_n 0, 1) := dk_42 (dk_at dksX4_hasAll_0 5 rfl rfl)
theorem dX4_hasAll_6 : decode cX4_hasAll 6 = .ok (.getfield 32, 3) := dk_180 0 32 (dk_at dksX4_hasAll_0 6 rfl rfl)
theorem dX4_hasAll_9 : decode cX4_hasAll 9 = .ok (.iload_n 2, 1) := dk_28 (dk_at dksX4_hasAll_0 9 rfl rfl)
theorem dX4_hasAll_10 : decode cX4_hasAll 10 = .ok (.iaload, 1) := dk_46 (dk_at dksX4_hasAll_0 10 rfl rfl)
theorem dX4_hasAll_11 : decode cX4_hasAll 11 = .ok (.if_icmp .ge 43, 3) := dk_162 0 43 (dk_at dksX4_hasAll_0 11 rfl rfl)
theorem dX4_hasAll_14 : decode cX4_hasAll 14 = .ok (.aload_n 0, 1) := dk_42 (dk_at dksX4_hasAll_0 14 rfl rfl)
theorem dX4_hasAll_15 : decode cX4_hasAll 15 = .ok (.getfield 35, 3) := dk_180 0 35 (dk_at dksX4_hasAll_0 15 rfl rfl)
theorem dX4_hasAll_18 : decode cX4_hasAll 18 = .ok (.bipush 12, 2) := dk_16 12 (dk_at dksX4_hasAll_0 18 rfl rfl)
theorem dX4_hasAll_20 : decode cX4_hasAll 20 = .ok (.iload_n 2, 1) := dk_28 (dk_at dksX4_hasAll_0 20 rfl rfl)
theorem dX4_hasAll_21 : decode cX4_hasAll 21 = .ok (.imul, 1) := dk_104 (dk_at dksX4_hasAll_0 21 rfl rfl)
theorem dX4_hasAll_22 : decode cX4_hasAll 22 = .ok (.iload 4, 2) := dk_21 4 (dk_at dksX4_hasAll_0 22 rfl rfl)
theorem dX4_hasAll_24 : decode cX4_hasAll 24 = .ok (.iadd, 1) := dk_96 (dk_at dksX4_hasAll_1 0 rfl rfl)
theorem dX4_hasAll_25 : decode cX4_hasAll 25 = .ok (.iaload, 1) := dk_46 (dk_at dksX4_hasAll_1 1 rfl rfl)
theorem dX4_hasAll_26 : decode cX4_hasAll 26 = .ok (.iload_n 3, 1) := dk_29 (dk_at dksX4_hasAll_1 2 rfl rfl)
theorem dX4_hasAll_27 : decode cX4_hasAll 27 = .ok (.iadd, 1) := dk_96 (dk_at dksX4_hasAll_1 3 rfl rfl)
theorem dX4_hasAll_28 : decode cX4_hasAll 28 = .ok (.aload_n 0, 1) := dk_42 (dk_at dksX4_hasAll_1 4 rfl rfl)
theorem dX4_hasAll_29 : decode cX4_hasAll 29 = .ok (.getfield 20, 3) := dk_180 0 20 (dk_at dksX4_hasAll_1 5 rfl rfl)
theorem dX4_hasAll_32 : decode cX4_hasAll 32 = .ok (.iload_n 1, 1) := dk_27 (dk_at dksX4_hasAll_1 8 rfl rfl)
theorem dX4_hasAll_33 : decode cX4_hasAll 33 = .ok (.iaload, 1) := dk_46 (dk_at dksX4_hasAll_1 9 rfl rfl)
theorem dX4_hasAll_34 : decode cX4_hasAll 34 = .ok (.aload_n 0, 1) := dk_42 (dk_at dksX4_hasAll_1 10 rfl rfl)
theorem dX4_hasAll_35 : decode cX4_hasAll 35 = .ok (.getfield 23, 3) := dk_180 0 23 (dk_at dksX4_hasAll_1 11 rfl rfl)
theorem dX4_hasAll_38 : decode cX4_hasAll 38 = .ok (.iload_n 1, 1) := dk_27 (dk_at dksX4_hasAll_1 14 rfl rfl)
theorem dX4_hasAll_39 : decode cX4_hasAll 39 = .ok (.iaload, 1) := dk_46 (dk_at dksX4_hasAll_1 15 rfl rfl)
theorem dX4_hasAll_40 : decode cX4_hasAll 40 = .ok (.invokestatic 297, 3) := dk_184 1 41 (dk_at dksX4_hasAll_1 16 rfl rfl)
theorem dX4_hasAll_43 : decode cX4_hasAll 43 = .ok (.ifCond .ne 5, 3) := dk_154 0 5 (dk_at dksX4_hasAll_1 19 rfl rfl)
theorem dX4_hasAll_46 : decode cX4_hasAll 46 = .ok (.iconst 0, 1) := dk_3 (dk_at dksX4_hasAll_1 22 rfl rfl)
theorem dX4_hasAll_47 : decode cX4_hasAll 47 = .ok (.ireturn, 1) := dk_172 (dk_at dksX4_hasAll_1 23 rfl rfl)
theorem dX4_hasAll_48 : decode cX4_hasAll 48 = .ok (.iinc 4 1, 3) := dk_132 4 1 (dk_at dksX4_hasAll_2 0 rfl rfl)
theorem dX4_hasAll_51 : decode cX4_hasAll 51 = .ok (.goto (-48), 3) := dk_167 255 208 (dk_at dksX4_hasAll_2 3 rfl rfl)
theorem dX4_hasAll_54 : decode cX4_hasAll 54 = .ok (.iconst 1, 1) := dk_4 (dk_at dksX4_hasAll_2 6 rfl rfl)
theorem dX4_hasAll_55 : decode cX4_hasAll 55 = .ok (.ireturn, 1) := dk_172 (dk_at dksX4_hasAll_2 7 rfl rfl)
abbrev cX4_bits : ByteArray := prog_14_method_6_code
def yX4_bits : MethodName := ⟨RX4, "bits", "(I)I"⟩
def dkwX4_bits_1 : List UInt8 := [27, 172]
abbrev dktX4_bits_1 : List UInt8 := dkwX4_bits_1 ++ []
def dkwX4_bits_0 : List UInt8 := [3, 60, 3, 61, 28, 16, 14, 162, 0, 17, 27, 26, 28, 122, 4, 126, 96, 60, 132, 2, 1, 167, 255, 239]
abbrev dktX4_bits_0 : List UInt8 := dkwX4_bits_0 ++ dktX4_bits_1
theorem dksX4_bits_0 : cX4_bits.data.toList.drop 0 = dktX4_bits_0 := by decide +kernel
theorem dksX4_bits_1 : cX4_bits.data.toList.drop 24 = dktX4_bits_1 := dk_seg dksX4_bits_0 24 rfl rfl
theorem dX4_bits_0 : decode cX4_bits 0 = .ok (.iconst 0, 1) := dk_3 (dk_at dksX4_bits_0 0 rfl rfl)
theorem dX4_bits_1 : decode cX4_bits 1 = .ok (.istore_n 1, 1) := dk_60 (dk_at dksX4_bits_0 1 rfl rfl)
theorem dX4_bits_2 : decode cX4_bits 2 = .ok (.iconst 0, 1) := dk_3 (dk_at dksX4_bits_0 2 rfl rfl)
theorem dX4_bits_3 : decode cX4_bits 3 = .ok (.istore_n 2, 1) := dk_61 (dk_at dksX4_bits_0 3 rfl rfl)
theorem dX4_bits_4 : decode cX4_bits 4 = .ok (.iload_n 2, 1) := dk_28 (dk_at dksX4_bits_0 4 rfl rfl)
theorem dX4_bits_5 : decode cX4_bits 5 = .ok (.bipush 14, 2) := dk_16 14 (dk_at dksX4_bits_0 5 rfl rfl)
theorem dX4_bits_7 : decode cX4_bits 7 = .ok (.if_icmp .ge 17, 3) := dk_162 0 17 (dk_at dksX4_bits_0 7 rfl rfl)
theorem dX4_bits_10 : decode cX4_bits 10 = .ok (.iload_n 1, 1) := dk_27 (dk_at dksX4_bits_0 10 rfl rfl)
theorem dX4_bits_11 : decode cX4_bits 11 = .ok (.iload_n 0, 1) := dk_26 (dk_at dksX4_bits_0 11 rfl rfl)
theorem dX4_bits_12 : decode cX4_bits 12 = .ok (.iload_n 2, 1) := dk_28 (dk_at dksX4_bits_0 12 rfl rfl)
theorem dX4_bits_13 : decode cX4_bits 13 = .ok (.ishr, 1) := dk_122 (dk_at dksX4_bits_0 13 rfl rfl)
theorem dX4_bits_14 : decode cX4_bits 14 = .ok (.iconst 1, 1) := dk_4 (dk_at dksX4_bits_0 14 rfl rfl)
theorem dX4_bits_15 : decode cX4_bits 15 = .ok (.iand, 1) := dk_126 (dk_at dksX4_bits_0 15 rfl rfl)
theorem dX4_bits_16 : decode cX4_bits 16 = .ok (.iadd, 1) := dk_96 (dk_at dksX4_bits_0 16 rfl rfl)
theorem dX4_bits_17 : decode cX4_bits 17 = .ok (.istore_n 1, 1) := dk_60 (dk_at dksX4_bits_0 17 rfl rfl)
theorem dX4_bits_18 : decode cX4_bits 18 = .ok (.iinc 2 1, 3) := dk_132 2 1 (dk_at dksX4_bits_0 18 rfl rfl)
theorem dX4_bits_21 : decode cX4_bits 21 = .ok (.goto (-17), 3) := dk_167 255 239 (dk_at dksX4_bits_0 21 rfl rfl)
theorem dX4_bits_24 : decode cX4_bits 24 = .ok (.iload_n 1, 1) := dk_27 (dk_at dksX4_bits_1 0 rfl rfl)
theorem dX4_bits_25 : decode cX4_bits 25 = .ok (.ireturn, 1) := dk_172 (dk_at dksX4_bits_1 1 rfl rfl)
abbrev cX4_singer : ByteArray := prog_14_method_52_code
def yX4_singer : MethodName := ⟨RX4, "singer", "(II)I"⟩
def dkwX4_singer_4 : List UInt8 := [180, 0, 23, 27, 46, 172, 42, 180, 0, 26, 27, 46, 172, 42, 180, 0, 90, 27, 46, 172]
abbrev dktX4_singer_4 : List UInt8 := dkwX4_singer_4 ++ []
def dkwX4_singer_3 : List UInt8 := [42, 180, 0, 13, 27, 46, 172, 42, 180, 0, 17, 27, 46, 172, 42, 180, 0, 20, 27, 46, 172, 42]
abbrev dktX4_singer_3 : List UInt8 := dkwX4_singer_3 ++ dktX4_singer_4
def dkwX4_singer_2 : List UInt8 := [170, 0, 0, 0, 0, 0, 70, 0, 0, 0, 0, 0, 0, 0, 4, 0, 0, 0, 35, 0, 0, 0, 42, 0, 0, 0, 49, 0, 0, 0, 56, 0, 0, 0, 63]
abbrev dktX4_singer_2 : List UInt8 := dkwX4_singer_2 ++ dktX4_singer_3
def dkwX4_singer_1 : List UInt8 := [28]
abbrev dktX4_singer_1 : List UInt8 := dkwX4_singer_1 ++ dktX4_singer_2
def dkwX4_singer_0 : List UInt8 := [42, 3, 181, 0, 120, 42, 27, 182, 1, 68, 153, 0, 12, 42, 28, 8, 182, 1, 71, 154, 0, 5, 3, 172]
abbrev dktX4_singer_0 : List UInt8 := dkwX4_singer_0 ++ dktX4_singer_1
theorem dksX4_singer_0 : cX4_singer.data.toList.drop 0 = dktX4_singer_0 := by decide +kernel
theorem dksX4_singer_1 : cX4_singer.data.toList.drop 24 = dktX4_singer_1 := dk_seg dksX4_singer_0 24 rfl rfl
theorem dksX4_singer_2 : cX4_singer.data.toList.drop 25 = dktX4_singer_2 := dk_seg dksX4_singer_1 1 rfl rfl
theorem dksX4_singer_3 : cX4_singer.data.toList.drop 60 = dktX4_singer_3 := dk_seg dksX4_singer_2 35 rfl rfl
theorem dksX4_singer_4 : cX4_singer.data.toList.drop 82 = dktX4_singer_4 := dk_seg dksX4_singer_3 22 rfl rfl
theorem dX4_singer_0 : decode cX4_singer 0 = .ok (.aload_n 0, 1) := dk_42 (dk_at dksX4_singer_0 0 rfl rfl)
theorem dX4_singer_1 : decode cX4_singer 1 = .ok (.iconst 0, 1) := dk_3 (dk_at dksX4_singer_0 1 rfl rfl)
theorem dX4_singer_2 : decode cX4_singer 2 = .ok (.putfield 120, 3) := dk_181 0 120 (dk_at dksX4_singer_0 2 rfl rfl)
theorem dX4_singer_5 : decode cX4_singer 5 = .ok (.aload_n 0, 1) := dk_42 (dk_at dksX4_singer_0 5 rfl rfl)
theorem dX4_singer_6 : decode cX4_singer 6 = .ok (.iload_n 1, 1) := dk_27 (dk_at dksX4_singer_0 6 rfl rfl)
theorem dX4_singer_7 : decode cX4_singer 7 = .ok (.invokevirtual 324, 3) := dk_182 1 68 (dk_at dksX4_singer_0 7 rfl rfl)
theorem dX4_singer_10 : decode cX4_singer 10 = .ok (.ifCond .eq 12, 3) := dk_153 0 12 (dk_at dksX4_singer_0 10 rfl rfl)
theorem dX4_singer_13 : decode cX4_singer 13 = .ok (.aload_n 0, 1) := dk_42 (dk_at dksX4_singer_0 13 rfl rfl)
theorem dX4_singer_14 : decode cX4_singer 14 = .ok (.iload_n 2, 1) := dk_28 (dk_at dksX4_singer_0 14 rfl rfl)
theorem dX4_singer_15 : decode cX4_singer 15 = .ok (.iconst 5, 1) := dk_8 (dk_at dksX4_singer_0 15 rfl rfl)
theorem dX4_singer_16 : decode cX4_singer 16 = .ok (.invokevirtual 327, 3) := dk_182 1 71 (dk_at dksX4_singer_0 16 rfl rfl)
theorem dX4_singer_19 : decode cX4_singer 19 = .ok (.ifCond .ne 5, 3) := dk_154 0 5 (dk_at dksX4_singer_0 19 rfl rfl)
theorem dX4_singer_22 : decode cX4_singer 22 = .ok (.iconst 0, 1) := dk_3 (dk_at dksX4_singer_0 22 rfl rfl)
theorem dX4_singer_23 : decode cX4_singer 23 = .ok (.ireturn, 1) := dk_172 (dk_at dksX4_singer_0 23 rfl rfl)
theorem dX4_singer_24 : decode cX4_singer 24 = .ok (.iload_n 2, 1) := dk_28 (dk_at dksX4_singer_1 0 rfl rfl)
theorem dX4_singer_25 : decode cX4_singer 25 = .ok (.tableswitch 70 0 4 #[35, 42, 49, 56, 63], 35) := by decide +kernel
theorem dX4_singer_60 : decode cX4_singer 60 = .ok (.aload_n 0, 1) := dk_42 (dk_at dksX4_singer_3 0 rfl rfl)
theorem dX4_singer_61 : decode cX4_singer 61 = .ok (.getfield 13, 3) := dk_180 0 13 (dk_at dksX4_singer_3 1 rfl rfl)
theorem dX4_singer_64 : decode cX4_singer 64 = .ok (.iload_n 1, 1) := dk_27 (dk_at dksX4_singer_3 4 rfl rfl)
theorem dX4_singer_65 : decode cX4_singer 65 = .ok (.iaload, 1) := dk_46 (dk_at dksX4_singer_3 5 rfl rfl)
theorem dX4_singer_66 : decode cX4_singer 66 = .ok (.ireturn, 1) := dk_172 (dk_at dksX4_singer_3 6 rfl rfl)
theorem dX4_singer_67 : decode cX4_singer 67 = .ok (.aload_n 0, 1) := dk_42 (dk_at dksX4_singer_3 7 rfl rfl)
theorem dX4_singer_68 : decode cX4_singer 68 = .ok (.getfield 17, 3) := dk_180 0 17 (dk_at dksX4_singer_3 8 rfl rfl)
theorem dX4_singer_71 : decode cX4_singer 71 = .ok (.iload_n 1, 1) := dk_27 (dk_at dksX4_singer_3 11 rfl rfl)
theorem dX4_singer_72 : decode cX4_singer 72 = .ok (.iaload, 1) := dk_46 (dk_at dksX4_singer_3 12 rfl rfl)
theorem dX4_singer_73 : decode cX4_singer 73 = .ok (.ireturn, 1) := dk_172 (dk_at dksX4_singer_3 13 rfl rfl)
theorem dX4_singer_74 : decode cX4_singer 74 = .ok (.aload_n 0, 1) := dk_42 (dk_at dksX4_singer_3 14 rfl rfl)
theorem dX4_singer_75 : decode cX4_singer 75 = .ok (.getfield 20, 3) := dk_180 0 20 (dk_at dksX4_singer_3 15 rfl rfl)
theorem dX4_singer_78 : decode cX4_singer 78 = .ok (.iload_n 1, 1) := dk_27 (dk_at dksX4_singer_3 18 rfl rfl)
theorem dX4_singer_79 : decode cX4_singer 79 = .ok (.iaload, 1) := dk_46 (dk_at dksX4_singer_3 19 rfl rfl)
theorem dX4_singer_80 : decode cX4_singer 80 = .ok (.ireturn, 1) := dk_172 (dk_at dksX4_singer_3 20 rfl rfl)
theorem dX4_singer_81 : decode cX4_singer 81 = .ok (.aload_n 0, 1) := dk_42 (dk_at dksX4_singer_3 21 rfl rfl)
theorem dX4_singer_82 : decode cX4_singer 82 = .ok (.getfield 23, 3) := dk_180 0 23 (dk_at dksX4_singer_4 0 rfl rfl)
theorem dX4_singer_85 : decode cX4_singer 85 = .ok (.iload_n 1, 1) := dk_27 (dk_at dksX4_singer_4 3 rfl rfl)
theorem dX4_singer_86 : decode cX4_singer 86 = .ok (.iaload, 1) := dk_46 (dk_at dksX4_singer_4 4 rfl rfl)
theorem dX4_singer_87 : decode cX4_singer 87 = .ok (.ireturn, 1) := dk_172 (dk_at dksX4_singer_4 5 rfl rfl)
theorem dX4_singer_88 : decode cX4_singer 88 = .ok (.aload_n 0, 1) := dk_42 (dk_at dksX4_singer_4 6 rfl rfl)
theorem dX4_singer_89 : decode cX4_singer 89 = .ok (.getfield 26, 3) := dk_180 0 26 (dk_at dksX4_singer_4 7 rfl rfl)
theorem dX4_singer_92 : decode cX4_singer 92 = .ok (.iload_n 1, 1) := dk_27 (dk_at dksX4_singer_4 10 rfl rfl)
theorem dX4_singer_93 : decode cX4_singer 93 = .ok (.iaload, 1) := dk_46 (dk_at dksX4_singer_4 11 rfl rfl)
theorem dX4_singer_94 : decode cX4_singer 94 = .ok (.ireturn, 1) := dk_172 (dk_at dksX4_singer_4 12 rfl rfl)
theorem dX4_singer_95 : decode cX4_singer 95 = .ok (.aload_n 0, 1) := dk_42 (dk_at dksX4_singer_4 13 rfl rfl)
theorem dX4_singer_96 : decode cX4_singer 96 = .ok (.getfield 90, 3) := dk_180 0 90 (dk_at dksX4_singer_4 14 rfl rfl)
theorem dX4_singer_99 : decode cX4_singer 99 = .ok (.iload_n 1, 1) := dk_27 (dk_at dksX4_singer_4 17 rfl rfl)
theorem dX4_singer_100 : decode cX4_singer 100 = .ok (.iaload, 1) := dk_46 (dk_at dksX4_singer_4 18 rfl rfl)
theorem dX4_singer_101 : decode cX4_singer 101 = .ok (.ireturn, 1) := dk_172 (dk_at dksX4_singer_4 19 rfl rfl)
abbrev cX4_isSinger : ByteArray := prog_14_method_49_code
def yX4_isSinger : MethodName := ⟨RX4, "isSinger", "(I)Z"⟩
def dkwX4_isSinger_0 : List UInt8 := [42, 27, 155, 0, 15, 27, 42, 180, 1, 21, 162, 0, 7, 4, 167, 0, 4, 3, 4, 182, 1, 14, 172]
abbrev dktX4_isSinger_0 : List UInt8 := dkwX4_isSinger_0 ++ []
theorem dksX4_isSinger_0 : cX4_isSinger.data.toList.drop 0 = dktX4_isSinger_0 := by decide +kernel
theorem dX4_isSinger_0 : decode cX4_isSinger 0 = .ok (.aload_n 0, 1) := dk_42 (dk_at dksX4_isSinger_0 0 rfl rfl)
theorem dX4_isSinger_1 : decode cX4_isSinger 1 = .ok (.iload_n 1, 1) := dk_27 (dk_at dksX4_isSinger_0 1 rfl rfl)
theorem dX4_isSinger_2 : decode cX4_isSinger 2 = .ok (.ifCond .lt 15, 3) := dk_155 0 15 (dk_at dksX4_isSinger_0 2 rfl rfl)
theorem dX4_isSinger_5 : decode cX4_isSinger 5 = .ok (.iload_n 1, 1) := dk_27 (dk_at dksX4_isSinger_0 5 rfl rfl)
theorem dX4_isSinger_6 : decode cX4_isSinger 6 = .ok (.aload_n 0, 1) := dk_42 (dk_at dksX4_isSinger_0 6 rfl rfl)
theorem dX4_isSinger_7 : decode cX4_isSinger 7 = .ok (.getfield 277, 3) := dk_180 1 21 (dk_at dksX4_isSinger_0 7 rfl rfl)
theorem dX4_isSinger_10 : decode cX4_isSinger 10 = .ok (.if_icmp .ge 7, 3) := dk_162 0 7 (dk_at dksX4_isSinger_0 10 rfl rfl)
theorem dX4_isSinger_13 : decode cX4_isSinger 13 = .ok (.iconst 1, 1) := dk_4 (dk_at dksX4_isSinger_0 13 rfl rfl)
theorem dX4_isSinger_14 : decode cX4_isSinger 14 = .ok (.goto 4, 3) := dk_167 0 4 (dk_at dksX4_isSinger_0 14 rfl rfl)
theorem dX4_isSinger_17 : decode cX4_isSinger 17 = .ok (.iconst 0, 1) := dk_3 (dk_at dksX4_isSinger_0 17 rfl rfl)
theorem dX4_isSinger_18 : decode cX4_isSinger 18 = .ok (.iconst 1, 1) := dk_4 (dk_at dksX4_isSinger_0 18 rfl rfl)
theorem dX4_isSinger_19 : decode cX4_isSinger 19 = .ok (.invokevirtual 270, 3) := dk_182 1 14 (dk_at dksX4_isSinger_0 19 rfl rfl)
theorem dX4_isSinger_22 : decode cX4_isSinger 22 = .ok (.ireturn, 1) := dk_172 (dk_at dksX4_isSinger_0 22 rfl rfl)
abbrev cX4_isWhat : ByteArray := prog_14_method_51_code
def yX4_isWhat : MethodName := ⟨RX4, "isWhat", "(II)Z"⟩
def dkwX4_isWhat_0 : List UInt8 := [42, 27, 3, 28, 184, 1, 41, 4, 182, 1, 14, 172]
abbrev dktX4_isWhat_0 : List UInt8 := dkwX4_isWhat_0 ++ []
theorem dksX4_isWhat_0 : cX4_isWhat.data.toList.drop 0 = dktX4_isWhat_0 := by decide +kernel
theorem dX4_isWhat_0 : decode cX4_isWhat 0 = .ok (.aload_n 0, 1) := dk_42 (dk_at dksX4_isWhat_0 0 rfl rfl)
theorem dX4_isWhat_1 : decode cX4_isWhat 1 = .ok (.iload_n 1, 1) := dk_27 (dk_at dksX4_isWhat_0 1 rfl rfl)
theorem dX4_isWhat_2 : decode cX4_isWhat 2 = .ok (.iconst 0, 1) := dk_3 (dk_at dksX4_isWhat_0 2 rfl rfl)
theorem dX4_isWhat_3 : decode cX4_isWhat 3 = .ok (.iload_n 2, 1) := dk_28 (dk_at dksX4_isWhat_0 3 rfl rfl)
theorem dX4_isWhat_4 : decode cX4_isWhat 4 = .ok (.invokestatic 297, 3) := dk_184 1 41 (dk_at dksX4_isWhat_0 4 rfl rfl)
theorem dX4_isWhat_7 : decode cX4_isWhat 7 = .ok (.iconst 1, 1) := dk_4 (dk_at dksX4_isWhat_0 7 rfl rfl)
theorem dX4_isWhat_8 : decode cX4_isWhat 8 = .ok (.invokevirtual 270, 3) := dk_182 1 14 (dk_at dksX4_isWhat_0 8 rfl rfl)
theorem dX4_isWhat_11 : decode cX4_isWhat 11 = .ok (.ireturn, 1) := dk_172 (dk_at dksX4_isWhat_0 11 rfl rfl)
abbrev cX4_row : ByteArray := prog_14_method_54_code
def yX4_row : MethodName := ⟨RX4, "row", "(III)I"⟩
def dkwX4_row_4 : List UInt8 := [180, 0, 35, 16, 12, 21, 4, 104, 29, 96, 46, 172]
abbrev dktX4_row_4 : List UInt8 := dkwX4_row_4 ++ []
def dkwX4_row_3 : List UInt8 := [21, 4, 46, 167, 0, 30, 29, 16, 254, 160, 0, 12, 42, 21, 4, 182, 1, 78, 167, 0, 15, 42]
abbrev dktX4_row_3 : List UInt8 := dkwX4_row_3 ++ dktX4_row_4
def dkwX4_row_2 : List UInt8 := [4, 167, 0, 4, 3, 4, 182, 1, 14, 154, 0, 5, 3, 172, 29, 2, 160, 0, 13, 42, 180, 0, 29]
abbrev dktX4_row_2 : List UInt8 := dkwX4_row_2 ++ dktX4_row_3
def dkwX4_row_1 : List UInt8 := [7, 27, 104, 28, 96, 54, 4, 42, 29, 16, 254, 161, 0, 17, 29, 42, 21, 4, 182, 1, 78, 162, 0, 7]
abbrev dktX4_row_1 : List UInt8 := dkwX4_row_1 ++ dktX4_row_2
def dkwX4_row_0 : List UInt8 := [42, 3, 181, 0, 120, 42, 27, 182, 1, 75, 153, 0, 12, 42, 28, 6, 182, 1, 71, 154, 0, 5, 3, 172]
abbrev dktX4_row_0 : List UInt8 := dkwX4_row_0 ++ dktX4_row_1
theorem dksX4_row_0 : cX4_row.data.toList.drop 0 = dktX4_row_0 := by decide +kernel
theorem dksX4_row_1 : cX4_row.data.toList.drop 24 = dktX4_row_1 := dk_seg dksX4_row_0 24 rfl rfl
theorem dksX4_row_2 : cX4_row.data.toList.drop 48 = dktX4_row_2 := dk_seg dksX4_row_1 24 rfl rfl
theorem dksX4_row_3 : cX4_row.data.toList.drop 71 = dktX4_row_3 := dk_seg dksX4_row_2 23 rfl rfl
theorem dksX4_row_4 : cX4_row.data.toList.drop 93 = dktX4_row_4 := dk_seg dksX4_row_3 22 rfl rfl
theorem dX4_row_0 : decode cX4_row 0 = .ok (.aload_n 0, 1) := dk_42 (dk_at dksX4_row_0 0 rfl rfl)
theorem dX4_row_1 : decode cX4_row 1 = .ok (.iconst 0, 1) := dk_3 (dk_at dksX4_row_0 1 rfl rfl)
theorem dX4_row_2 : decode cX4_row 2 = .ok (.putfield 120, 3) := dk_181 0 120 (dk_at dksX4_row_0 2 rfl rfl)
theorem dX4_row_5 : decode cX4_row 5 = .ok (.aload_n 0, 1) := dk_42 (dk_at dksX4_row_0 5 rfl rfl)
theorem dX4_row_6 : decode cX4_row 6 = .ok (.iload_n 1, 1) := dk_27 (dk_at dksX4_row_0 6 rfl rfl)
theorem dX4_row_7 : decode cX4_row 7 = .ok (.invokevirtual 331, 3) := dk_182 1 75 (dk_at dksX4_row_0 7 rfl rfl)
theorem dX4_row_10 : decode cX4_row 10 = .ok (.ifCond .eq 12, 3) := dk_153 0 12 (dk_at dksX4_row_0 10 rfl rfl)
theorem dX4_row_13 : decode cX4_row 13 = .ok (.aload_n 0, 1) := dk_42 (dk_at dksX4_row_0 13 rfl rfl)
theorem dX4_row_14 : decode cX4_row 14 = .ok (.iload_n 2, 1) := dk_28 (dk_at dksX4_row_0 14 rfl rfl)
theorem dX4_row_15 : decode cX4_row 15 = .ok (.iconst 3, 1) := dk_6 (dk_at dksX4_row_0 15 rfl rfl)
theorem dX4_row_16 : decode cX4_row 16 = .ok (.invokevirtual 327, 3) := dk_182 1 71 (dk_at dksX4_row_0 16 rfl rfl)
theorem dX4_row_19 : decode cX4_row 19 = .ok (.ifCond .ne 5, 3) := dk_154 0 5 (dk_at dksX4_row_0 19 rfl rfl)
theorem dX4_row_22 : decode cX4_row 22 = .ok (.iconst 0, 1) := dk_3 (dk_at dksX4_row_0 22 rfl rfl)
theorem dX4_row_23 : decode cX4_row 23 = .ok (.ireturn, 1) := dk_172 (dk_at dksX4_row_0 23 rfl rfl)
theorem dX4_row_24 : decode cX4_row 24 = .ok (.iconst 4, 1) := dk_7 (dk_at dksX4_row_1 0 rfl rfl)
theorem dX4_row_25 : decode cX4_row 25 = .ok (.iload_n 1, 1) := dk_27 (dk_at dksX4_row_1 1 rfl rfl)
theorem dX4_row_26 : decode cX4_row 26 = .ok (.imul, 1) := dk_104 (dk_at dksX4_row_1 2 rfl rfl)
theorem dX4_row_27 : decode cX4_row 27 = .ok (.iload_n 2, 1) := dk_28 (dk_at dksX4_row_1 3 rfl rfl)
theorem dX4_row_28 : decode cX4_row 28 = .ok (.iadd, 1) := dk_96 (dk_at dksX4_row_1 4 rfl rfl)
theorem dX4_row_29 : decode cX4_row 29 = .ok (.istore 4, 2) := dk_54 4 (dk_at dksX4_row_1 5 rfl rfl)
theorem dX4_row_31 : decode cX4_row 31 = .ok (.aload_n 0, 1) := dk_42 (dk_at dksX4_row_1 7 rfl rfl)
theorem dX4_row_32 : decode cX4_row 32 = .ok (.iload_n 3, 1) := dk_29 (dk_at dksX4_row_1 8 rfl rfl)
theorem dX4_row_33 : decode cX4_row 33 = .ok (.bipush (-2), 2) := dk_16 254 (dk_at dksX4_row_1 9 rfl rfl)
theorem dX4_row_35 : decode cX4_row 35 = .ok (.if_icmp .lt 17, 3) := dk_161 0 17 (dk_at dksX4_row_1 11 rfl rfl)
theorem dX4_row_38 : decode cX4_row 38 = .ok (.iload_n 3, 1) := dk_29 (dk_at dksX4_row_1 14 rfl rfl)
theorem dX4_row_39 : decode cX4_row 39 = .ok (.aload_n 0, 1) := dk_42 (dk_at dksX4_row_1 15 rfl rfl)
theorem dX4_row_40 : decode cX4_row 40 = .ok (.iload 4, 2) := dk_21 4 (dk_at dksX4_row_1 16 rfl rfl)
theorem dX4_row_42 : decode cX4_row 42 = .ok (.invokevirtual 334, 3) := dk_182 1 78 (dk_at dksX4_row_1 18 rfl rfl)
theorem dX4_row_45 : decode cX4_row 45 = .ok (.if_icmp .ge 7, 3) := dk_162 0 7 (dk_at dksX4_row_1 21 rfl rfl)
theorem dX4_row_48 : decode cX4_row 48 = .ok (.iconst 1, 1) := dk_4 (dk_at dksX4_row_2 0 rfl rfl)
theorem dX4_row_49 : decode cX4_row 49 = .ok (.goto 4, 3) := dk_167 0 4 (dk_at dksX4_row_2 1 rfl rfl)
theorem dX4_row_52 : decode cX4_row 52 = .ok (.iconst 0, 1) := dk_3 (dk_at dksX4_row_2 4 rfl rfl)
theorem dX4_row_53 : decode cX4_row 53 = .ok (.iconst 1, 1) := dk_4 (dk_at dksX4_row_2 5 rfl rfl)
theorem dX4_row_54 : decode cX4_row 54 = .ok (.invokevirtual 270, 3) := dk_182 1 14 (dk_at dksX4_row_2 6 rfl rfl)
theorem dX4_row_57 : decode cX4_row 57 = .ok (.ifCond .ne 5, 3) := dk_154 0 5 (dk_at dksX4_row_2 9 rfl rfl)
theorem dX4_row_60 : decode cX4_row 60 = .ok (.iconst 0, 1) := dk_3 (dk_at dksX4_row_2 12 rfl rfl)
theorem dX4_row_61 : decode cX4_row 61 = .ok (.ireturn, 1) := dk_172 (dk_at dksX4_row_2 13 rfl rfl)
theorem dX4_row_62 : decode cX4_row 62 = .ok (.iload_n 3, 1) := dk_29 (dk_at dksX4_row_2 14 rfl rfl)
theorem dX4_row_63 : decode cX4_row 63 = .ok (.iconst (-1), 1) := dk_2 (dk_at dksX4_row_2 15 rfl rfl)
theorem dX4_row_64 : decode cX4_row 64 = .ok (.if_icmp .ne 13, 3) := dk_160 0 13 (dk_at dksX4_row_2 16 rfl rfl)
theorem dX4_row_67 : decode cX4_row 67 = .ok (.aload_n 0, 1) := dk_42 (dk_at dksX4_row_2 19 rfl rfl)
theorem dX4_row_68 : decode cX4_row 68 = .ok (.getfield 29, 3) := dk_180 0 29 (dk_at dksX4_row_2 20 rfl rfl)
theorem dX4_row_71 : decode cX4_row 71 = .ok (.iload 4, 2) := dk_21 4 (dk_at dksX4_row_3 0 rfl rfl)
theorem dX4_row_73 : decode cX4_row 73 = .ok (.iaload, 1) := dk_46 (dk_at dksX4_row_3 2 rfl rfl)
theorem dX4_row_74 : decode cX4_row 74 = .ok (.goto 30, 3) := dk_167 0 30 (dk_at dksX4_row_3 3 rfl rfl)
theorem dX4_row_77 : decode cX4_row 77 = .ok (.iload_n 3, 1) := dk_29 (dk_at dksX4_row_3 6 rfl rfl)
theorem dX4_row_78 : decode cX4_row 78 = .ok (.bipush (-2), 2) := dk_16 254 (dk_at dksX4_row_3 7 rfl rfl)
theorem dX4_row_80 : decode cX4_row 80 = .ok (.if_icmp .ne 12, 3) := dk_160 0 12 (dk_at dksX4_row_3 9 rfl rfl)
theorem dX4_row_83 : decode cX4_row 83 = .ok (.aload_n 0, 1) := dk_42 (dk_at dksX4_row_3 12 rfl rfl)
theorem dX4_row_84 : decode cX4_row 84 = .ok (.iload 4, 2) := dk_21 4 (dk_at dksX4_row_3 13 rfl rfl)
theorem dX4_row_86 : decode cX4_row 86 = .ok (.invokevirtual 334, 3) := dk_182 1 78 (dk_at dksX4_row_3 15 rfl rfl)
theorem dX4_row_89 : decode cX4_row 89 = .ok (.goto 15, 3) := dk_167 0 15 (dk_at dksX4_row_3 18 rfl rfl)
theorem dX4_row_92 : decode cX4_row 92 = .ok (.aload_n 0, 1) := dk_42 (dk_at dksX4_row_3 21 rfl rfl)
theorem dX4_row_93 : decode cX4_row 93 = .ok (.getfield 35, 3) := dk_180 0 35 (dk_at dksX4_row_4 0 rfl rfl)
theorem dX4_row_96 : decode cX4_row 96 = .ok (.bipush 12, 2) := dk_16 12 (dk_at dksX4_row_4 3 rfl rfl)
theorem dX4_row_98 : decode cX4_row 98 = .ok (.iload 4, 2) := dk_21 4 (dk_at dksX4_row_4 5 rfl rfl)
theorem dX4_row_100 : decode cX4_row 100 = .ok (.imul, 1) := dk_104 (dk_at dksX4_row_4 7 rfl rfl)
theorem dX4_row_101 : decode cX4_row 101 = .ok (.iload_n 3, 1) := dk_29 (dk_at dksX4_row_4 8 rfl rfl)
theorem dX4_row_102 : decode cX4_row 102 = .ok (.iadd, 1) := dk_96 (dk_at dksX4_row_4 9 rfl rfl)
theorem dX4_row_103 : decode cX4_row 103 = .ok (.iaload, 1) := dk_46 (dk_at dksX4_row_4 10 rfl rfl)
theorem dX4_row_104 : decode cX4_row 104 = .ok (.ireturn, 1) := dk_172 (dk_at dksX4_row_4 11 rfl rfl)
abbrev cX4_isPiece : ByteArray := prog_14_method_50_code
def yX4_isPiece : MethodName := ⟨RX4, "isPiece", "(I)Z"⟩
def dkwX4_isPiece_0 : List UInt8 := [42, 27, 155, 0, 15, 27, 42, 180, 1, 24, 162, 0, 7, 4, 167, 0, 4, 3, 4, 182, 1, 14, 172]
abbrev dktX4_isPiece_0 : List UInt8 := dkwX4_isPiece_0 ++ []
theorem dksX4_isPiece_0 : cX4_isPiece.data.toList.drop 0 = dktX4_isPiece_0 := by decide +kernel
theorem dX4_isPiece_0 : decode cX4_isPiece 0 = .ok (.aload_n 0, 1) := dk_42 (dk_at dksX4_isPiece_0 0 rfl rfl)
theorem dX4_isPiece_1 : decode cX4_isPiece 1 = .ok (.iload_n 1, 1) := dk_27 (dk_at dksX4_isPiece_0 1 rfl rfl)
theorem dX4_isPiece_2 : decode cX4_isPiece 2 = .ok (.ifCond .lt 15, 3) := dk_155 0 15 (dk_at dksX4_isPiece_0 2 rfl rfl)
theorem dX4_isPiece_5 : decode cX4_isPiece 5 = .ok (.iload_n 1, 1) := dk_27 (dk_at dksX4_isPiece_0 5 rfl rfl)
theorem dX4_isPiece_6 : decode cX4_isPiece 6 = .ok (.aload_n 0, 1) := dk_42 (dk_at dksX4_isPiece_0 6 rfl rfl)
theorem dX4_isPiece_7 : decode cX4_isPiece 7 = .ok (.getfield 280, 3) := dk_180 1 24 (dk_at dksX4_isPiece_0 7 rfl rfl)
theorem dX4_isPiece_10 : decode cX4_isPiece 10 = .ok (.if_icmp .ge 7, 3) := dk_162 0 7 (dk_at dksX4_isPiece_0 10 rfl rfl)
theorem dX4_isPiece_13 : decode cX4_isPiece 13 = .ok (.iconst 1, 1) := dk_4 (dk_at dksX4_isPiece_0 13 rfl rfl)
theorem dX4_isPiece_14 : decode cX4_isPiece 14 = .ok (.goto 4, 3) := dk_167 0 4 (dk_at dksX4_isPiece_0 14 rfl rfl)
theorem dX4_isPiece_17 : decode cX4_isPiece 17 = .ok (.iconst 0, 1) := dk_3 (dk_at dksX4_isPiece_0 17 rfl rfl)
theorem dX4_isPiece_18 : decode cX4_isPiece 18 = .ok (.iconst 1, 1) := dk_4 (dk_at dksX4_isPiece_0 18 rfl rfl)
theorem dX4_isPiece_19 : decode cX4_isPiece 19 = .ok (.invokevirtual 270, 3) := dk_182 1 14 (dk_at dksX4_isPiece_0 19 rfl rfl)
theorem dX4_isPiece_22 : decode cX4_isPiece 22 = .ok (.ireturn, 1) := dk_172 (dk_at dksX4_isPiece_0 22 rfl rfl)
abbrev cX4_notesOf : ByteArray := prog_14_method_53_code
def yX4_notesOf : MethodName := ⟨RX4, "notesOf", "(I)I"⟩
def dkwX4_notesOf_0 : List UInt8 := [42, 180, 0, 29, 27, 46, 154, 0, 7, 3, 167, 0, 9, 42, 180, 0, 32, 27, 46, 172]
abbrev dktX4_notesOf_0 : List UInt8 := dkwX4_notesOf_0 ++ []
theorem dksX4_notesOf_0 : cX4_notesOf.data.toList.drop 0 = dktX4_notesOf_0 := by decide +kernel
theorem dX4_notesOf_0 : decode cX4_notesOf 0 = .ok (.aload_n 0, 1) := dk_42 (dk_at dksX4_notesOf_0 0 rfl rfl)
theorem dX4_notesOf_1 : decode cX4_notesOf 1 = .ok (.getfield 29, 3) := dk_180 0 29 (dk_at dksX4_notesOf_0 1 rfl rfl)
theorem dX4_notesOf_4 : decode cX4_notesOf 4 = .ok (.iload_n 1, 1) := dk_27 (dk_at dksX4_notesOf_0 4 rfl rfl)
theorem dX4_notesOf_5 : decode cX4_notesOf 5 = .ok (.iaload, 1) := dk_46 (dk_at dksX4_notesOf_0 5 rfl rfl)
theorem dX4_notesOf_6 : decode cX4_notesOf 6 = .ok (.ifCond .ne 7, 3) := dk_154 0 7 (dk_at dksX4_notesOf_0 6 rfl rfl)
theorem dX4_notesOf_9 : decode cX4_notesOf 9 = .ok (.iconst 0, 1) := dk_3 (dk_at dksX4_notesOf_0 9 rfl rfl)
theorem dX4_notesOf_10 : decode cX4_notesOf 10 = .ok (.goto 9, 3) := dk_167 0 9 (dk_at dksX4_notesOf_0 10 rfl rfl)
theorem dX4_notesOf_13 : decode cX4_notesOf 13 = .ok (.aload_n 0, 1) := dk_42 (dk_at dksX4_notesOf_0 13 rfl rfl)
theorem dX4_notesOf_14 : decode cX4_notesOf 14 = .ok (.getfield 32, 3) := dk_180 0 32 (dk_at dksX4_notesOf_0 14 rfl rfl)
theorem dX4_notesOf_17 : decode cX4_notesOf 17 = .ok (.iload_n 1, 1) := dk_27 (dk_at dksX4_notesOf_0 17 rfl rfl)
theorem dX4_notesOf_18 : decode cX4_notesOf 18 = .ok (.iaload, 1) := dk_46 (dk_at dksX4_notesOf_0 18 rfl rfl)
theorem dX4_notesOf_19 : decode cX4_notesOf 19 = .ok (.ireturn, 1) := dk_172 (dk_at dksX4_notesOf_0 19 rfl rfl)
abbrev cX4_able : ByteArray := prog_14_method_55_code
def yX4_able : MethodName := ⟨RX4, "able", "(II)I"⟩
def dkwX4_able_1 : List UInt8 := [42, 180, 0, 90, 3, 182, 1, 61, 7, 27, 104, 28, 96, 3, 182, 1, 51, 167, 0, 4, 3, 172]
abbrev dktX4_able_1 : List UInt8 := dkwX4_able_1 ++ []
def dkwX4_able_0 : List UInt8 := [42, 3, 181, 0, 120, 42, 27, 182, 1, 75, 153, 0, 34, 42, 28, 6, 182, 1, 71, 153, 0, 25, 42, 42]
abbrev dktX4_able_0 : List UInt8 := dkwX4_able_0 ++ dktX4_able_1
theorem dksX4_able_0 : cX4_able.data.toList.drop 0 = dktX4_able_0 := by decide +kernel
theorem dksX4_able_1 : cX4_able.data.toList.drop 24 = dktX4_able_1 := dk_seg dksX4_able_0 24 rfl rfl
theorem dX4_able_0 : decode cX4_able 0 = .ok (.aload_n 0, 1) := dk_42 (dk_at dksX4_able_0 0 rfl rfl)
theorem dX4_able_1 : decode cX4_able 1 = .ok (.iconst 0, 1) := dk_3 (dk_at dksX4_able_0 1 rfl rfl)
theorem dX4_able_2 : decode cX4_able 2 = .ok (.putfield 120, 3) := dk_181 0 120 (dk_at dksX4_able_0 2 rfl rfl)
theorem dX4_able_5 : decode cX4_able 5 = .ok (.aload_n 0, 1) := dk_42 (dk_at dksX4_able_0 5 rfl rfl)
theorem dX4_able_6 : decode cX4_able 6 = .ok (.iload_n 1, 1) := dk_27 (dk_at dksX4_able_0 6 rfl rfl)
theorem dX4_able_7 : decode cX4_able 7 = .ok (.invokevirtual 331, 3) := dk_182 1 75 (dk_at dksX4_able_0 7 rfl rfl)
theorem dX4_able_10 : decode cX4_able 10 = .ok (.ifCond .eq 34, 3) := dk_153 0 34 (dk_at dksX4_able_0 10 rfl rfl)
theorem dX4_able_13 : decode cX4_able 13 = .ok (.aload_n 0, 1) := dk_42 (dk_at dksX4_able_0 13 rfl rfl)
theorem dX4_able_14 : decode cX4_able 14 = .ok (.iload_n 2, 1) := dk_28 (dk_at dksX4_able_0 14 rfl rfl)
theorem dX4_able_15 : decode cX4_able 15 = .ok (.iconst 3, 1) := dk_6 (dk_at dksX4_able_0 15 rfl rfl)
theorem dX4_able_16 : decode cX4_able 16 = .ok (.invokevirtual 327, 3) := dk_182 1 71 (dk_at dksX4_able_0 16 rfl rfl)
theorem dX4_able_19 : decode cX4_able 19 = .ok (.ifCond .eq 25, 3) := dk_153 0 25 (dk_at dksX4_able_0 19 rfl rfl)
theorem dX4_able_22 : decode cX4_able 22 = .ok (.aload_n 0, 1) := dk_42 (dk_at dksX4_able_0 22 rfl rfl)
theorem dX4_able_23 : decode cX4_able 23 = .ok (.aload_n 0, 1) := dk_42 (dk_at dksX4_able_0 23 rfl rfl)
theorem dX4_able_24 : decode cX4_able 24 = .ok (.aload_n 0, 1) := dk_42 (dk_at dksX4_able_1 0 rfl rfl)
theorem dX4_able_25 : decode cX4_able 25 = .ok (.getfield 90, 3) := dk_180 0 90 (dk_at dksX4_able_1 1 rfl rfl)
theorem dX4_able_28 : decode cX4_able 28 = .ok (.iconst 0, 1) := dk_3 (dk_at dksX4_able_1 4 rfl rfl)
theorem dX4_able_29 : decode cX4_able 29 = .ok (.invokevirtual 317, 3) := dk_182 1 61 (dk_at dksX4_able_1 5 rfl rfl)
theorem dX4_able_32 : decode cX4_able 32 = .ok (.iconst 4, 1) := dk_7 (dk_at dksX4_able_1 8 rfl rfl)
theorem dX4_able_33 : decode cX4_able 33 = .ok (.iload_n 1, 1) := dk_27 (dk_at dksX4_able_1 9 rfl rfl)
theorem dX4_able_34 : decode cX4_able 34 = .ok (.imul, 1) := dk_104 (dk_at dksX4_able_1 10 rfl rfl)
theorem dX4_able_35 : decode cX4_able 35 = .ok (.iload_n 2, 1) := dk_28 (dk_at dksX4_able_1 11 rfl rfl)
theorem dX4_able_36 : decode cX4_able 36 = .ok (.iadd, 1) := dk_96 (dk_at dksX4_able_1 12 rfl rfl)
theorem dX4_able_37 : decode cX4_able 37 = .ok (.iconst 0, 1) := dk_3 (dk_at dksX4_able_1 13 rfl rfl)
theorem dX4_able_38 : decode cX4_able 38 = .ok (.invokevirtual 307, 3) := dk_182 1 51 (dk_at dksX4_able_1 14 rfl rfl)
theorem dX4_able_41 : decode cX4_able 41 = .ok (.goto 4, 3) := dk_167 0 4 (dk_at dksX4_able_1 17 rfl rfl)
theorem dX4_able_44 : decode cX4_able 44 = .ok (.iconst 0, 1) := dk_3 (dk_at dksX4_able_1 20 rfl rfl)
theorem dX4_able_45 : decode cX4_able 45 = .ok (.ireturn, 1) := dk_172 (dk_at dksX4_able_1 21 rfl rfl)
abbrev cX4_days : ByteArray := prog_14_method_62_code
def yX4_days : MethodName := ⟨RX4, "days", "(I)I"⟩
def dkwX4_days_2 : List UInt8 := [42, 180, 0, 90, 182, 1, 107, 87, 132, 2, 1, 167, 255, 239, 42, 180, 0, 90, 16, 14, 46, 172]
abbrev dktX4_days_2 : List UInt8 := dkwX4_days_2 ++ []
def dkwX4_days_1 : List UInt8 := [17, 3, 231, 164, 0, 9, 42, 4, 182, 1, 101, 172, 42, 182, 1, 104, 3, 61, 28, 27, 162, 0, 18, 42]
abbrev dktX4_days_1 : List UInt8 := dkwX4_days_1 ++ dktX4_days_2
def dkwX4_days_0 : List UInt8 := [42, 3, 181, 0, 120, 27, 4, 16, 30, 184, 1, 41, 153, 0, 18, 42, 180, 0, 90, 16, 14, 46, 27, 96]
abbrev dktX4_days_0 : List UInt8 := dkwX4_days_0 ++ dktX4_days_1
theorem dksX4_days_0 : cX4_days.data.toList.drop 0 = dktX4_days_0 := by decide +kernel
theorem dksX4_days_1 : cX4_days.data.toList.drop 24 = dktX4_days_1 := dk_seg dksX4_days_0 24 rfl rfl
theorem dksX4_days_2 : cX4_days.data.toList.drop 48 = dktX4_days_2 := dk_seg dksX4_days_1 24 rfl rfl
theorem dX4_days_0 : decode cX4_days 0 = .ok (.aload_n 0, 1) := dk_42 (dk_at dksX4_days_0 0 rfl rfl)
theorem dX4_days_1 : decode cX4_days 1 = .ok (.iconst 0, 1) := dk_3 (dk_at dksX4_days_0 1 rfl rfl)
theorem dX4_days_2 : decode cX4_days 2 = .ok (.putfield 120, 3) := dk_181 0 120 (dk_at dksX4_days_0 2 rfl rfl)
theorem dX4_days_5 : decode cX4_days 5 = .ok (.iload_n 1, 1) := dk_27 (dk_at dksX4_days_0 5 rfl rfl)
theorem dX4_days_6 : decode cX4_days 6 = .ok (.iconst 1, 1) := dk_4 (dk_at dksX4_days_0 6 rfl rfl)
theorem dX4_days_7 : decode cX4_days 7 = .ok (.bipush 30, 2) := dk_16 30 (dk_at dksX4_days_0 7 rfl rfl)
theorem dX4_days_9 : decode cX4_days 9 = .ok (.invokestatic 297, 3) := dk_184 1 41 (dk_at dksX4_days_0 9 rfl rfl)
theorem dX4_days_12 : decode cX4_days 12 = .ok (.ifCond .eq 18, 3) := dk_153 0 18 (dk_at dksX4_days_0 12 rfl rfl)
theorem dX4_days_15 : decode cX4_days 15 = .ok (.aload_n 0, 1) := dk_42 (dk_at dksX4_days_0 15 rfl rfl)
theorem dX4_days_16 : decode cX4_days 16 = .ok (.getfield 90, 3) := dk_180 0 90 (dk_at dksX4_days_0 16 rfl rfl)
theorem dX4_days_19 : decode cX4_days 19 = .ok (.bipush 14, 2) := dk_16 14 (dk_at dksX4_days_0 19 rfl rfl)
theorem dX4_days_21 : decode cX4_days 21 = .ok (.iaload, 1) := dk_46 (dk_at dksX4_days_0 21 rfl rfl)
theorem dX4_days_22 : decode cX4_days 22 = .ok (.iload_n 1, 1) := dk_27 (dk_at dksX4_days_0 22 rfl rfl)
theorem dX4_days_23 : decode cX4_days 23 = .ok (.iadd, 1) := dk_96 (dk_at dksX4_days_0 23 rfl rfl)
theorem dX4_days_24 : decode cX4_days 24 = .ok (.sipush 999, 3) := dk_17 3 231 (dk_at dksX4_days_1 0 rfl rfl)
theorem dX4_days_27 : decode cX4_days 27 = .ok (.if_icmp .le 9, 3) := dk_164 0 9 (dk_at dksX4_days_1 3 rfl rfl)
theorem dX4_days_30 : decode cX4_days 30 = .ok (.aload_n 0, 1) := dk_42 (dk_at dksX4_days_1 6 rfl rfl)
theorem dX4_days_31 : decode cX4_days 31 = .ok (.iconst 1, 1) := dk_4 (dk_at dksX4_days_1 7 rfl rfl)
theorem dX4_days_32 : decode cX4_days 32 = .ok (.invokevirtual 357, 3) := dk_182 1 101 (dk_at dksX4_days_1 8 rfl rfl)
theorem dX4_days_35 : decode cX4_days 35 = .ok (.ireturn, 1) := dk_172 (dk_at dksX4_days_1 11 rfl rfl)
theorem dX4_days_36 : decode cX4_days 36 = .ok (.aload_n 0, 1) := dk_42 (dk_at dksX4_days_1 12 rfl rfl)
theorem dX4_days_37 : decode cX4_days 37 = .ok (.invokevirtual 360, 3) := dk_182 1 104 (dk_at dksX4_days_1 13 rfl rfl)
theorem dX4_days_40 : decode cX4_days 40 = .ok (.iconst 0, 1) := dk_3 (dk_at dksX4_days_1 16 rfl rfl)
theorem dX4_days_41 : decode cX4_days 41 = .ok (.istore_n 2, 1) := dk_61 (dk_at dksX4_days_1 17 rfl rfl)
theorem dX4_days_42 : decode cX4_days 42 = .ok (.iload_n 2, 1) := dk_28 (dk_at dksX4_days_1 18 rfl rfl)
theorem dX4_days_43 : decode cX4_days 43 = .ok (.iload_n 1, 1) := dk_27 (dk_at dksX4_days_1 19 rfl rfl)
theorem dX4_days_44 : decode cX4_days 44 = .ok (.if_icmp .ge 18, 3) := dk_162 0 18 (dk_at dksX4_days_1 20 rfl rfl)
theorem dX4_days_47 : decode cX4_days 47 = .ok (.aload_n 0, 1) := dk_42 (dk_at dksX4_days_1 23 rfl rfl)
theorem dX4_days_48 : decode cX4_days 48 = .ok (.aload_n 0, 1) := dk_42 (dk_at dksX4_days_2 0 rfl rfl)
theorem dX4_days_49 : decode cX4_days 49 = .ok (.getfield 90, 3) := dk_180 0 90 (dk_at dksX4_days_2 1 rfl rfl)
theorem dX4_days_52 : decode cX4_days 52 = .ok (.invokevirtual 363, 3) := dk_182 1 107 (dk_at dksX4_days_2 4 rfl rfl)
theorem dX4_days_55 : decode cX4_days 55 = .ok (.pop, 1) := dk_87 (dk_at dksX4_days_2 7 rfl rfl)
theorem dX4_days_56 : decode cX4_days 56 = .ok (.iinc 2 1, 3) := dk_132 2 1 (dk_at dksX4_days_2 8 rfl rfl)
theorem dX4_days_59 : decode cX4_days 59 = .ok (.goto (-17), 3) := dk_167 255 239 (dk_at dksX4_days_2 11 rfl rfl)
theorem dX4_days_62 : decode cX4_days 62 = .ok (.aload_n 0, 1) := dk_42 (dk_at dksX4_days_2 14 rfl rfl)
theorem dX4_days_63 : decode cX4_days 63 = .ok (.getfield 90, 3) := dk_180 0 90 (dk_at dksX4_days_2 15 rfl rfl)
theorem dX4_days_66 : decode cX4_days 66 = .ok (.bipush 14, 2) := dk_16 14 (dk_at dksX4_days_2 18 rfl rfl)
theorem dX4_days_68 : decode cX4_days 68 = .ok (.iaload, 1) := dk_46 (dk_at dksX4_days_2 20 rfl rfl)
theorem dX4_days_69 : decode cX4_days 69 = .ok (.ireturn, 1) := dk_172 (dk_at dksX4_days_2 21 rfl rfl)
abbrev cX4_refuses : ByteArray := prog_14_method_39_code
def yX4_refuses : MethodName := ⟨RX4, "refuses", "(I)I"⟩
def dkwX4_refuses_0 : List UInt8 := [42, 180, 0, 50, 27, 92, 46, 4, 96, 79, 2, 172]
abbrev dktX4_refuses_0 : List UInt8 := dkwX4_refuses_0 ++ []
theorem dksX4_refuses_0 : cX4_refuses.data.toList.drop 0 = dktX4_refuses_0 := by decide +kernel
theorem dX4_refuses_0 : decode cX4_refuses 0 = .ok (.aload_n 0, 1) := dk_42 (dk_at dksX4_refuses_0 0 rfl rfl)
theorem dX4_refuses_1 : decode cX4_refuses 1 = .ok (.getfield 50, 3) := dk_180 0 50 (dk_at dksX4_refuses_0 1 rfl rfl)
theorem dX4_refuses_4 : decode cX4_refuses 4 = .ok (.iload_n 1, 1) := dk_27 (dk_at dksX4_refuses_0 4 rfl rfl)
theorem dX4_refuses_5 : decode cX4_refuses 5 = .ok (.dup2, 1) := dk_92 (dk_at dksX4_refuses_0 5 rfl rfl)
theorem dX4_refuses_6 : decode cX4_refuses 6 = .ok (.iaload, 1) := dk_46 (dk_at dksX4_refuses_0 6 rfl rfl)
theorem dX4_refuses_7 : decode cX4_refuses 7 = .ok (.iconst 1, 1) := dk_4 (dk_at dksX4_refuses_0 7 rfl rfl)
theorem dX4_refuses_8 : decode cX4_refuses 8 = .ok (.iadd, 1) := dk_96 (dk_at dksX4_refuses_0 8 rfl rfl)
theorem dX4_refuses_9 : decode cX4_refuses 9 = .ok (.iastore, 1) := dk_79 (dk_at dksX4_refuses_0 9 rfl rfl)
theorem dX4_refuses_10 : decode cX4_refuses 10 = .ok (.iconst (-1), 1) := dk_2 (dk_at dksX4_refuses_0 10 rfl rfl)
theorem dX4_refuses_11 : decode cX4_refuses 11 = .ok (.ireturn, 1) := dk_172 (dk_at dksX4_refuses_0 11 rfl rfl)
abbrev cX4_keeps : ByteArray := prog_14_method_38_code
def yX4_keeps : MethodName := ⟨RX4, "keeps", "()V"⟩
def dkwX4_keeps_3 : List UInt8 := [42, 180, 0, 90, 27, 46, 79, 132, 1, 1, 167, 255, 227, 42, 89, 180, 1, 31, 4, 96, 181, 1, 31, 177]
abbrev dktX4_keeps_3 : List UInt8 := dkwX4_keeps_3 ++ []
def dkwX4_keeps_2 : List UInt8 := [181, 1, 31, 3, 60, 27, 16, 16, 162, 0, 29, 42, 180, 0, 96, 16, 16, 42, 180, 1, 31, 104, 27, 96]
abbrev dktX4_keeps_2 : List UInt8 := dkwX4_keeps_2 ++ dktX4_keeps_3
def dkwX4_keeps_1 : List UInt8 := [16, 16, 100, 42, 180, 0, 96, 27, 46, 79, 132, 1, 1, 167, 255, 231, 42, 89, 180, 1, 31, 4, 100]
abbrev dktX4_keeps_1 : List UInt8 := dkwX4_keeps_1 ++ dktX4_keeps_2
def dkwX4_keeps_0 : List UInt8 := [42, 180, 1, 31, 16, 40, 160, 0, 44, 16, 16, 60, 27, 17, 2, 128, 162, 0, 24, 42, 180, 0, 96, 27]
abbrev dktX4_keeps_0 : List UInt8 := dkwX4_keeps_0 ++ dktX4_keeps_1
theorem dksX4_keeps_0 : cX4_keeps.data.toList.drop 0 = dktX4_keeps_0 := by decide +kernel
theorem dksX4_keeps_1 : cX4_keeps.data.toList.drop 24 = dktX4_keeps_1 := dk_seg dksX4_keeps_0 24 rfl rfl
theorem dksX4_keeps_2 : cX4_keeps.data.toList.drop 47 = dktX4_keeps_2 := dk_seg dksX4_keeps_1 23 rfl rfl
theorem dksX4_keeps_3 : cX4_keeps.data.toList.drop 71 = dktX4_keeps_3 := dk_seg dksX4_keeps_2 24 rfl rfl
theorem dX4_keeps_0 : decode cX4_keeps 0 = .ok (.aload_n 0, 1) := dk_42 (dk_at dksX4_keeps_0 0 rfl rfl)
theorem dX4_keeps_1 : decode cX4_keeps 1 = .ok (.getfield 287, 3) := dk_180 1 31 (dk_at dksX4_keeps_0 1 rfl rfl)
theorem dX4_keeps_4 : decode cX4_keeps 4 = .ok (.bipush 40, 2) := dk_16 40 (dk_at dksX4_keeps_0 4 rfl rfl)
theorem dX4_keeps_6 : decode cX4_keeps 6 = .ok (.if_icmp .ne 44, 3) := dk_160 0 44 (dk_at dksX4_keeps_0 6 rfl rfl)
theorem dX4_keeps_9 : decode cX4_keeps 9 = .ok (.bipush 16, 2) := dk_16 16 (dk_at dksX4_keeps_0 9 rfl rfl)
theorem dX4_keeps_11 : decode cX4_keeps 11 = .ok (.istore_n 1, 1) := dk_60 (dk_at dksX4_keeps_0 11 rfl rfl)
theorem dX4_keeps_12 : decode cX4_keeps 12 = .ok (.iload_n 1, 1) := dk_27 (dk_at dksX4_keeps_0 12 rfl rfl)
theorem dX4_keeps_13 : decode cX4_keeps 13 = .ok (.sipush 640, 3) := dk_17 2 128 (dk_at dksX4_keeps_0 13 rfl rfl)
theorem dX4_keeps_16 : decode cX4_keeps 16 = .ok (.if_icmp .ge 24, 3) := dk_162 0 24 (dk_at dksX4_keeps_0 16 rfl rfl)
theorem dX4_keeps_19 : decode cX4_keeps 19 = .ok (.aload_n 0, 1) := dk_42 (dk_at dksX4_keeps_0 19 rfl rfl)
theorem dX4_keeps_20 : decode cX4_keeps 20 = .ok (.getfield 96, 3) := dk_180 0 96 (dk_at dksX4_keeps_0 20 rfl rfl)
theorem dX4_keeps_23 : decode cX4_keeps 23 = .ok (.iload_n 1, 1) := dk_27 (dk_at dksX4_keeps_0 23 rfl rfl)
theorem dX4_keeps_24 : decode cX4_keeps 24 = .ok (.bipush 16, 2) := dk_16 16 (dk_at dksX4_keeps_1 0 rfl rfl)
theorem dX4_keeps_26 : decode cX4_keeps 26 = .ok (.isub, 1) := dk_100 (dk_at dksX4_keeps_1 2 rfl rfl)
theorem dX4_keeps_27 : decode cX4_keeps 27 = .ok (.aload_n 0, 1) := dk_42 (dk_at dksX4_keeps_1 3 rfl rfl)
theorem dX4_keeps_28 : decode cX4_keeps 28 = .ok (.getfield 96, 3) := dk_180 0 96 (dk_at dksX4_keeps_1 4 rfl rfl)
theorem dX4_keeps_31 : decode cX4_keeps 31 = .ok (.iload_n 1, 1) := dk_27 (dk_at dksX4_keeps_1 7 rfl rfl)
theorem dX4_keeps_32 : decode cX4_keeps 32 = .ok (.iaload, 1) := dk_46 (dk_at dksX4_keeps_1 8 rfl rfl)
theorem dX4_keeps_33 : decode cX4_keeps 33 = .ok (.iastore, 1) := dk_79 (dk_at dksX4_keeps_1 9 rfl rfl)
theorem dX4_keeps_34 : decode cX4_keeps 34 = .ok (.iinc 1 1, 3) := dk_132 1 1 (dk_at dksX4_keeps_1 10 rfl rfl)
theorem dX4_keeps_37 : decode cX4_keeps 37 = .ok (.goto (-25), 3) := dk_167 255 231 (dk_at dksX4_keeps_1 13 rfl rfl)
theorem dX4_keeps_40 : decode cX4_keeps 40 = .ok (.aload_n 0, 1) := dk_42 (dk_at dksX4_keeps_1 16 rfl rfl)
theorem dX4_keeps_41 : decode cX4_keeps 41 = .ok (.dup, 1) := dk_89 (dk_at dksX4_keeps_1 17 rfl rfl)
theorem dX4_keeps_42 : decode cX4_keeps 42 = .ok (.getfield 287, 3) := dk_180 1 31 (dk_at dksX4_keeps_1 18 rfl rfl)
theorem dX4_keeps_45 : decode cX4_keeps 45 = .ok (.iconst 1, 1) := dk_4 (dk_at dksX4_keeps_1 21 rfl rfl)
theorem dX4_keeps_46 : decode cX4_keeps 46 = .ok (.isub, 1) := dk_100 (dk_at dksX4_keeps_1 22 rfl rfl)
theorem dX4_keeps_47 : decode cX4_keeps 47 = .ok (.putfield 287, 3) := dk_181 1 31 (dk_at dksX4_keeps_2 0 rfl rfl)
theorem dX4_keeps_50 : decode cX4_keeps 50 = .ok (.iconst 0, 1) := dk_3 (dk_at dksX4_keeps_2 3 rfl rfl)
theorem dX4_keeps_51 : decode cX4_keeps 51 = .ok (.istore_n 1, 1) := dk_60 (dk_at dksX4_keeps_2 4 rfl rfl)
theorem dX4_keeps_52 : decode cX4_keeps 52 = .ok (.iload_n 1, 1) := dk_27 (dk_at dksX4_keeps_2 5 rfl rfl)
theorem dX4_keeps_53 : decode cX4_keeps 53 = .ok (.bipush 16, 2) := dk_16 16 (dk_at dksX4_keeps_2 6 rfl rfl)
theorem dX4_keeps_55 : decode cX4_keeps 55 = .ok (.if_icmp .ge 29, 3) := dk_162 0 29 (dk_at dksX4_keeps_2 8 rfl rfl)
theorem dX4_keeps_58 : decode cX4_keeps 58 = .ok (.aload_n 0, 1) := dk_42 (dk_at dksX4_keeps_2 11 rfl rfl)
theorem dX4_keeps_59 : decode cX4_keeps 59 = .ok (.getfield 96, 3) := dk_180 0 96 (dk_at dksX4_keeps_2 12 rfl rfl)
theorem dX4_keeps_62 : decode cX4_keeps 62 = .ok (.bipush 16, 2) := dk_16 16 (dk_at dksX4_keeps_2 15 rfl rfl)
theorem dX4_keeps_64 : decode cX4_keeps 64 = .ok (.aload_n 0, 1) := dk_42 (dk_at dksX4_keeps_2 17 rfl rfl)
theorem dX4_keeps_65 : decode cX4_keeps 65 = .ok (.getfield 287, 3) := dk_180 1 31 (dk_at dksX4_keeps_2 18 rfl rfl)
theorem dX4_keeps_68 : decode cX4_keeps 68 = .ok (.imul, 1) := dk_104 (dk_at dksX4_keeps_2 21 rfl rfl)
theorem dX4_keeps_69 : decode cX4_keeps 69 = .ok (.iload_n 1, 1) := dk_27 (dk_at dksX4_keeps_2 22 rfl rfl)
theorem dX4_keeps_70 : decode cX4_keeps 70 = .ok (.iadd, 1) := dk_96 (dk_at dksX4_keeps_2 23 rfl rfl)
theorem dX4_keeps_71 : decode cX4_keeps 71 = .ok (.aload_n 0, 1) := dk_42 (dk_at dksX4_keeps_3 0 rfl rfl)
theorem dX4_keeps_72 : decode cX4_keeps 72 = .ok (.getfield 90, 3) := dk_180 0 90 (dk_at dksX4_keeps_3 1 rfl rfl)
theorem dX4_keeps_75 : decode cX4_keeps 75 = .ok (.iload_n 1, 1) := dk_27 (dk_at dksX4_keeps_3 4 rfl rfl)
theorem dX4_keeps_76 : decode cX4_keeps 76 = .ok (.iaload, 1) := dk_46 (dk_at dksX4_keeps_3 5 rfl rfl)
theorem dX4_keeps_77 : decode cX4_keeps 77 = .ok (.iastore, 1) := dk_79 (dk_at dksX4_keeps_3 6 rfl rfl)
theorem dX4_keeps_78 : decode cX4_keeps 78 = .ok (.iinc 1 1, 3) := dk_132 1 1 (dk_at dksX4_keeps_3 7 rfl rfl)
theorem dX4_keeps_81 : decode cX4_keeps 81 = .ok (.goto (-29), 3) := dk_167 255 227 (dk_at dksX4_keeps_3 10 rfl rfl)
theorem dX4_keeps_84 : decode cX4_keeps 84 = .ok (.aload_n 0, 1) := dk_42 (dk_at dksX4_keeps_3 13 rfl rfl)
theorem dX4_keeps_85 : decode cX4_keeps 85 = .ok (.dup, 1) := dk_89 (dk_at dksX4_keeps_3 14 rfl rfl)
theorem dX4_keeps_86 : decode cX4_keeps 86 = .ok (.getfield 287, 3) := dk_180 1 31 (dk_at dksX4_keeps_3 15 rfl rfl)
theorem dX4_keeps_89 : decode cX4_keeps 89 = .ok (.iconst 1, 1) := dk_4 (dk_at dksX4_keeps_3 18 rfl rfl)
theorem dX4_keeps_90 : decode cX4_keeps 90 = .ok (.iadd, 1) := dk_96 (dk_at dksX4_keeps_3 19 rfl rfl)
theorem dX4_keeps_91 : decode cX4_keeps 91 = .ok (.putfield 287, 3) := dk_181 1 31 (dk_at dksX4_keeps_3 20 rfl rfl)
theorem dX4_keeps_94 : decode cX4_keeps 94 = .ok (.return_, 1) := dk_177 (dk_at dksX4_keeps_3 23 rfl rfl)
abbrev cX4_dayGoes : ByteArray := prog_14_method_61_code
def yX4_dayGoes : MethodName := ⟨RX4, "dayGoes", "([I)I"⟩
def dkwX4_dayGoes_5 : List UInt8 := [3, 96, 61, 43, 16, 14, 92, 46, 4, 96, 79, 28, 172]
abbrev dktX4_dayGoes_5 : List UInt8 := dkwX4_dayGoes_5 ++ []
def dkwX4_dayGoes_4 : List UInt8 := [21, 4, 5, 79, 29, 2, 159, 0, 7, 4, 167, 0, 4, 3, 21, 4, 2, 159, 0, 7, 4, 167, 0, 4]
abbrev dktX4_dayGoes_4 : List UInt8 := dkwX4_dayGoes_4 ++ dktX4_dayGoes_5
def dkwX4_dayGoes_3 : List UInt8 := [43, 4, 182, 1, 98, 54, 4, 29, 2, 159, 0, 7, 43, 29, 5, 79, 21, 4, 2, 159, 0, 8, 43]
abbrev dktX4_dayGoes_3 : List UInt8 := dkwX4_dayGoes_3 ++ dktX4_dayGoes_4
def dkwX4_dayGoes_2 : List UInt8 := [167, 0, 9, 42, 43, 3, 182, 1, 98, 62, 42, 43, 4, 182, 1, 94, 153, 0, 7, 2, 167, 0, 9, 42]
abbrev dktX4_dayGoes_2 : List UInt8 := dkwX4_dayGoes_2 ++ dktX4_dayGoes_3
def dkwX4_dayGoes_1 : List UInt8 := [153, 0, 14, 43, 16, 15, 92, 46, 4, 96, 79, 167, 0, 87, 42, 43, 3, 182, 1, 94, 153, 0, 7, 2]
abbrev dktX4_dayGoes_1 : List UInt8 := dkwX4_dayGoes_1 ++ dktX4_dayGoes_2
def dkwX4_dayGoes_0 : List UInt8 := [3, 61, 43, 16, 14, 46, 42, 180, 0, 7, 112, 154, 0, 27, 42, 42, 43, 3, 182, 1, 61, 182, 1, 65]
abbrev dktX4_dayGoes_0 : List UInt8 := dkwX4_dayGoes_0 ++ dktX4_dayGoes_1
theorem dksX4_dayGoes_0 : cX4_dayGoes.data.toList.drop 0 = dktX4_dayGoes_0 := by decide +kernel
theorem dksX4_dayGoes_1 : cX4_dayGoes.data.toList.drop 24 = dktX4_dayGoes_1 := dk_seg dksX4_dayGoes_0 24 rfl rfl
theorem dksX4_dayGoes_2 : cX4_dayGoes.data.toList.drop 48 = dktX4_dayGoes_2 := dk_seg dksX4_dayGoes_1 24 rfl rfl
theorem dksX4_dayGoes_3 : cX4_dayGoes.data.toList.drop 72 = dktX4_dayGoes_3 := dk_seg dksX4_dayGoes_2 24 rfl rfl
theorem dksX4_dayGoes_4 : cX4_dayGoes.data.toList.drop 95 = dktX4_dayGoes_4 := dk_seg dksX4_dayGoes_3 23 rfl rfl
theorem dksX4_dayGoes_5 : cX4_dayGoes.data.toList.drop 119 = dktX4_dayGoes_5 := dk_seg dksX4_dayGoes_4 24 rfl rfl
theorem dX4_dayGoes_0 : decode cX4_dayGoes 0 = .ok (.iconst 0, 1) := dk_3 (dk_at dksX4_dayGoes_0 0 rfl rfl)
theorem dX4_dayGoes_1 : decode cX4_dayGoes 1 = .ok (.istore_n 2, 1) := dk_61 (dk_at dksX4_dayGoes_0 1 rfl rfl)
theorem dX4_dayGoes_2 : decode cX4_dayGoes 2 = .ok (.aload_n 1, 1) := dk_43 (dk_at dksX4_dayGoes_0 2 rfl rfl)
theorem dX4_dayGoes_3 : decode cX4_dayGoes 3 = .ok (.bipush 14, 2) := dk_16 14 (dk_at dksX4_dayGoes_0 3 rfl rfl)
theorem dX4_dayGoes_5 : decode cX4_dayGoes 5 = .ok (.iaload, 1) := dk_46 (dk_at dksX4_dayGoes_0 5 rfl rfl)
theorem dX4_dayGoes_6 : decode cX4_dayGoes 6 = .ok (.aload_n 0, 1) := dk_42 (dk_at dksX4_dayGoes_0 6 rfl rfl)
theorem dX4_dayGoes_7 : decode cX4_dayGoes 7 = .ok (.getfield 7, 3) := dk_180 0 7 (dk_at dksX4_dayGoes_0 7 rfl rfl)
theorem dX4_dayGoes_10 : decode cX4_dayGoes 10 = .ok (.irem, 1) := dk_112 (dk_at dksX4_dayGoes_0 10 rfl rfl)
theorem dX4_dayGoes_11 : decode cX4_dayGoes 11 = .ok (.ifCond .ne 27, 3) := dk_154 0 27 (dk_at dksX4_dayGoes_0 11 rfl rfl)
theorem dX4_dayGoes_14 : decode cX4_dayGoes 14 = .ok (.aload_n 0, 1) := dk_42 (dk_at dksX4_dayGoes_0 14 rfl rfl)
theorem dX4_dayGoes_15 : decode cX4_dayGoes 15 = .ok (.aload_n 0, 1) := dk_42 (dk_at dksX4_dayGoes_0 15 rfl rfl)
theorem dX4_dayGoes_16 : decode cX4_dayGoes 16 = .ok (.aload_n 1, 1) := dk_43 (dk_at dksX4_dayGoes_0 16 rfl rfl)
theorem dX4_dayGoes_17 : decode cX4_dayGoes 17 = .ok (.iconst 0, 1) := dk_3 (dk_at dksX4_dayGoes_0 17 rfl rfl)
theorem dX4_dayGoes_18 : decode cX4_dayGoes 18 = .ok (.invokevirtual 317, 3) := dk_182 1 61 (dk_at dksX4_dayGoes_0 18 rfl rfl)
theorem dX4_dayGoes_21 : decode cX4_dayGoes 21 = .ok (.invokevirtual 321, 3) := dk_182 1 65 (dk_at dksX4_dayGoes_0 21 rfl rfl)
theorem dX4_dayGoes_24 : decode cX4_dayGoes 24 = .ok (.ifCond .eq 14, 3) := dk_153 0 14 (dk_at dksX4_dayGoes_1 0 rfl rfl)
theorem dX4_dayGoes_27 : decode cX4_dayGoes 27 = .ok (.aload_n 1, 1) := dk_43 (dk_at dksX4_dayGoes_1 3 rfl rfl)
theorem dX4_dayGoes_28 : decode cX4_dayGoes 28 = .ok (.bipush 15, 2) := dk_16 15 (dk_at dksX4_dayGoes_1 4 rfl rfl)
theorem dX4_dayGoes_30 : decode cX4_dayGoes 30 = .ok (.dup2, 1) := dk_92 (dk_at dksX4_dayGoes_1 6 rfl rfl)
theorem dX4_dayGoes_31 : decode cX4_dayGoes 31 = .ok (.iaload, 1) := dk_46 (dk_at dksX4_dayGoes_1 7 rfl rfl)
theorem dX4_dayGoes_32 : decode cX4_dayGoes 32 = .ok (.iconst 1, 1) := dk_4 (dk_at dksX4_dayGoes_1 8 rfl rfl)
theorem dX4_dayGoes_33 : decode cX4_dayGoes 33 = .ok (.iadd, 1) := dk_96 (dk_at dksX4_dayGoes_1 9 rfl rfl)
theorem dX4_dayGoes_34 : decode cX4_dayGoes 34 = .ok (.iastore, 1) := dk_79 (dk_at dksX4_dayGoes_1 10 rfl rfl)
theorem dX4_dayGoes_35 : decode cX4_dayGoes 35 = .ok (.goto 87, 3) := dk_167 0 87 (dk_at dksX4_dayGoes_1 11 rfl rfl)
theorem dX4_dayGoes_38 : decode cX4_dayGoes 38 = .ok (.aload_n 0, 1) := dk_42 (dk_at dksX4_dayGoes_1 14 rfl rfl)
theorem dX4_dayGoes_39 : decode cX4_dayGoes 39 = .ok (.aload_n 1, 1) := dk_43 (dk_at dksX4_dayGoes_1 15 rfl rfl)
theorem dX4_dayGoes_40 : decode cX4_dayGoes 40 = .ok (.iconst 0, 1) := dk_3 (dk_at dksX4_dayGoes_1 16 rfl rfl)
theorem dX4_dayGoes_41 : decode cX4_dayGoes 41 = .ok (.invokevirtual 350, 3) := dk_182 1 94 (dk_at dksX4_dayGoes_1 17 rfl rfl)
theorem dX4_dayGoes_44 : decode cX4_dayGoes 44 = .ok (.ifCond .eq 7, 3) := dk_153 0 7 (dk_at dksX4_dayGoes_1 20 rfl rfl)
theorem dX4_dayGoes_47 : decode cX4_dayGoes 47 = .ok (.iconst (-1), 1) := dk_2 (dk_at dksX4_dayGoes_1 23 rfl rfl)
theorem dX4_dayGoes_48 : decode cX4_dayGoes 48 = .ok (.goto 9, 3) := dk_167 0 9 (dk_at dksX4_dayGoes_2 0 rfl rfl)
theorem dX4_dayGoes_51 : decode cX4_dayGoes 51 = .ok (.aload_n 0, 1) := dk_42 (dk_at dksX4_dayGoes_2 3 rfl rfl)
theorem dX4_dayGoes_52 : decode cX4_dayGoes 52 = .ok (.aload_n 1, 1) := dk_43 (dk_at dksX4_dayGoes_2 4 rfl rfl)
theorem dX4_dayGoes_53 : decode cX4_dayGoes 53 = .ok (.iconst 0, 1) := dk_3 (dk_at dksX4_dayGoes_2 5 rfl rfl)
theorem dX4_dayGoes_54 : decode cX4_dayGoes 54 = .ok (.invokevirtual 354, 3) := dk_182 1 98 (dk_at dksX4_dayGoes_2 6 rfl rfl)
theorem dX4_dayGoes_57 : decode cX4_dayGoes 57 = .ok (.istore_n 3, 1) := dk_62 (dk_at dksX4_dayGoes_2 9 rfl rfl)
theorem dX4_dayGoes_58 : decode cX4_dayGoes 58 = .ok (.aload_n 0, 1) := dk_42 (dk_at dksX4_dayGoes_2 10 rfl rfl)
theorem dX4_dayGoes_59 : decode cX4_dayGoes 59 = .ok (.aload_n 1, 1) := dk_43 (dk_at dksX4_dayGoes_2 11 rfl rfl)
theorem dX4_dayGoes_60 : decode cX4_dayGoes 60 = .ok (.iconst 1, 1) := dk_4 (dk_at dksX4_dayGoes_2 12 rfl rfl)
theorem dX4_dayGoes_61 : decode cX4_dayGoes 61 = .ok (.invokevirtual 350, 3) := dk_182 1 94 (dk_at dksX4_dayGoes_2 13 rfl rfl)
theorem dX4_dayGoes_64 : decode cX4_dayGoes 64 = .ok (.ifCond .eq 7, 3) := dk_153 0 7 (dk_at dksX4_dayGoes_2 16 rfl rfl)
theorem dX4_dayGoes_67 : decode cX4_dayGoes 67 = .ok (.iconst (-1), 1) := dk_2 (dk_at dksX4_dayGoes_2 19 rfl rfl)
theorem dX4_dayGoes_68 : decode cX4_dayGoes 68 = .ok (.goto 9, 3) := dk_167 0 9 (dk_at dksX4_dayGoes_2 20 rfl rfl)
theorem dX4_dayGoes_71 : decode cX4_dayGoes 71 = .ok (.aload_n 0, 1) := dk_42 (dk_at dksX4_dayGoes_2 23 rfl rfl)
theorem dX4_dayGoes_72 : decode cX4_dayGoes 72 = .ok (.aload_n 1, 1) := dk_43 (dk_at dksX4_dayGoes_3 0 rfl rfl)
theorem dX4_dayGoes_73 : decode cX4_dayGoes 73 = .ok (.iconst 1, 1) := dk_4 (dk_at dksX4_dayGoes_3 1 rfl rfl)
theorem dX4_dayGoes_74 : decode cX4_dayGoes 74 = .ok (.invokevirtual 354, 3) := dk_182 1 98 (dk_at dksX4_dayGoes_3 2 rfl rfl)
theorem dX4_dayGoes_77 : decode cX4_dayGoes 77 = .ok (.istore 4, 2) := dk_54 4 (dk_at dksX4_dayGoes_3 5 rfl rfl)
theorem dX4_dayGoes_79 : decode cX4_dayGoes 79 = .ok (.iload_n 3, 1) := dk_29 (dk_at dksX4_dayGoes_3 7 rfl rfl)
theorem dX4_dayGoes_80 : decode cX4_dayGoes 80 = .ok (.iconst (-1), 1) := dk_2 (dk_at dksX4_dayGoes_3 8 rfl rfl)
theorem dX4_dayGoes_81 : decode cX4_dayGoes 81 = .ok (.if_icmp .eq 7, 3) := dk_159 0 7 (dk_at dksX4_dayGoes_3 9 rfl rfl)
theorem dX4_dayGoes_84 : decode cX4_dayGoes 84 = .ok (.aload_n 1, 1) := dk_43 (dk_at dksX4_dayGoes_3 12 rfl rfl)
theorem dX4_dayGoes_85 : decode cX4_dayGoes 85 = .ok (.iload_n 3, 1) := dk_29 (dk_at dksX4_dayGoes_3 13 rfl rfl)
theorem dX4_dayGoes_86 : decode cX4_dayGoes 86 = .ok (.iconst 2, 1) := dk_5 (dk_at dksX4_dayGoes_3 14 rfl rfl)
theorem dX4_dayGoes_87 : decode cX4_dayGoes 87 = .ok (.iastore, 1) := dk_79 (dk_at dksX4_dayGoes_3 15 rfl rfl)
theorem dX4_dayGoes_88 : decode cX4_dayGoes 88 = .ok (.iload 4, 2) := dk_21 4 (dk_at dksX4_dayGoes_3 16 rfl rfl)
theorem dX4_dayGoes_90 : decode cX4_dayGoes 90 = .ok (.iconst (-1), 1) := dk_2 (dk_at dksX4_dayGoes_3 18 rfl rfl)
theorem dX4_dayGoes_91 : decode cX4_dayGoes 91 = .ok (.if_icmp .eq 8, 3) := dk_159 0 8 (dk_at dksX4_dayGoes_3 19 rfl rfl)
theorem dX4_dayGoes_94 : decode cX4_dayGoes 94 = .ok (.aload_n 1, 1) := dk_43 (dk_at dksX4_dayGoes_3 22 rfl rfl)
theorem dX4_dayGoes_95 : decode cX4_dayGoes 95 = .ok (.iload 4, 2) := dk_21 4 (dk_at dksX4_dayGoes_4 0 rfl rfl)
theorem dX4_dayGoes_97 : decode cX4_dayGoes 97 = .ok (.iconst 2, 1) := dk_5 (dk_at dksX4_dayGoes_4 2 rfl rfl)
theorem dX4_dayGoes_98 : decode cX4_dayGoes 98 = .ok (.iastore, 1) := dk_79 (dk_at dksX4_dayGoes_4 3 rfl rfl)
theorem dX4_dayGoes_99 : decode cX4_dayGoes 99 = .ok (.iload_n 3, 1) := dk_29 (dk_at dksX4_dayGoes_4 4 rfl rfl)
theorem dX4_dayGoes_100 : decode cX4_dayGoes 100 = .ok (.iconst (-1), 1) := dk_2 (dk_at dksX4_dayGoes_4 5 rfl rfl)
theorem dX4_dayGoes_101 : decode cX4_dayGoes 101 = .ok (.if_icmp .eq 7, 3) := dk_159 0 7 (dk_at dksX4_dayGoes_4 6 rfl rfl)
theorem dX4_dayGoes_104 : decode cX4_dayGoes 104 = .ok (.iconst 1, 1) := dk_4 (dk_at dksX4_dayGoes_4 9 rfl rfl)
theorem dX4_dayGoes_105 : decode cX4_dayGoes 105 = .ok (.goto 4, 3) := dk_167 0 4 (dk_at dksX4_dayGoes_4 10 rfl rfl)
theorem dX4_dayGoes_108 : decode cX4_dayGoes 108 = .ok (.iconst 0, 1) := dk_3 (dk_at dksX4_dayGoes_4 13 rfl rfl)
theorem dX4_dayGoes_109 : decode cX4_dayGoes 109 = .ok (.iload 4, 2) := dk_21 4 (dk_at dksX4_dayGoes_4 14 rfl rfl)
theorem dX4_dayGoes_111 : decode cX4_dayGoes 111 = .ok (.iconst (-1), 1) := dk_2 (dk_at dksX4_dayGoes_4 16 rfl rfl)
theorem dX4_dayGoes_112 : decode cX4_dayGoes 112 = .ok (.if_icmp .eq 7, 3) := dk_159 0 7 (dk_at dksX4_dayGoes_4 17 rfl rfl)
theorem dX4_dayGoes_115 : decode cX4_dayGoes 115 = .ok (.iconst 1, 1) := dk_4 (dk_at dksX4_dayGoes_4 20 rfl rfl)
theorem dX4_dayGoes_116 : decode cX4_dayGoes 116 = .ok (.goto 4, 3) := dk_167 0 4 (dk_at dksX4_dayGoes_4 21 rfl rfl)
theorem dX4_dayGoes_119 : decode cX4_dayGoes 119 = .ok (.iconst 0, 1) := dk_3 (dk_at dksX4_dayGoes_5 0 rfl rfl)
theorem dX4_dayGoes_120 : decode cX4_dayGoes 120 = .ok (.iadd, 1) := dk_96 (dk_at dksX4_dayGoes_5 1 rfl rfl)
theorem dX4_dayGoes_121 : decode cX4_dayGoes 121 = .ok (.istore_n 2, 1) := dk_61 (dk_at dksX4_dayGoes_5 2 rfl rfl)
theorem dX4_dayGoes_122 : decode cX4_dayGoes 122 = .ok (.aload_n 1, 1) := dk_43 (dk_at dksX4_dayGoes_5 3 rfl rfl)
theorem dX4_dayGoes_123 : decode cX4_dayGoes 123 = .ok (.bipush 14, 2) := dk_16 14 (dk_at dksX4_dayGoes_5 4 rfl rfl)
theorem dX4_dayGoes_125 : decode cX4_dayGoes 125 = .ok (.dup2, 1) := dk_92 (dk_at dksX4_dayGoes_5 6 rfl rfl)
theorem dX4_dayGoes_126 : decode cX4_dayGoes 126 = .ok (.iaload, 1) := dk_46 (dk_at dksX4_dayGoes_5 7 rfl rfl)
theorem dX4_dayGoes_127 : decode cX4_dayGoes 127 = .ok (.iconst 1, 1) := dk_4 (dk_at dksX4_dayGoes_5 8 rfl rfl)
theorem dX4_dayGoes_128 : decode cX4_dayGoes 128 = .ok (.iadd, 1) := dk_96 (dk_at dksX4_dayGoes_5 9 rfl rfl)
theorem dX4_dayGoes_129 : decode cX4_dayGoes 129 = .ok (.iastore, 1) := dk_79 (dk_at dksX4_dayGoes_5 10 rfl rfl)
theorem dX4_dayGoes_130 : decode cX4_dayGoes 130 = .ok (.iload_n 2, 1) := dk_28 (dk_at dksX4_dayGoes_5 11 rfl rfl)
theorem dX4_dayGoes_131 : decode cX4_dayGoes 131 = .ok (.ireturn, 1) := dk_172 (dk_at dksX4_dayGoes_5 12 rfl rfl)
abbrev cX4_isHolding : ByteArray := prog_14_method_58_code
def yX4_isHolding : MethodName := ⟨RX4, "isHolding", "([II)Z"⟩
def dkwX4_isHolding_5 : List UInt8 := [182, 1, 87, 158, 0, 7, 4, 167, 0, 4, 3, 172]
abbrev dktX4_isHolding_5 : List UInt8 := dkwX4_isHolding_5 ++ []
def dkwX4_isHolding_4 : List UInt8 := [79, 42, 180, 0, 99, 8, 42, 29, 182, 1, 65, 184, 1, 55, 79, 42, 42, 180, 0, 38, 28, 46]
abbrev dktX4_isHolding_4 : List UInt8 := dkwX4_isHolding_4 ++ dktX4_isHolding_5
def dkwX4_isHolding_3 : List UInt8 := [184, 1, 55, 79, 42, 180, 0, 99, 7, 42, 43, 5, 182, 1, 61, 42, 28, 182, 1, 84, 126, 184, 1, 55]
abbrev dktX4_isHolding_3 : List UInt8 := dkwX4_isHolding_3 ++ dktX4_isHolding_4
def dkwX4_isHolding_2 : List UInt8 := [182, 1, 84, 126, 184, 1, 55, 79, 42, 180, 0, 99, 6, 29, 42, 4, 28, 100, 182, 1, 84, 126]
abbrev dktX4_isHolding_2 : List UInt8 := dkwX4_isHolding_2 ++ dktX4_isHolding_3
def dkwX4_isHolding_1 : List UInt8 := [43, 16, 14, 46, 79, 42, 180, 0, 99, 4, 43, 16, 15, 46, 79, 42, 180, 0, 99, 5, 29, 42, 28]
abbrev dktX4_isHolding_1 : List UInt8 := dkwX4_isHolding_1 ++ dktX4_isHolding_2
def dkwX4_isHolding_0 : List UInt8 := [42, 180, 0, 38, 28, 46, 2, 160, 0, 5, 3, 172, 42, 43, 3, 182, 1, 61, 62, 42, 180, 0, 99, 3]
abbrev dktX4_isHolding_0 : List UInt8 := dkwX4_isHolding_0 ++ dktX4_isHolding_1
theorem dksX4_isHolding_0 : cX4_isHolding.data.toList.drop 0 = dktX4_isHolding_0 := by decide +kernel
theorem dksX4_isHolding_1 : cX4_isHolding.data.toList.drop 24 = dktX4_isHolding_1 := dk_seg dksX4_isHolding_0 24 rfl rfl
theorem dksX4_isHolding_2 : cX4_isHolding.data.toList.drop 47 = dktX4_isHolding_2 := dk_seg dksX4_isHolding_1 23 rfl rfl
theorem dksX4_isHolding_3 : cX4_isHolding.data.toList.drop 69 = dktX4_isHolding_3 := dk_seg dksX4_isHolding_2 22 rfl rfl
theorem dksX4_isHolding_4 : cX4_isHolding.data.toList.drop 93 = dktX4_isHolding_4 := dk_seg dksX4_isHolding_3 24 rfl rfl
theorem dksX4_isHolding_5 : cX4_isHolding.data.toList.drop 115 = dktX4_isHolding_5 := dk_seg dksX4_isHolding_4 22 rfl rfl
theorem dX4_isHolding_0 : decode cX4_isHolding 0 = .ok (.aload_n 0, 1) := dk_42 (dk_at dksX4_isHolding_0 0 rfl rfl)
theorem dX4_isHolding_1 : decode cX4_isHolding 1 = .ok (.getfield 38, 3) := dk_180 0 38 (dk_at dksX4_isHolding_0 1 rfl rfl)
theorem dX4_isHolding_4 : decode cX4_isHolding 4 = .ok (.iload_n 2, 1) := dk_28 (dk_at dksX4_isHolding_0 4 rfl rfl)
theorem dX4_isHolding_5 : decode cX4_isHolding 5 = .ok (.iaload, 1) := dk_46 (dk_at dksX4_isHolding_0 5 rfl rfl)
theorem dX4_isHolding_6 : decode cX4_isHolding 6 = .ok (.iconst (-1), 1) := dk_2 (dk_at dksX4_isHolding_0 6 rfl rfl)
theorem dX4_isHolding_7 : decode cX4_isHolding 7 = .ok (.if_icmp .ne 5, 3) := dk_160 0 5 (dk_at dksX4_isHolding_0 7 rfl rfl)
theorem dX4_isHolding_10 : decode cX4_isHolding 10 = .ok (.iconst 0, 1) := dk_3 (dk_at dksX4_isHolding_0 10 rfl rfl)
theorem dX4_isHolding_11 : decode cX4_isHolding 11 = .ok (.ireturn, 1) := dk_172 (dk_at dksX4_isHolding_0 11 rfl rfl)
theorem dX4_isHolding_12 : decode cX4_isHolding 12 = .ok (.aload_n 0, 1) := dk_42 (dk_at dksX4_isHolding_0 12 rfl rfl)
theorem dX4_isHolding_13 : decode cX4_isHolding 13 = .ok (.aload_n 1, 1) := dk_43 (dk_at dksX4_isHolding_0 13 rfl rfl)
theorem dX4_isHolding_14 : decode cX4_isHolding 14 = .ok (.iconst 0, 1) := dk_3 (dk_at dksX4_isHolding_0 14 rfl rfl)
theorem dX4_isHolding_15 : decode cX4_isHolding 15 = .ok (.invokevirtual 317, 3) := dk_182 1 61 (dk_at dksX4_isHolding_0 15 rfl rfl)
theorem dX4_isHolding_18 : decode cX4_isHolding 18 = .ok (.istore_n 3, 1) := dk_62 (dk_at dksX4_isHolding_0 18 rfl rfl)
theorem dX4_isHolding_19 : decode cX4_isHolding 19 = .ok (.aload_n 0, 1) := dk_42 (dk_at dksX4_isHolding_0 19 rfl rfl)
theorem dX4_isHolding_20 : decode cX4_isHolding 20 = .ok (.getfield 99, 3) := dk_180 0 99 (dk_at dksX4_isHolding_0 20 rfl rfl)
theorem dX4_isHolding_23 : decode cX4_isHolding 23 = .ok (.iconst 0, 1) := dk_3 (dk_at dksX4_isHolding_0 23 rfl rfl)
theorem dX4_isHolding_24 : decode cX4_isHolding 24 = .ok (.aload_n 1, 1) := dk_43 (dk_at dksX4_isHolding_1 0 rfl rfl)
theorem dX4_isHolding_25 : decode cX4_isHolding 25 = .ok (.bipush 14, 2) := dk_16 14 (dk_at dksX4_isHolding_1 1 rfl rfl)
theorem dX4_isHolding_27 : decode cX4_isHolding 27 = .ok (.iaload, 1) := dk_46 (dk_at dksX4_isHolding_1 3 rfl rfl)
theorem dX4_isHolding_28 : decode cX4_isHolding 28 = .ok (.iastore, 1) := dk_79 (dk_at dksX4_isHolding_1 4 rfl rfl)
theorem dX4_isHolding_29 : decode cX4_isHolding 29 = .ok (.aload_n 0, 1) := dk_42 (dk_at dksX4_isHolding_1 5 rfl rfl)
theorem dX4_isHolding_30 : decode cX4_isHolding 30 = .ok (.getfield 99, 3) := dk_180 0 99 (dk_at dksX4_isHolding_1 6 rfl rfl)
theorem dX4_isHolding_33 : decode cX4_isHolding 33 = .ok (.iconst 1, 1) := dk_4 (dk_at dksX4_isHolding_1 9 rfl rfl)
theorem dX4_isHolding_34 : decode cX4_isHolding 34 = .ok (.aload_n 1, 1) := dk_43 (dk_at dksX4_isHolding_1 10 rfl rfl)
theorem dX4_isHolding_35 : decode cX4_isHolding 35 = .ok (.bipush 15, 2) := dk_16 15 (dk_at dksX4_isHolding_1 11 rfl rfl)
theorem dX4_isHolding_37 : decode cX4_isHolding 37 = .ok (.iaload, 1) := dk_46 (dk_at dksX4_isHolding_1 13 rfl rfl)
theorem dX4_isHolding_38 : decode cX4_isHolding 38 = .ok (.iastore, 1) := dk_79 (dk_at dksX4_isHolding_1 14 rfl rfl)
theorem dX4_isHolding_39 : decode cX4_isHolding 39 = .ok (.aload_n 0, 1) := dk_42 (dk_at dksX4_isHolding_1 15 rfl rfl)
theorem dX4_isHolding_40 : decode cX4_isHolding 40 = .ok (.getfield 99, 3) := dk_180 0 99 (dk_at dksX4_isHolding_1 16 rfl rfl)
theorem dX4_isHolding_43 : decode cX4_isHolding 43 = .ok (.iconst 2, 1) := dk_5 (dk_at dksX4_isHolding_1 19 rfl rfl)
theorem dX4_isHolding_44 : decode cX4_isHolding 44 = .ok (.iload_n 3, 1) := dk_29 (dk_at dksX4_isHolding_1 20 rfl rfl)
theorem dX4_isHolding_45 : decode cX4_isHolding 45 = .ok (.aload_n 0, 1) := dk_42 (dk_at dksX4_isHolding_1 21 rfl rfl)
theorem dX4_isHolding_46 : decode cX4_isHolding 46 = .ok (.iload_n 2, 1) := dk_28 (dk_at dksX4_isHolding_1 22 rfl rfl)
theorem dX4_isHolding_47 : decode cX4_isHolding 47 = .ok (.invokevirtual 340, 3) := dk_182 1 84 (dk_at dksX4_isHolding_2 0 rfl rfl)
theorem dX4_isHolding_50 : decode cX4_isHolding 50 = .ok (.iand, 1) := dk_126 (dk_at dksX4_isHolding_2 3 rfl rfl)
theorem dX4_isHolding_51 : decode cX4_isHolding 51 = .ok (.invokestatic 311, 3) := dk_184 1 55 (dk_at dksX4_isHolding_2 4 rfl rfl)
theorem dX4_isHolding_54 : decode cX4_isHolding 54 = .ok (.iastore, 1) := dk_79 (dk_at dksX4_isHolding_2 7 rfl rfl)
theorem dX4_isHolding_55 : decode cX4_isHolding 55 = .ok (.aload_n 0, 1) := dk_42 (dk_at dksX4_isHolding_2 8 rfl rfl)
theorem dX4_isHolding_56 : decode cX4_isHolding 56 = .ok (.getfield 99, 3) := dk_180 0 99 (dk_at dksX4_isHolding_2 9 rfl rfl)
theorem dX4_isHolding_59 : decode cX4_isHolding 59 = .ok (.iconst 3, 1) := dk_6 (dk_at dksX4_isHolding_2 12 rfl rfl)
theorem dX4_isHolding_60 : decode cX4_isHolding 60 = .ok (.iload_n 3, 1) := dk_29 (dk_at dksX4_isHolding_2 13 rfl rfl)
theorem dX4_isHolding_61 : decode cX4_isHolding 61 = .ok (.aload_n 0, 1) := dk_42 (dk_at dksX4_isHolding_2 14 rfl rfl)
theorem dX4_isHolding_62 : decode cX4_isHolding 62 = .ok (.iconst 1, 1) := dk_4 (dk_at dksX4_isHolding_2 15 rfl rfl)
theorem dX4_isHolding_63 : decode cX4_isHolding 63 = .ok (.iload_n 2, 1) := dk_28 (dk_at dksX4_isHolding_2 16 rfl rfl)
theorem dX4_isHolding_64 : decode cX4_isHolding 64 = .ok (.isub, 1) := dk_100 (dk_at dksX4_isHolding_2 17 rfl rfl)
theorem dX4_isHolding_65 : decode cX4_isHolding 65 = .ok (.invokevirtual 340, 3) := dk_182 1 84 (dk_at dksX4_isHolding_2 18 rfl rfl)
theorem dX4_isHolding_68 : decode cX4_isHolding 68 = .ok (.iand, 1) := dk_126 (dk_at dksX4_isHolding_2 21 rfl rfl)
theorem dX4_isHolding_69 : decode cX4_isHolding 69 = .ok (.invokestatic 311, 3) := dk_184 1 55 (dk_at dksX4_isHolding_3 0 rfl rfl)
theorem dX4_isHolding_72 : decode cX4_isHolding 72 = .ok (.iastore, 1) := dk_79 (dk_at dksX4_isHolding_3 3 rfl rfl)
theorem dX4_isHolding_73 : decode cX4_isHolding 73 = .ok (.aload_n 0, 1) := dk_42 (dk_at dksX4_isHolding_3 4 rfl rfl)
theorem dX4_isHolding_74 : decode cX4_isHolding 74 = .ok (.getfield 99, 3) := dk_180 0 99 (dk_at dksX4_isHolding_3 5 rfl rfl)
theorem dX4_isHolding_77 : decode cX4_isHolding 77 = .ok (.iconst 4, 1) := dk_7 (dk_at dksX4_isHolding_3 8 rfl rfl)
theorem dX4_isHolding_78 : decode cX4_isHolding 78 = .ok (.aload_n 0, 1) := dk_42 (dk_at dksX4_isHolding_3 9 rfl rfl)
theorem dX4_isHolding_79 : decode cX4_isHolding 79 = .ok (.aload_n 1, 1) := dk_43 (dk_at dksX4_isHolding_3 10 rfl rfl)
theorem dX4_isHolding_80 : decode cX4_isHolding 80 = .ok (.iconst 2, 1) := dk_5 (dk_at dksX4_isHolding_3 11 rfl rfl)
theorem dX4_isHolding_81 : decode cX4_isHolding 81 = .ok (.invokevirtual 317, 3) := dk_182 1 61 (dk_at dksX4_isHolding_3 12 rfl rfl)
theorem dX4_isHolding_84 : decode cX4_isHolding 84 = .ok (.aload_n 0, 1) := dk_42 (dk_at dksX4_isHolding_3 15 rfl rfl)
theorem dX4_isHolding_85 : decode cX4_isHolding 85 = .ok (.iload_n 2, 1) := dk_28 (dk_at dksX4_isHolding_3 16 rfl rfl)
theorem dX4_isHolding_86 : decode cX4_isHolding 86 = .ok (.invokevirtual 340, 3) := dk_182 1 84 (dk_at dksX4_isHolding_3 17 rfl rfl)
theorem dX4_isHolding_89 : decode cX4_isHolding 89 = .ok (.iand, 1) := dk_126 (dk_at dksX4_isHolding_3 20 rfl rfl)
theorem dX4_isHolding_90 : decode cX4_isHolding 90 = .ok (.invokestatic 311, 3) := dk_184 1 55 (dk_at dksX4_isHolding_3 21 rfl rfl)
theorem dX4_isHolding_93 : decode cX4_isHolding 93 = .ok (.iastore, 1) := dk_79 (dk_at dksX4_isHolding_4 0 rfl rfl)
theorem dX4_isHolding_94 : decode cX4_isHolding 94 = .ok (.aload_n 0, 1) := dk_42 (dk_at dksX4_isHolding_4 1 rfl rfl)
theorem dX4_isHolding_95 : decode cX4_isHolding 95 = .ok (.getfield 99, 3) := dk_180 0 99 (dk_at dksX4_isHolding_4 2 rfl rfl)
theorem dX4_isHolding_98 : decode cX4_isHolding 98 = .ok (.iconst 5, 1) := dk_8 (dk_at dksX4_isHolding_4 5 rfl rfl)
theorem dX4_isHolding_99 : decode cX4_isHolding 99 = .ok (.aload_n 0, 1) := dk_42 (dk_at dksX4_isHolding_4 6 rfl rfl)
theorem dX4_isHolding_100 : decode cX4_isHolding 100 = .ok (.iload_n 3, 1) := dk_29 (dk_at dksX4_isHolding_4 7 rfl rfl)
theorem dX4_isHolding_101 : decode cX4_isHolding 101 = .ok (.invokevirtual 321, 3) := dk_182 1 65 (dk_at dksX4_isHolding_4 8 rfl rfl)
theorem dX4_isHolding_104 : decode cX4_isHolding 104 = .ok (.invokestatic 311, 3) := dk_184 1 55 (dk_at dksX4_isHolding_4 11 rfl rfl)
theorem dX4_isHolding_107 : decode cX4_isHolding 107 = .ok (.iastore, 1) := dk_79 (dk_at dksX4_isHolding_4 14 rfl rfl)
theorem dX4_isHolding_108 : decode cX4_isHolding 108 = .ok (.aload_n 0, 1) := dk_42 (dk_at dksX4_isHolding_4 15 rfl rfl)
theorem dX4_isHolding_109 : decode cX4_isHolding 109 = .ok (.aload_n 0, 1) := dk_42 (dk_at dksX4_isHolding_4 16 rfl rfl)
theorem dX4_isHolding_110 : decode cX4_isHolding 110 = .ok (.getfield 38, 3) := dk_180 0 38 (dk_at dksX4_isHolding_4 17 rfl rfl)
theorem dX4_isHolding_113 : decode cX4_isHolding 113 = .ok (.iload_n 2, 1) := dk_28 (dk_at dksX4_isHolding_4 20 rfl rfl)
theorem dX4_isHolding_114 : decode cX4_isHolding 114 = .ok (.iaload, 1) := dk_46 (dk_at dksX4_isHolding_4 21 rfl rfl)
theorem dX4_isHolding_115 : decode cX4_isHolding 115 = .ok (.invokevirtual 343, 3) := dk_182 1 87 (dk_at dksX4_isHolding_5 0 rfl rfl)
theorem dX4_isHolding_118 : decode cX4_isHolding 118 = .ok (.ifCond .le 7, 3) := dk_158 0 7 (dk_at dksX4_isHolding_5 3 rfl rfl)
theorem dX4_isHolding_121 : decode cX4_isHolding 121 = .ok (.iconst 1, 1) := dk_4 (dk_at dksX4_isHolding_5 6 rfl rfl)
theorem dX4_isHolding_122 : decode cX4_isHolding 122 = .ok (.goto 4, 3) := dk_167 0 4 (dk_at dksX4_isHolding_5 7 rfl rfl)
theorem dX4_isHolding_125 : decode cX4_isHolding 125 = .ok (.iconst 0, 1) := dk_3 (dk_at dksX4_isHolding_5 10 rfl rfl)
theorem dX4_isHolding_126 : decode cX4_isHolding 126 = .ok (.ireturn, 1) := dk_172 (dk_at dksX4_isHolding_5 11 rfl rfl)
abbrev cX4_ofSide : ByteArray := prog_14_method_42_code
def yX4_ofSide : MethodName := ⟨RX4, "ofSide", "(I)I"⟩
def dkwX4_ofSide_1 : List UInt8 := [29, 120, 167, 0, 4, 3, 128, 61, 132, 3, 1, 167, 255, 225, 28, 172]
abbrev dktX4_ofSide_1 : List UInt8 := dkwX4_ofSide_1 ++ []
def dkwX4_ofSide_0 : List UInt8 := [3, 61, 3, 62, 29, 42, 180, 1, 21, 162, 0, 29, 28, 42, 180, 0, 13, 29, 46, 27, 160, 0, 9, 4]
abbrev dktX4_ofSide_0 : List UInt8 := dkwX4_ofSide_0 ++ dktX4_ofSide_1
theorem dksX4_ofSide_0 : cX4_ofSide.data.toList.drop 0 = dktX4_ofSide_0 := by decide +kernel
theorem dksX4_ofSide_1 : cX4_ofSide.data.toList.drop 24 = dktX4_ofSide_1 := dk_seg dksX4_ofSide_0 24 rfl rfl
theorem dX4_ofSide_0 : decode cX4_ofSide 0 = .ok (.iconst 0, 1) := dk_3 (dk_at dksX4_ofSide_0 0 rfl rfl)
theorem dX4_ofSide_1 : decode cX4_ofSide 1 = .ok (.istore_n 2, 1) := dk_61 (dk_at dksX4_ofSide_0 1 rfl rfl)
theorem dX4_ofSide_2 : decode cX4_ofSide 2 = .ok (.iconst 0, 1) := dk_3 (dk_at dksX4_ofSide_0 2 rfl rfl)
theorem dX4_ofSide_3 : decode cX4_ofSide 3 = .ok (.istore_n 3, 1) := dk_62 (dk_at dksX4_ofSide_0 3 rfl rfl)
theorem dX4_ofSide_4 : decode cX4_ofSide 4 = .ok (.iload_n 3, 1) := dk_29 (dk_at dksX4_ofSide_0 4 rfl rfl)
theorem dX4_ofSide_5 : decode cX4_ofSide 5 = .ok (.aload_n 0, 1) := dk_42 (dk_at dksX4_ofSide_0 5 rfl rfl)
theorem dX4_ofSide_6 : decode cX4_ofSide 6 = .ok (.getfield 277, 3) := dk_180 1 21 (dk_at dksX4_ofSide_0 6 rfl rfl)
theorem dX4_ofSide_9 : decode cX4_ofSide 9 = .ok (.if_icmp .ge 29, 3) := dk_162 0 29 (dk_at dksX4_ofSide_0 9 rfl rfl)
theorem dX4_ofSide_12 : decode cX4_ofSide 12 = .ok (.iload_n 2, 1) := dk_28 (dk_at dksX4_ofSide_0 12 rfl rfl)
theorem dX4_ofSide_13 : decode cX4_ofSide 13 = .ok (.aload_n 0, 1) := dk_42 (dk_at dksX4_ofSide_0 13 rfl rfl)
theorem dX4_ofSide_14 : decode cX4_ofSide 14 = .ok (.getfield 13, 3) := dk_180 0 13 (dk_at dksX4_ofSide_0 14 rfl rfl)
theorem dX4_ofSide_17 : decode cX4_ofSide 17 = .ok (.iload_n 3, 1) := dk_29 (dk_at dksX4_ofSide_0 17 rfl rfl)
theorem dX4_ofSide_18 : decode cX4_ofSide 18 = .ok (.iaload, 1) := dk_46 (dk_at dksX4_ofSide_0 18 rfl rfl)
theorem dX4_ofSide_19 : decode cX4_ofSide 19 = .ok (.iload_n 1, 1) := dk_27 (dk_at dksX4_ofSide_0 19 rfl rfl)
theorem dX4_ofSide_20 : decode cX4_ofSide 20 = .ok (.if_icmp .ne 9, 3) := dk_160 0 9 (dk_at dksX4_ofSide_0 20 rfl rfl)
theorem dX4_ofSide_23 : decode cX4_ofSide 23 = .ok (.iconst 1, 1) := dk_4 (dk_at dksX4_ofSide_0 23 rfl rfl)
theorem dX4_ofSide_24 : decode cX4_ofSide 24 = .ok (.iload_n 3, 1) := dk_29 (dk_at dksX4_ofSide_1 0 rfl rfl)
theorem dX4_ofSide_25 : decode cX4_ofSide 25 = .ok (.ishl, 1) := dk_120 (dk_at dksX4_ofSide_1 1 rfl rfl)
theorem dX4_ofSide_26 : decode cX4_ofSide 26 = .ok (.goto 4, 3) := dk_167 0 4 (dk_at dksX4_ofSide_1 2 rfl rfl)
theorem dX4_ofSide_29 : decode cX4_ofSide 29 = .ok (.iconst 0, 1) := dk_3 (dk_at dksX4_ofSide_1 5 rfl rfl)
theorem dX4_ofSide_30 : decode cX4_ofSide 30 = .ok (.ior, 1) := dk_128 (dk_at dksX4_ofSide_1 6 rfl rfl)
theorem dX4_ofSide_31 : decode cX4_ofSide 31 = .ok (.istore_n 2, 1) := dk_61 (dk_at dksX4_ofSide_1 7 rfl rfl)
theorem dX4_ofSide_32 : decode cX4_ofSide 32 = .ok (.iinc 3 1, 3) := dk_132 3 1 (dk_at dksX4_ofSide_1 8 rfl rfl)
theorem dX4_ofSide_35 : decode cX4_ofSide 35 = .ok (.goto (-31), 3) := dk_167 255 225 (dk_at dksX4_ofSide_1 11 rfl rfl)
theorem dX4_ofSide_38 : decode cX4_ofSide 38 = .ok (.iload_n 2, 1) := dk_28 (dk_at dksX4_ofSide_1 14 rfl rfl)
theorem dX4_ofSide_39 : decode cX4_ofSide 39 = .ok (.ireturn, 1) := dk_172 (dk_at dksX4_ofSide_1 15 rfl rfl)
abbrev cX4_reckons : ByteArray := prog_14_method_57_code
def yX4_reckons : MethodName := ⟨RX4, "reckons", "(I)I"⟩
def dkwX4_reckons_6 : List UInt8 := [42, 180, 0, 102, 3, 46, 172]
abbrev dktX4_reckons_6 : List UInt8 := dkwX4_reckons_6 ++ []
def dkwX4_reckons_5 : List UInt8 := [100, 21, 4, 42, 180, 0, 102, 28, 4, 100, 46, 42, 180, 0, 102, 28, 46, 184, 1, 81, 79, 167, 255, 120]
abbrev dktX4_reckons_5 : List UInt8 := dkwX4_reckons_5 ++ dktX4_reckons_6
def dkwX4_reckons_4 : List UInt8 := [4, 100, 46, 154, 0, 7, 4, 167, 0, 4, 3, 79, 167, 0, 33, 132, 2, 255, 42, 180, 0, 102, 28, 4]
abbrev dktX4_reckons_4 : List UInt8 := dkwX4_reckons_4 ++ dktX4_reckons_5
def dkwX4_reckons_3 : List UInt8 := [132, 2, 1, 167, 0, 66, 21, 4, 6, 160, 0, 30, 42, 180, 0, 102, 28, 4, 100, 42, 180, 0, 102, 28]
abbrev dktX4_reckons_3 : List UInt8 := dkwX4_reckons_3 ++ dktX4_reckons_4
def dkwX4_reckons_2 : List UInt8 := [180, 0, 41, 29, 46, 167, 0, 14, 42, 180, 0, 99, 42, 180, 0, 41, 29, 46, 46, 79, 132, 3, 1]
abbrev dktX4_reckons_2 : List UInt8 := dkwX4_reckons_2 ++ dktX4_reckons_3
def dkwX4_reckons_1 : List UInt8 := [21, 4, 4, 159, 0, 9, 21, 4, 5, 160, 0, 44, 42, 180, 0, 102, 28, 21, 4, 4, 160, 0, 12, 42]
abbrev dktX4_reckons_1 : List UInt8 := dkwX4_reckons_1 ++ dktX4_reckons_2
def dkwX4_reckons_0 : List UInt8 := [3, 61, 27, 62, 42, 180, 0, 41, 29, 46, 153, 0, 133, 42, 180, 0, 41, 29, 46, 54, 4, 132, 3, 1]
abbrev dktX4_reckons_0 : List UInt8 := dkwX4_reckons_0 ++ dktX4_reckons_1
theorem dksX4_reckons_0 : cX4_reckons.data.toList.drop 0 = dktX4_reckons_0 := by decide +kernel
theorem dksX4_reckons_1 : cX4_reckons.data.toList.drop 24 = dktX4_reckons_1 := dk_seg dksX4_reckons_0 24 rfl rfl
theorem dksX4_reckons_2 : cX4_reckons.data.toList.drop 48 = dktX4_reckons_2 := dk_seg dksX4_reckons_1 24 rfl rfl
theorem dksX4_reckons_3 : cX4_reckons.data.toList.drop 71 = dktX4_reckons_3 := dk_seg dksX4_reckons_2 23 rfl rfl
theorem dksX4_reckons_4 : cX4_reckons.data.toList.drop 95 = dktX4_reckons_4 := dk_seg dksX4_reckons_3 24 rfl rfl
theorem dksX4_reckons_5 : cX4_reckons.data.toList.drop 119 = dktX4_reckons_5 := dk_seg dksX4_reckons_4 24 rfl rfl
theorem dksX4_reckons_6 : cX4_reckons.data.toList.drop 143 = dktX4_reckons_6 := dk_seg dksX4_reckons_5 24 rfl rfl
theorem dX4_reckons_0 : decode cX4_reckons 0 = .ok (.iconst 0, 1) := dk_3 (dk_at dksX4_reckons_0 0 rfl rfl)
theorem dX4_reckons_1 : decode cX4_reckons 1 = .ok (.istore_n 2, 1) := dk_61 (dk_at dksX4_reckons_0 1 rfl rfl)
theorem dX4_reckons_2 : decode cX4_reckons 2 = .ok (.iload_n 1, 1) := dk_27 (dk_at dksX4_reckons_0 2 rfl rfl)
theorem dX4_reckons_3 : decode cX4_reckons 3 = .ok (.istore_n 3, 1) := dk_62 (dk_at dksX4_reckons_0 3 rfl rfl)
theorem dX4_reckons_4 : decode cX4_reckons 4 = .ok (.aload_n 0, 1) := dk_42 (dk_at dksX4_reckons_0 4 rfl rfl)
theorem dX4_reckons_5 : decode cX4_reckons 5 = .ok (.getfield 41, 3) := dk_180 0 41 (dk_at dksX4_reckons_0 5 rfl rfl)
theorem dX4_reckons_8 : decode cX4_reckons 8 = .ok (.iload_n 3, 1) := dk_29 (dk_at dksX4_reckons_0 8 rfl rfl)
theorem dX4_reckons_9 : decode cX4_reckons 9 = .ok (.iaload, 1) := dk_46 (dk_at dksX4_reckons_0 9 rfl rfl)
theorem dX4_reckons_10 : decode cX4_reckons 10 = .ok (.ifCond .eq 133, 3) := dk_153 0 133 (dk_at dksX4_reckons_0 10 rfl rfl)
theorem dX4_reckons_13 : decode cX4_reckons 13 = .ok (.aload_n 0, 1) := dk_42 (dk_at dksX4_reckons_0 13 rfl rfl)
theorem dX4_reckons_14 : decode cX4_reckons 14 = .ok (.getfield 41, 3) := dk_180 0 41 (dk_at dksX4_reckons_0 14 rfl rfl)
theorem dX4_reckons_17 : decode cX4_reckons 17 = .ok (.iload_n 3, 1) := dk_29 (dk_at dksX4_reckons_0 17 rfl rfl)
theorem dX4_reckons_18 : decode cX4_reckons 18 = .ok (.iaload, 1) := dk_46 (dk_at dksX4_reckons_0 18 rfl rfl)
theorem dX4_reckons_19 : decode cX4_reckons 19 = .ok (.istore 4, 2) := dk_54 4 (dk_at dksX4_reckons_0 19 rfl rfl)
theorem dX4_reckons_21 : decode cX4_reckons 21 = .ok (.iinc 3 1, 3) := dk_132 3 1 (dk_at dksX4_reckons_0 21 rfl rfl)
theorem dX4_reckons_24 : decode cX4_reckons 24 = .ok (.iload 4, 2) := dk_21 4 (dk_at dksX4_reckons_1 0 rfl rfl)
theorem dX4_reckons_26 : decode cX4_reckons 26 = .ok (.iconst 1, 1) := dk_4 (dk_at dksX4_reckons_1 2 rfl rfl)
theorem dX4_reckons_27 : decode cX4_reckons 27 = .ok (.if_icmp .eq 9, 3) := dk_159 0 9 (dk_at dksX4_reckons_1 3 rfl rfl)
theorem dX4_reckons_30 : decode cX4_reckons 30 = .ok (.iload 4, 2) := dk_21 4 (dk_at dksX4_reckons_1 6 rfl rfl)
theorem dX4_reckons_32 : decode cX4_reckons 32 = .ok (.iconst 2, 1) := dk_5 (dk_at dksX4_reckons_1 8 rfl rfl)
theorem dX4_reckons_33 : decode cX4_reckons 33 = .ok (.if_icmp .ne 44, 3) := dk_160 0 44 (dk_at dksX4_reckons_1 9 rfl rfl)
theorem dX4_reckons_36 : decode cX4_reckons 36 = .ok (.aload_n 0, 1) := dk_42 (dk_at dksX4_reckons_1 12 rfl rfl)
theorem dX4_reckons_37 : decode cX4_reckons 37 = .ok (.getfield 102, 3) := dk_180 0 102 (dk_at dksX4_reckons_1 13 rfl rfl)
theorem dX4_reckons_40 : decode cX4_reckons 40 = .ok (.iload_n 2, 1) := dk_28 (dk_at dksX4_reckons_1 16 rfl rfl)
theorem dX4_reckons_41 : decode cX4_reckons 41 = .ok (.iload 4, 2) := dk_21 4 (dk_at dksX4_reckons_1 17 rfl rfl)
theorem dX4_reckons_43 : decode cX4_reckons 43 = .ok (.iconst 1, 1) := dk_4 (dk_at dksX4_reckons_1 19 rfl rfl)
theorem dX4_reckons_44 : decode cX4_reckons 44 = .ok (.if_icmp .ne 12, 3) := dk_160 0 12 (dk_at dksX4_reckons_1 20 rfl rfl)
theorem dX4_reckons_47 : decode cX4_reckons 47 = .ok (.aload_n 0, 1) := dk_42 (dk_at dksX4_reckons_1 23 rfl rfl)
theorem dX4_reckons_48 : decode cX4_reckons 48 = .ok (.getfield 41, 3) := dk_180 0 41 (dk_at dksX4_reckons_2 0 rfl rfl)
theorem dX4_reckons_51 : decode cX4_reckons 51 = .ok (.iload_n 3, 1) := dk_29 (dk_at dksX4_reckons_2 3 rfl rfl)
theorem dX4_reckons_52 : decode cX4_reckons 52 = .ok (.iaload, 1) := dk_46 (dk_at dksX4_reckons_2 4 rfl rfl)
theorem dX4_reckons_53 : decode cX4_reckons 53 = .ok (.goto 14, 3) := dk_167 0 14 (dk_at dksX4_reckons_2 5 rfl rfl)
theorem dX4_reckons_56 : decode cX4_reckons 56 = .ok (.aload_n 0, 1) := dk_42 (dk_at dksX4_reckons_2 8 rfl rfl)
theorem dX4_reckons_57 : decode cX4_reckons 57 = .ok (.getfield 99, 3) := dk_180 0 99 (dk_at dksX4_reckons_2 9 rfl rfl)
theorem dX4_reckons_60 : decode cX4_reckons 60 = .ok (.aload_n 0, 1) := dk_42 (dk_at dksX4_reckons_2 12 rfl rfl)
theorem dX4_reckons_61 : decode cX4_reckons 61 = .ok (.getfield 41, 3) := dk_180 0 41 (dk_at dksX4_reckons_2 13 rfl rfl)
theorem dX4_reckons_64 : decode cX4_reckons 64 = .ok (.iload_n 3, 1) := dk_29 (dk_at dksX4_reckons_2 16 rfl rfl)
theorem dX4_reckons_65 : decode cX4_reckons 65 = .ok (.iaload, 1) := dk_46 (dk_at dksX4_reckons_2 17 rfl rfl)
theorem dX4_reckons_66 : decode cX4_reckons 66 = .ok (.iaload, 1) := dk_46 (dk_at dksX4_reckons_2 18 rfl rfl)
theorem dX4_reckons_67 : decode cX4_reckons 67 = .ok (.iastore, 1) := dk_79 (dk_at dksX4_reckons_2 19 rfl rfl)
theorem dX4_reckons_68 : decode cX4_reckons 68 = .ok (.iinc 3 1, 3) := dk_132 3 1 (dk_at dksX4_reckons_2 20 rfl rfl)
theorem dX4_reckons_71 : decode cX4_reckons 71 = .ok (.iinc 2 1, 3) := dk_132 2 1 (dk_at dksX4_reckons_3 0 rfl rfl)
theorem dX4_reckons_74 : decode cX4_reckons 74 = .ok (.goto 66, 3) := dk_167 0 66 (dk_at dksX4_reckons_3 3 rfl rfl)
theorem dX4_reckons_77 : decode cX4_reckons 77 = .ok (.iload 4, 2) := dk_21 4 (dk_at dksX4_reckons_3 6 rfl rfl)
theorem dX4_reckons_79 : decode cX4_reckons 79 = .ok (.iconst 3, 1) := dk_6 (dk_at dksX4_reckons_3 8 rfl rfl)
theorem dX4_reckons_80 : decode cX4_reckons 80 = .ok (.if_icmp .ne 30, 3) := dk_160 0 30 (dk_at dksX4_reckons_3 9 rfl rfl)
theorem dX4_reckons_83 : decode cX4_reckons 83 = .ok (.aload_n 0, 1) := dk_42 (dk_at dksX4_reckons_3 12 rfl rfl)
theorem dX4_reckons_84 : decode cX4_reckons 84 = .ok (.getfield 102, 3) := dk_180 0 102 (dk_at dksX4_reckons_3 13 rfl rfl)
theorem dX4_reckons_87 : decode cX4_reckons 87 = .ok (.iload_n 2, 1) := dk_28 (dk_at dksX4_reckons_3 16 rfl rfl)
theorem dX4_reckons_88 : decode cX4_reckons 88 = .ok (.iconst 1, 1) := dk_4 (dk_at dksX4_reckons_3 17 rfl rfl)
theorem dX4_reckons_89 : decode cX4_reckons 89 = .ok (.isub, 1) := dk_100 (dk_at dksX4_reckons_3 18 rfl rfl)
theorem dX4_reckons_90 : decode cX4_reckons 90 = .ok (.aload_n 0, 1) := dk_42 (dk_at dksX4_reckons_3 19 rfl rfl)
theorem dX4_reckons_91 : decode cX4_reckons 91 = .ok (.getfield 102, 3) := dk_180 0 102 (dk_at dksX4_reckons_3 20 rfl rfl)
theorem dX4_reckons_94 : decode cX4_reckons 94 = .ok (.iload_n 2, 1) := dk_28 (dk_at dksX4_reckons_3 23 rfl rfl)
theorem dX4_reckons_95 : decode cX4_reckons 95 = .ok (.iconst 1, 1) := dk_4 (dk_at dksX4_reckons_4 0 rfl rfl)
theorem dX4_reckons_96 : decode cX4_reckons 96 = .ok (.isub, 1) := dk_100 (dk_at dksX4_reckons_4 1 rfl rfl)
theorem dX4_reckons_97 : decode cX4_reckons 97 = .ok (.iaload, 1) := dk_46 (dk_at dksX4_reckons_4 2 rfl rfl)
theorem dX4_reckons_98 : decode cX4_reckons 98 = .ok (.ifCond .ne 7, 3) := dk_154 0 7 (dk_at dksX4_reckons_4 3 rfl rfl)
theorem dX4_reckons_101 : decode cX4_reckons 101 = .ok (.iconst 1, 1) := dk_4 (dk_at dksX4_reckons_4 6 rfl rfl)
theorem dX4_reckons_102 : decode cX4_reckons 102 = .ok (.goto 4, 3) := dk_167 0 4 (dk_at dksX4_reckons_4 7 rfl rfl)
theorem dX4_reckons_105 : decode cX4_reckons 105 = .ok (.iconst 0, 1) := dk_3 (dk_at dksX4_reckons_4 10 rfl rfl)
theorem dX4_reckons_106 : decode cX4_reckons 106 = .ok (.iastore, 1) := dk_79 (dk_at dksX4_reckons_4 11 rfl rfl)
theorem dX4_reckons_107 : decode cX4_reckons 107 = .ok (.goto 33, 3) := dk_167 0 33 (dk_at dksX4_reckons_4 12 rfl rfl)
theorem dX4_reckons_110 : decode cX4_reckons 110 = .ok (.iinc 2 (-1), 3) := dk_132 2 255 (dk_at dksX4_reckons_4 15 rfl rfl)
theorem dX4_reckons_113 : decode cX4_reckons 113 = .ok (.aload_n 0, 1) := dk_42 (dk_at dksX4_reckons_4 18 rfl rfl)
theorem dX4_reckons_114 : decode cX4_reckons 114 = .ok (.getfield 102, 3) := dk_180 0 102 (dk_at dksX4_reckons_4 19 rfl rfl)
theorem dX4_reckons_117 : decode cX4_reckons 117 = .ok (.iload_n 2, 1) := dk_28 (dk_at dksX4_reckons_4 22 rfl rfl)
theorem dX4_reckons_118 : decode cX4_reckons 118 = .ok (.iconst 1, 1) := dk_4 (dk_at dksX4_reckons_4 23 rfl rfl)
theorem dX4_reckons_119 : decode cX4_reckons 119 = .ok (.isub, 1) := dk_100 (dk_at dksX4_reckons_5 0 rfl rfl)
theorem dX4_reckons_120 : decode cX4_reckons 120 = .ok (.iload 4, 2) := dk_21 4 (dk_at dksX4_reckons_5 1 rfl rfl)
theorem dX4_reckons_122 : decode cX4_reckons 122 = .ok (.aload_n 0, 1) := dk_42 (dk_at dksX4_reckons_5 3 rfl rfl)
theorem dX4_reckons_123 : decode cX4_reckons 123 = .ok (.getfield 102, 3) := dk_180 0 102 (dk_at dksX4_reckons_5 4 rfl rfl)
theorem dX4_reckons_126 : decode cX4_reckons 126 = .ok (.iload_n 2, 1) := dk_28 (dk_at dksX4_reckons_5 7 rfl rfl)
theorem dX4_reckons_127 : decode cX4_reckons 127 = .ok (.iconst 1, 1) := dk_4 (dk_at dksX4_reckons_5 8 rfl rfl)
theorem dX4_reckons_128 : decode cX4_reckons 128 = .ok (.isub, 1) := dk_100 (dk_at dksX4_reckons_5 9 rfl rfl)
theorem dX4_reckons_129 : decode cX4_reckons 129 = .ok (.iaload, 1) := dk_46 (dk_at dksX4_reckons_5 10 rfl rfl)
theorem dX4_reckons_130 : decode cX4_reckons 130 = .ok (.aload_n 0, 1) := dk_42 (dk_at dksX4_reckons_5 11 rfl rfl)
theorem dX4_reckons_131 : decode cX4_reckons 131 = .ok (.getfield 102, 3) := dk_180 0 102 (dk_at dksX4_reckons_5 12 rfl rfl)
theorem dX4_reckons_134 : decode cX4_reckons 134 = .ok (.iload_n 2, 1) := dk_28 (dk_at dksX4_reckons_5 15 rfl rfl)
theorem dX4_reckons_135 : decode cX4_reckons 135 = .ok (.iaload, 1) := dk_46 (dk_at dksX4_reckons_5 16 rfl rfl)
theorem dX4_reckons_136 : decode cX4_reckons 136 = .ok (.invokestatic 337, 3) := dk_184 1 81 (dk_at dksX4_reckons_5 17 rfl rfl)
theorem dX4_reckons_139 : decode cX4_reckons 139 = .ok (.iastore, 1) := dk_79 (dk_at dksX4_reckons_5 20 rfl rfl)
theorem dX4_reckons_140 : decode cX4_reckons 140 = .ok (.goto (-136), 3) := dk_167 255 120 (dk_at dksX4_reckons_5 21 rfl rfl)
theorem dX4_reckons_143 : decode cX4_reckons 143 = .ok (.aload_n 0, 1) := dk_42 (dk_at dksX4_reckons_6 0 rfl rfl)
theorem dX4_reckons_144 : decode cX4_reckons 144 = .ok (.getfield 102, 3) := dk_180 0 102 (dk_at dksX4_reckons_6 1 rfl rfl)
theorem dX4_reckons_147 : decode cX4_reckons 147 = .ok (.iconst 0, 1) := dk_3 (dk_at dksX4_reckons_6 4 rfl rfl)
theorem dX4_reckons_148 : decode cX4_reckons 148 = .ok (.iaload, 1) := dk_46 (dk_at dksX4_reckons_6 5 rfl rfl)
theorem dX4_reckons_149 : decode cX4_reckons 149 = .ok (.ireturn, 1) := dk_172 (dk_at dksX4_reckons_6 6 rfl rfl)
abbrev cX4_works : ByteArray := prog_14_method_56_code
def yX4_works : MethodName := ⟨RX4, "works", "(III)I"⟩
def dkwX4_works_5 : List UInt8 := [167, 0, 6, 27, 28, 108, 172]
abbrev dktX4_works_5 : List UInt8 := dkwX4_works_5 ++ []
def dkwX4_works_4 : List UInt8 := [167, 0, 4, 3, 172, 27, 28, 96, 172, 27, 28, 100, 172, 27, 28, 104, 172, 28, 154, 0, 7, 3]
abbrev dktX4_works_4 : List UInt8 := dkwX4_works_4 ++ dktX4_works_5
def dkwX4_works_3 : List UInt8 := [167, 0, 4, 3, 172, 27, 28, 162, 0, 7, 4, 167, 0, 4, 3, 172, 27, 28, 160, 0, 7, 4]
abbrev dktX4_works_3 : List UInt8 := dkwX4_works_3 ++ dktX4_works_4
def dkwX4_works_2 : List UInt8 := [27, 153, 0, 11, 28, 153, 0, 7, 4, 167, 0, 4, 3, 172, 27, 154, 0, 7, 28, 153, 0, 7, 4]
abbrev dktX4_works_2 : List UInt8 := dkwX4_works_2 ++ dktX4_works_3
def dkwX4_works_1 : List UInt8 := [170, 0, 0, 0, 0, 0, 105, 0, 0, 0, 4, 0, 0, 0, 10, 0, 0, 0, 43, 0, 0, 0, 57, 0, 0, 0, 71, 0, 0, 0, 82, 0, 0, 0, 93, 0, 0, 0, 97, 0, 0, 0, 101]
abbrev dktX4_works_1 : List UInt8 := dkwX4_works_1 ++ dktX4_works_2
def dkwX4_works_0 : List UInt8 := [26]
abbrev dktX4_works_0 : List UInt8 := dkwX4_works_0 ++ dktX4_works_1
theorem dksX4_works_0 : cX4_works.data.toList.drop 0 = dktX4_works_0 := by decide +kernel
theorem dksX4_works_1 : cX4_works.data.toList.drop 1 = dktX4_works_1 := dk_seg dksX4_works_0 1 rfl rfl
theorem dksX4_works_2 : cX4_works.data.toList.drop 44 = dktX4_works_2 := dk_seg dksX4_works_1 43 rfl rfl
theorem dksX4_works_3 : cX4_works.data.toList.drop 67 = dktX4_works_3 := dk_seg dksX4_works_2 23 rfl rfl
theorem dksX4_works_4 : cX4_works.data.toList.drop 89 = dktX4_works_4 := dk_seg dksX4_works_3 22 rfl rfl
theorem dksX4_works_5 : cX4_works.data.toList.drop 111 = dktX4_works_5 := dk_seg dksX4_works_4 22 rfl rfl
theorem dX4_works_0 : decode cX4_works 0 = .ok (.iload_n 0, 1) := dk_26 (dk_at dksX4_works_0 0 rfl rfl)
theorem dX4_works_1 : decode cX4_works 1 = .ok (.tableswitch 105 4 10 #[43, 57, 71, 82, 93, 97, 101], 43) := by decide +kernel
theorem dX4_works_44 : decode cX4_works 44 = .ok (.iload_n 1, 1) := dk_27 (dk_at dksX4_works_2 0 rfl rfl)
theorem dX4_works_45 : decode cX4_works 45 = .ok (.ifCond .eq 11, 3) := dk_153 0 11 (dk_at dksX4_works_2 1 rfl rfl)
theorem dX4_works_48 : decode cX4_works 48 = .ok (.iload_n 2, 1) := dk_28 (dk_at dksX4_works_2 4 rfl rfl)
theorem dX4_works_49 : decode cX4_works 49 = .ok (.ifCond .eq 7, 3) := dk_153 0 7 (dk_at dksX4_works_2 5 rfl rfl)
theorem dX4_works_52 : decode cX4_works 52 = .ok (.iconst 1, 1) := dk_4 (dk_at dksX4_works_2 8 rfl rfl)
theorem dX4_works_53 : decode cX4_works 53 = .ok (.goto 4, 3) := dk_167 0 4 (dk_at dksX4_works_2 9 rfl rfl)
theorem dX4_works_56 : decode cX4_works 56 = .ok (.iconst 0, 1) := dk_3 (dk_at dksX4_works_2 12 rfl rfl)
theorem dX4_works_57 : decode cX4_works 57 = .ok (.ireturn, 1) := dk_172 (dk_at dksX4_works_2 13 rfl rfl)
theorem dX4_works_58 : decode cX4_works 58 = .ok (.iload_n 1, 1) := dk_27 (dk_at dksX4_works_2 14 rfl rfl)
theorem dX4_works_59 : decode cX4_works 59 = .ok (.ifCond .ne 7, 3) := dk_154 0 7 (dk_at dksX4_works_2 15 rfl rfl)
theorem dX4_works_62 : decode cX4_works 62 = .ok (.iload_n 2, 1) := dk_28 (dk_at dksX4_works_2 18 rfl rfl)
theorem dX4_works_63 : decode cX4_works 63 = .ok (.ifCond .eq 7, 3) := dk_153 0 7 (dk_at dksX4_works_2 19 rfl rfl)
theorem dX4_works_66 : decode cX4_works 66 = .ok (.iconst 1, 1) := dk_4 (dk_at dksX4_works_2 22 rfl rfl)
theorem dX4_works_67 : decode cX4_works 67 = .ok (.goto 4, 3) := dk_167 0 4 (dk_at dksX4_works_3 0 rfl rfl)
theorem dX4_works_70 : decode cX4_works 70 = .ok (.iconst 0, 1) := dk_3 (dk_at dksX4_works_3 3 rfl rfl)
theorem dX4_works_71 : decode cX4_works 71 = .ok (.ireturn, 1) := dk_172 (dk_at dksX4_works_3 4 rfl rfl)
theorem dX4_works_72 : decode cX4_works 72 = .ok (.iload_n 1, 1) := dk_27 (dk_at dksX4_works_3 5 rfl rfl)
theorem dX4_works_73 : decode cX4_works 73 = .ok (.iload_n 2, 1) := dk_28 (dk_at dksX4_works_3 6 rfl rfl)
theorem dX4_works_74 : decode cX4_works 74 = .ok (.if_icmp .ge 7, 3) := dk_162 0 7 (dk_at dksX4_works_3 7 rfl rfl)
theorem dX4_works_77 : decode cX4_works 77 = .ok (.iconst 1, 1) := dk_4 (dk_at dksX4_works_3 10 rfl rfl)
theorem dX4_works_78 : decode cX4_works 78 = .ok (.goto 4, 3) := dk_167 0 4 (dk_at dksX4_works_3 11 rfl rfl)
theorem dX4_works_81 : decode cX4_works 81 = .ok (.iconst 0, 1) := dk_3 (dk_at dksX4_works_3 14 rfl rfl)
theorem dX4_works_82 : decode cX4_works 82 = .ok (.ireturn, 1) := dk_172 (dk_at dksX4_works_3 15 rfl rfl)
theorem dX4_works_83 : decode cX4_works 83 = .ok (.iload_n 1, 1) := dk_27 (dk_at dksX4_works_3 16 rfl rfl)
theorem dX4_works_84 : decode cX4_works 84 = .ok (.iload_n 2, 1) := dk_28 (dk_at dksX4_works_3 17 rfl rfl)
theorem dX4_works_85 : decode cX4_works 85 = .ok (.if_icmp .ne 7, 3) := dk_160 0 7 (dk_at dksX4_works_3 18 rfl rfl)
theorem dX4_works_88 : decode cX4_works 88 = .ok (.iconst 1, 1) := dk_4 (dk_at dksX4_works_3 21 rfl rfl)
theorem dX4_works_89 : decode cX4_works 89 = .ok (.goto 4, 3) := dk_167 0 4 (dk_at dksX4_works_4 0 rfl rfl)
theorem dX4_works_92 : decode cX4_works 92 = .ok (.iconst 0, 1) := dk_3 (dk_at dksX4_works_4 3 rfl rfl)
theorem dX4_works_93 : decode cX4_works 93 = .ok (.ireturn, 1) := dk_172 (dk_at dksX4_works_4 4 rfl rfl)
theorem dX4_works_94 : decode cX4_works 94 = .ok (.iload_n 1, 1) := dk_27 (dk_at dksX4_works_4 5 rfl rfl)
theorem dX4_works_95 : decode cX4_works 95 = .ok (.iload_n 2, 1) := dk_28 (dk_at dksX4_works_4 6 rfl rfl)
theorem dX4_works_96 : decode cX4_works 96 = .ok (.iadd, 1) := dk_96 (dk_at dksX4_works_4 7 rfl rfl)
theorem dX4_works_97 : decode cX4_works 97 = .ok (.ireturn, 1) := dk_172 (dk_at dksX4_works_4 8 rfl rfl)
theorem dX4_works_98 : decode cX4_works 98 = .ok (.iload_n 1, 1) := dk_27 (dk_at dksX4_works_4 9 rfl rfl)
theorem dX4_works_99 : decode cX4_works 99 = .ok (.iload_n 2, 1) := dk_28 (dk_at dksX4_works_4 10 rfl rfl)
theorem dX4_works_100 : decode cX4_works 100 = .ok (.isub, 1) := dk_100 (dk_at dksX4_works_4 11 rfl rfl)
theorem dX4_works_101 : decode cX4_works 101 = .ok (.ireturn, 1) := dk_172 (dk_at dksX4_works_4 12 rfl rfl)
theorem dX4_works_102 : decode cX4_works 102 = .ok (.iload_n 1, 1) := dk_27 (dk_at dksX4_works_4 13 rfl rfl)
theorem dX4_works_103 : decode cX4_works 103 = .ok (.iload_n 2, 1) := dk_28 (dk_at dksX4_works_4 14 rfl rfl)
theorem dX4_works_104 : decode cX4_works 104 = .ok (.imul, 1) := dk_104 (dk_at dksX4_works_4 15 rfl rfl)
theorem dX4_works_105 : decode cX4_works 105 = .ok (.ireturn, 1) := dk_172 (dk_at dksX4_works_4 16 rfl rfl)
theorem dX4_works_106 : decode cX4_works 106 = .ok (.iload_n 2, 1) := dk_28 (dk_at dksX4_works_4 17 rfl rfl)
theorem dX4_works_107 : decode cX4_works 107 = .ok (.ifCond .ne 7, 3) := dk_154 0 7 (dk_at dksX4_works_4 18 rfl rfl)
theorem dX4_works_110 : decode cX4_works 110 = .ok (.iconst 0, 1) := dk_3 (dk_at dksX4_works_4 21 rfl rfl)
theorem dX4_works_111 : decode cX4_works 111 = .ok (.goto 6, 3) := dk_167 0 6 (dk_at dksX4_works_5 0 rfl rfl)
theorem dX4_works_114 : decode cX4_works 114 = .ok (.iload_n 1, 1) := dk_27 (dk_at dksX4_works_5 3 rfl rfl)
theorem dX4_works_115 : decode cX4_works 115 = .ok (.iload_n 2, 1) := dk_28 (dk_at dksX4_works_5 4 rfl rfl)
theorem dX4_works_116 : decode cX4_works 116 = .ok (.idiv, 1) := dk_108 (dk_at dksX4_works_5 5 rfl rfl)
theorem dX4_works_117 : decode cX4_works 117 = .ok (.ireturn, 1) := dk_172 (dk_at dksX4_works_5 6 rfl rfl)
abbrev cX4_aims : ByteArray := prog_14_method_60_code
def yX4_aims : MethodName := ⟨RX4, "aims", "([II)I"⟩
def dkwX4_aims_3 : List UInt8 := [132, 5, 1, 167, 255, 189, 29, 172]
abbrev dktX4_aims_3 : List UInt8 := dkwX4_aims_3 ++ []
def dkwX4_aims_2 : List UInt8 := [54, 6, 29, 2, 159, 0, 13, 21, 6, 21, 4, 163, 0, 6, 167, 0, 10, 21, 5, 62, 21, 6, 54, 4]
abbrev dktX4_aims_2 : List UInt8 := dkwX4_aims_2 ++ dktX4_aims_3
def dkwX4_aims_1 : List UInt8 := [42, 180, 0, 13, 21, 5, 46, 4, 28, 100, 159, 0, 6, 167, 0, 35, 42, 43, 28, 21, 5, 182, 1, 90]
abbrev dktX4_aims_1 : List UInt8 := dkwX4_aims_1 ++ dktX4_aims_2
def dkwX4_aims_0 : List UInt8 := [2, 62, 3, 54, 4, 3, 54, 5, 21, 5, 42, 180, 1, 21, 162, 0, 64, 43, 21, 5, 46, 154, 0, 51]
abbrev dktX4_aims_0 : List UInt8 := dkwX4_aims_0 ++ dktX4_aims_1
theorem dksX4_aims_0 : cX4_aims.data.toList.drop 0 = dktX4_aims_0 := by decide +kernel
theorem dksX4_aims_1 : cX4_aims.data.toList.drop 24 = dktX4_aims_1 := dk_seg dksX4_aims_0 24 rfl rfl
theorem dksX4_aims_2 : cX4_aims.data.toList.drop 48 = dktX4_aims_2 := dk_seg dksX4_aims_1 24 rfl rfl
theorem dksX4_aims_3 : cX4_aims.data.toList.drop 72 = dktX4_aims_3 := dk_seg dksX4_aims_2 24 rfl rfl
theorem dX4_aims_0 : decode cX4_aims 0 = .ok (.iconst (-1), 1) := dk_2 (dk_at dksX4_aims_0 0 rfl rfl)
theorem dX4_aims_1 : decode cX4_aims 1 = .ok (.istore_n 3, 1) := dk_62 (dk_at dksX4_aims_0 1 rfl rfl)
theorem dX4_aims_2 : decode cX4_aims 2 = .ok (.iconst 0, 1) := dk_3 (dk_at dksX4_aims_0 2 rfl rfl)
theorem dX4_aims_3 : decode cX4_aims 3 = .ok (.istore 4, 2) := dk_54 4 (dk_at dksX4_aims_0 3 rfl rfl)
theorem dX4_aims_5 : decode cX4_aims 5 = .ok (.iconst 0, 1) := dk_3 (dk_at dksX4_aims_0 5 rfl rfl)
theorem dX4_aims_6 : decode cX4_aims 6 = .ok (.istore 5, 2) := dk_54 5 (dk_at dksX4_aims_0 6 rfl rfl)
theorem dX4_aims_8 : decode cX4_aims 8 = .ok (.iload 5, 2) := dk_21 5 (dk_at dksX4_aims_0 8 rfl rfl)
theorem dX4_aims_10 : decode cX4_aims 10 = .ok (.aload_n 0, 1) := dk_42 (dk_at dksX4_aims_0 10 rfl rfl)
theorem dX4_aims_11 : decode cX4_aims 11 = .ok (.getfield 277, 3) := dk_180 1 21 (dk_at dksX4_aims_0 11 rfl rfl)
theorem dX4_aims_14 : decode cX4_aims 14 = .ok (.if_icmp .ge 64, 3) := dk_162 0 64 (dk_at dksX4_aims_0 14 rfl rfl)
theorem dX4_aims_17 : decode cX4_aims 17 = .ok (.aload_n 1, 1) := dk_43 (dk_at dksX4_aims_0 17 rfl rfl)
theorem dX4_aims_18 : decode cX4_aims 18 = .ok (.iload 5, 2) := dk_21 5 (dk_at dksX4_aims_0 18 rfl rfl)
theorem dX4_aims_20 : decode cX4_aims 20 = .ok (.iaload, 1) := dk_46 (dk_at dksX4_aims_0 20 rfl rfl)
theorem dX4_aims_21 : decode cX4_aims 21 = .ok (.ifCond .ne 51, 3) := dk_154 0 51 (dk_at dksX4_aims_0 21 rfl rfl)
theorem dX4_aims_24 : decode cX4_aims 24 = .ok (.aload_n 0, 1) := dk_42 (dk_at dksX4_aims_1 0 rfl rfl)
theorem dX4_aims_25 : decode cX4_aims 25 = .ok (.getfield 13, 3) := dk_180 0 13 (dk_at dksX4_aims_1 1 rfl rfl)
theorem dX4_aims_28 : decode cX4_aims 28 = .ok (.iload 5, 2) := dk_21 5 (dk_at dksX4_aims_1 4 rfl rfl)
theorem dX4_aims_30 : decode cX4_aims 30 = .ok (.iaload, 1) := dk_46 (dk_at dksX4_aims_1 6 rfl rfl)
theorem dX4_aims_31 : decode cX4_aims 31 = .ok (.iconst 1, 1) := dk_4 (dk_at dksX4_aims_1 7 rfl rfl)
theorem dX4_aims_32 : decode cX4_aims 32 = .ok (.iload_n 2, 1) := dk_28 (dk_at dksX4_aims_1 8 rfl rfl)
theorem dX4_aims_33 : decode cX4_aims 33 = .ok (.isub, 1) := dk_100 (dk_at dksX4_aims_1 9 rfl rfl)
theorem dX4_aims_34 : decode cX4_aims 34 = .ok (.if_icmp .eq 6, 3) := dk_159 0 6 (dk_at dksX4_aims_1 10 rfl rfl)
theorem dX4_aims_37 : decode cX4_aims 37 = .ok (.goto 35, 3) := dk_167 0 35 (dk_at dksX4_aims_1 13 rfl rfl)
theorem dX4_aims_40 : decode cX4_aims 40 = .ok (.aload_n 0, 1) := dk_42 (dk_at dksX4_aims_1 16 rfl rfl)
theorem dX4_aims_41 : decode cX4_aims 41 = .ok (.aload_n 1, 1) := dk_43 (dk_at dksX4_aims_1 17 rfl rfl)
theorem dX4_aims_42 : decode cX4_aims 42 = .ok (.iload_n 2, 1) := dk_28 (dk_at dksX4_aims_1 18 rfl rfl)
theorem dX4_aims_43 : decode cX4_aims 43 = .ok (.iload 5, 2) := dk_21 5 (dk_at dksX4_aims_1 19 rfl rfl)
theorem dX4_aims_45 : decode cX4_aims 45 = .ok (.invokevirtual 346, 3) := dk_182 1 90 (dk_at dksX4_aims_1 21 rfl rfl)
theorem dX4_aims_48 : decode cX4_aims 48 = .ok (.istore 6, 2) := dk_54 6 (dk_at dksX4_aims_2 0 rfl rfl)
theorem dX4_aims_50 : decode cX4_aims 50 = .ok (.iload_n 3, 1) := dk_29 (dk_at dksX4_aims_2 2 rfl rfl)
theorem dX4_aims_51 : decode cX4_aims 51 = .ok (.iconst (-1), 1) := dk_2 (dk_at dksX4_aims_2 3 rfl rfl)
theorem dX4_aims_52 : decode cX4_aims 52 = .ok (.if_icmp .eq 13, 3) := dk_159 0 13 (dk_at dksX4_aims_2 4 rfl rfl)
theorem dX4_aims_55 : decode cX4_aims 55 = .ok (.iload 6, 2) := dk_21 6 (dk_at dksX4_aims_2 7 rfl rfl)
theorem dX4_aims_57 : decode cX4_aims 57 = .ok (.iload 4, 2) := dk_21 4 (dk_at dksX4_aims_2 9 rfl rfl)
theorem dX4_aims_59 : decode cX4_aims 59 = .ok (.if_icmp .gt 6, 3) := dk_163 0 6 (dk_at dksX4_aims_2 11 rfl rfl)
theorem dX4_aims_62 : decode cX4_aims 62 = .ok (.goto 10, 3) := dk_167 0 10 (dk_at dksX4_aims_2 14 rfl rfl)
theorem dX4_aims_65 : decode cX4_aims 65 = .ok (.iload 5, 2) := dk_21 5 (dk_at dksX4_aims_2 17 rfl rfl)
theorem dX4_aims_67 : decode cX4_aims 67 = .ok (.istore_n 3, 1) := dk_62 (dk_at dksX4_aims_2 19 rfl rfl)
theorem dX4_aims_68 : decode cX4_aims 68 = .ok (.iload 6, 2) := dk_21 6 (dk_at dksX4_aims_2 20 rfl rfl)
theorem dX4_aims_70 : decode cX4_aims 70 = .ok (.istore 4, 2) := dk_54 4 (dk_at dksX4_aims_2 22 rfl rfl)
theorem dX4_aims_72 : decode cX4_aims 72 = .ok (.iinc 5 1, 3) := dk_132 5 1 (dk_at dksX4_aims_3 0 rfl rfl)
theorem dX4_aims_75 : decode cX4_aims 75 = .ok (.goto (-67), 3) := dk_167 255 189 (dk_at dksX4_aims_3 3 rfl rfl)
theorem dX4_aims_78 : decode cX4_aims 78 = .ok (.iload_n 3, 1) := dk_29 (dk_at dksX4_aims_3 6 rfl rfl)
theorem dX4_aims_79 : decode cX4_aims 79 = .ok (.ireturn, 1) := dk_172 (dk_at dksX4_aims_3 7 rfl rfl)
abbrev cX4_aimsFor : ByteArray := prog_14_method_59_code
def yX4_aimsFor : MethodName := ⟨RX4, "aimsFor", "([III)I"⟩
def dkwX4_aimsFor_5 : List UInt8 := [42, 180, 0, 38, 5, 28, 96, 46, 182, 1, 87, 172]
abbrev dktX4_aimsFor_5 : List UInt8 := dkwX4_aimsFor_5 ++ []
def dkwX4_aimsFor_4 : List UInt8 := [180, 0, 17, 29, 46, 79, 42, 180, 0, 99, 16, 8, 29, 79, 42, 180, 0, 99, 16, 9, 21, 4, 79, 42]
abbrev dktX4_aimsFor_4 : List UInt8 := dkwX4_aimsFor_4 ++ dktX4_aimsFor_5
def dkwX4_aimsFor_3 : List UInt8 := [167, 255, 211, 42, 180, 0, 99, 16, 6, 42, 180, 0, 26, 29, 46, 79, 42, 180, 0, 99, 16, 7, 42]
abbrev dktX4_aimsFor_3 : List UInt8 := dkwX4_aimsFor_3 ++ dktX4_aimsFor_4
def dkwX4_aimsFor_2 : List UInt8 := [21, 5, 46, 42, 180, 0, 17, 29, 46, 160, 0, 7, 4, 167, 0, 4, 3, 96, 54, 4, 132, 5, 1]
abbrev dktX4_aimsFor_2 : List UInt8 := dkwX4_aimsFor_2 ++ dktX4_aimsFor_3
def dkwX4_aimsFor_1 : List UInt8 := [54, 5, 21, 5, 42, 180, 1, 21, 162, 0, 42, 21, 4, 43, 21, 5, 46, 154, 0, 23, 42, 180, 0, 17]
abbrev dktX4_aimsFor_1 : List UInt8 := dkwX4_aimsFor_1 ++ dktX4_aimsFor_2
def dkwX4_aimsFor_0 : List UInt8 := [42, 180, 0, 38, 5, 28, 96, 46, 2, 160, 0, 10, 42, 180, 0, 26, 29, 46, 172, 3, 54, 4, 3]
abbrev dktX4_aimsFor_0 : List UInt8 := dkwX4_aimsFor_0 ++ dktX4_aimsFor_1
theorem dksX4_aimsFor_0 : cX4_aimsFor.data.toList.drop 0 = dktX4_aimsFor_0 := by decide +kernel
theorem dksX4_aimsFor_1 : cX4_aimsFor.data.toList.drop 23 = dktX4_aimsFor_1 := dk_seg dksX4_aimsFor_0 23 rfl rfl
theorem dksX4_aimsFor_2 : cX4_aimsFor.data.toList.drop 47 = dktX4_aimsFor_2 := dk_seg dksX4_aimsFor_1 24 rfl rfl
theorem dksX4_aimsFor_3 : cX4_aimsFor.data.toList.drop 70 = dktX4_aimsFor_3 := dk_seg dksX4_aimsFor_2 23 rfl rfl
theorem dksX4_aimsFor_4 : cX4_aimsFor.data.toList.drop 93 = dktX4_aimsFor_4 := dk_seg dksX4_aimsFor_3 23 rfl rfl
theorem dksX4_aimsFor_5 : cX4_aimsFor.data.toList.drop 117 = dktX4_aimsFor_5 := dk_seg dksX4_aimsFor_4 24 rfl rfl
theorem dX4_aimsFor_0 : decode cX4_aimsFor 0 = .ok (.aload_n 0, 1) := dk_42 (dk_at dksX4_aimsFor_0 0 rfl rfl)
theorem dX4_aimsFor_1 : decode cX4_aimsFor 1 = .ok (.getfield 38, 3) := dk_180 0 38 (dk_at dksX4_aimsFor_0 1 rfl rfl)
theorem dX4_aimsFor_4 : decode cX4_aimsFor 4 = .ok (.iconst 2, 1) := dk_5 (dk_at dksX4_aimsFor_0 4 rfl rfl)
theorem dX4_aimsFor_5 : decode cX4_aimsFor 5 = .ok (.iload_n 2, 1) := dk_28 (dk_at dksX4_aimsFor_0 5 rfl rfl)
theorem dX4_aimsFor_6 : decode cX4_aimsFor 6 = .ok (.iadd, 1) := dk_96 (dk_at dksX4_aimsFor_0 6 rfl rfl)
theorem dX4_aimsFor_7 : decode cX4_aimsFor 7 = .ok (.iaload, 1) := dk_46 (dk_at dksX4_aimsFor_0 7 rfl rfl)
theorem dX4_aimsFor_8 : decode cX4_aimsFor 8 = .ok (.iconst (-1), 1) := dk_2 (dk_at dksX4_aimsFor_0 8 rfl rfl)
theorem dX4_aimsFor_9 : decode cX4_aimsFor 9 = .ok (.if_icmp .ne 10, 3) := dk_160 0 10 (dk_at dksX4_aimsFor_0 9 rfl rfl)
theorem dX4_aimsFor_12 : decode cX4_aimsFor 12 = .ok (.aload_n 0, 1) := dk_42 (dk_at dksX4_aimsFor_0 12 rfl rfl)
theorem dX4_aimsFor_13 : decode cX4_aimsFor 13 = .ok (.getfield 26, 3) := dk_180 0 26 (dk_at dksX4_aimsFor_0 13 rfl rfl)
theorem dX4_aimsFor_16 : decode cX4_aimsFor 16 = .ok (.iload_n 3, 1) := dk_29 (dk_at dksX4_aimsFor_0 16 rfl rfl)
theorem dX4_aimsFor_17 : decode cX4_aimsFor 17 = .ok (.iaload, 1) := dk_46 (dk_at dksX4_aimsFor_0 17 rfl rfl)
theorem dX4_aimsFor_18 : decode cX4_aimsFor 18 = .ok (.ireturn, 1) := dk_172 (dk_at dksX4_aimsFor_0 18 rfl rfl)
theorem dX4_aimsFor_19 : decode cX4_aimsFor 19 = .ok (.iconst 0, 1) := dk_3 (dk_at dksX4_aimsFor_0 19 rfl rfl)
theorem dX4_aimsFor_20 : decode cX4_aimsFor 20 = .ok (.istore 4, 2) := dk_54 4 (dk_at dksX4_aimsFor_0 20 rfl rfl)
theorem dX4_aimsFor_22 : decode cX4_aimsFor 22 = .ok (.iconst 0, 1) := dk_3 (dk_at dksX4_aimsFor_0 22 rfl rfl)
theorem dX4_aimsFor_23 : decode cX4_aimsFor 23 = .ok (.istore 5, 2) := dk_54 5 (dk_at dksX4_aimsFor_1 0 rfl rfl)
theorem dX4_aimsFor_25 : decode cX4_aimsFor 25 = .ok (.iload 5, 2) := dk_21 5 (dk_at dksX4_aimsFor_1 2 rfl rfl)
theorem dX4_aimsFor_27 : decode cX4_aimsFor 27 = .ok (.aload_n 0, 1) := dk_42 (dk_at dksX4_aimsFor_1 4 rfl rfl)
theorem dX4_aimsFor_28 : decode cX4_aimsFor 28 = .ok (.getfield 277, 3) := dk_180 1 21 (dk_at dksX4_aimsFor_1 5 rfl rfl)
theorem dX4_aimsFor_31 : decode cX4_aimsFor 31 = .ok (.if_icmp .ge 42, 3) := dk_162 0 42 (dk_at dksX4_aimsFor_1 8 rfl rfl)
theorem dX4_aimsFor_34 : decode cX4_aimsFor 34 = .ok (.iload 4, 2) := dk_21 4 (dk_at dksX4_aimsFor_1 11 rfl rfl)
theorem dX4_aimsFor_36 : decode cX4_aimsFor 36 = .ok (.aload_n 1, 1) := dk_43 (dk_at dksX4_aimsFor_1 13 rfl rfl)
theorem dX4_aimsFor_37 : decode cX4_aimsFor 37 = .ok (.iload 5, 2) := dk_21 5 (dk_at dksX4_aimsFor_1 14 rfl rfl)
theorem dX4_aimsFor_39 : decode cX4_aimsFor 39 = .ok (.iaload, 1) := dk_46 (dk_at dksX4_aimsFor_1 16 rfl rfl)
theorem dX4_aimsFor_40 : decode cX4_aimsFor 40 = .ok (.ifCond .ne 23, 3) := dk_154 0 23 (dk_at dksX4_aimsFor_1 17 rfl rfl)
theorem dX4_aimsFor_43 : decode cX4_aimsFor 43 = .ok (.aload_n 0, 1) := dk_42 (dk_at dksX4_aimsFor_1 20 rfl rfl)
theorem dX4_aimsFor_44 : decode cX4_aimsFor 44 = .ok (.getfield 17, 3) := dk_180 0 17 (dk_at dksX4_aimsFor_1 21 rfl rfl)
theorem dX4_aimsFor_47 : decode cX4_aimsFor 47 = .ok (.iload 5, 2) := dk_21 5 (dk_at dksX4_aimsFor_2 0 rfl rfl)
theorem dX4_aimsFor_49 : decode cX4_aimsFor 49 = .ok (.iaload, 1) := dk_46 (dk_at dksX4_aimsFor_2 2 rfl rfl)
theorem dX4_aimsFor_50 : decode cX4_aimsFor 50 = .ok (.aload_n 0, 1) := dk_42 (dk_at dksX4_aimsFor_2 3 rfl rfl)
theorem dX4_aimsFor_51 : decode cX4_aimsFor 51 = .ok (.getfield 17, 3) := dk_180 0 17 (dk_at dksX4_aimsFor_2 4 rfl rfl)
theorem dX4_aimsFor_54 : decode cX4_aimsFor 54 = .ok (.iload_n 3, 1) := dk_29 (dk_at dksX4_aimsFor_2 7 rfl rfl)
theorem dX4_aimsFor_55 : decode cX4_aimsFor 55 = .ok (.iaload, 1) := dk_46 (dk_at dksX4_aimsFor_2 8 rfl rfl)
theorem dX4_aimsFor_56 : decode cX4_aimsFor 56 = .ok (.if_icmp .ne 7, 3) := dk_160 0 7 (dk_at dksX4_aimsFor_2 9 rfl rfl)
theorem dX4_aimsFor_59 : decode cX4_aimsFor 59 = .ok (.iconst 1, 1) := dk_4 (dk_at dksX4_aimsFor_2 12 rfl rfl)
theorem dX4_aimsFor_60 : decode cX4_aimsFor 60 = .ok (.goto 4, 3) := dk_167 0 4 (dk_at dksX4_aimsFor_2 13 rfl rfl)
theorem dX4_aimsFor_63 : decode cX4_aimsFor 63 = .ok (.iconst 0, 1) := dk_3 (dk_at dksX4_aimsFor_2 16 rfl rfl)
theorem dX4_aimsFor_64 : decode cX4_aimsFor 64 = .ok (.iadd, 1) := dk_96 (dk_at dksX4_aimsFor_2 17 rfl rfl)
theorem dX4_aimsFor_65 : decode cX4_aimsFor 65 = .ok (.istore 4, 2) := dk_54 4 (dk_at dksX4_aimsFor_2 18 rfl rfl)
theorem dX4_aimsFor_67 : decode cX4_aimsFor 67 = .ok (.iinc 5 1, 3) := dk_132 5 1 (dk_at dksX4_aimsFor_2 20 rfl rfl)
theorem dX4_aimsFor_70 : decode cX4_aimsFor 70 = .ok (.goto (-45), 3) := dk_167 255 211 (dk_at dksX4_aimsFor_3 0 rfl rfl)
theorem dX4_aimsFor_73 : decode cX4_aimsFor 73 = .ok (.aload_n 0, 1) := dk_42 (dk_at dksX4_aimsFor_3 3 rfl rfl)
theorem dX4_aimsFor_74 : decode cX4_aimsFor 74 = .ok (.getfield 99, 3) := dk_180 0 99 (dk_at dksX4_aimsFor_3 4 rfl rfl)
theorem dX4_aimsFor_77 : decode cX4_aimsFor 77 = .ok (.bipush 6, 2) := dk_16 6 (dk_at dksX4_aimsFor_3 7 rfl rfl)
theorem dX4_aimsFor_79 : decode cX4_aimsFor 79 = .ok (.aload_n 0, 1) := dk_42 (dk_at dksX4_aimsFor_3 9 rfl rfl)
theorem dX4_aimsFor_80 : decode cX4_aimsFor 80 = .ok (.getfield 26, 3) := dk_180 0 26 (dk_at dksX4_aimsFor_3 10 rfl rfl)
theorem dX4_aimsFor_83 : decode cX4_aimsFor 83 = .ok (.iload_n 3, 1) := dk_29 (dk_at dksX4_aimsFor_3 13 rfl rfl)
theorem dX4_aimsFor_84 : decode cX4_aimsFor 84 = .ok (.iaload, 1) := dk_46 (dk_at dksX4_aimsFor_3 14 rfl rfl)
theorem dX4_aimsFor_85 : decode cX4_aimsFor 85 = .ok (.iastore, 1) := dk_79 (dk_at dksX4_aimsFor_3 15 rfl rfl)
theorem dX4_aimsFor_86 : decode cX4_aimsFor 86 = .ok (.aload_n 0, 1) := dk_42 (dk_at dksX4_aimsFor_3 16 rfl rfl)
theorem dX4_aimsFor_87 : decode cX4_aimsFor 87 = .ok (.getfield 99, 3) := dk_180 0 99 (dk_at dksX4_aimsFor_3 17 rfl rfl)
theorem dX4_aimsFor_90 : decode cX4_aimsFor 90 = .ok (.bipush 7, 2) := dk_16 7 (dk_at dksX4_aimsFor_3 20 rfl rfl)
theorem dX4_aimsFor_92 : decode cX4_aimsFor 92 = .ok (.aload_n 0, 1) := dk_42 (dk_at dksX4_aimsFor_3 22 rfl rfl)
theorem dX4_aimsFor_93 : decode cX4_aimsFor 93 = .ok (.getfield 17, 3) := dk_180 0 17 (dk_at dksX4_aimsFor_4 0 rfl rfl)
theorem dX4_aimsFor_96 : decode cX4_aimsFor 96 = .ok (.iload_n 3, 1) := dk_29 (dk_at dksX4_aimsFor_4 3 rfl rfl)
theorem dX4_aimsFor_97 : decode cX4_aimsFor 97 = .ok (.iaload, 1) := dk_46 (dk_at dksX4_aimsFor_4 4 rfl rfl)
theorem dX4_aimsFor_98 : decode cX4_aimsFor 98 = .ok (.iastore, 1) := dk_79 (dk_at dksX4_aimsFor_4 5 rfl rfl)
theorem dX4_aimsFor_99 : decode cX4_aimsFor 99 = .ok (.aload_n 0, 1) := dk_42 (dk_at dksX4_aimsFor_4 6 rfl rfl)
theorem dX4_aimsFor_100 : decode cX4_aimsFor 100 = .ok (.getfield 99, 3) := dk_180 0 99 (dk_at dksX4_aimsFor_4 7 rfl rfl)
theorem dX4_aimsFor_103 : decode cX4_aimsFor 103 = .ok (.bipush 8, 2) := dk_16 8 (dk_at dksX4_aimsFor_4 10 rfl rfl)
theorem dX4_aimsFor_105 : decode cX4_aimsFor 105 = .ok (.iload_n 3, 1) := dk_29 (dk_at dksX4_aimsFor_4 12 rfl rfl)
theorem dX4_aimsFor_106 : decode cX4_aimsFor 106 = .ok (.iastore, 1) := dk_79 (dk_at dksX4_aimsFor_4 13 rfl rfl)
theorem dX4_aimsFor_107 : decode cX4_aimsFor 107 = .ok (.aload_n 0, 1) := dk_42 (dk_at dksX4_aimsFor_4 14 rfl rfl)
theorem dX4_aimsFor_108 : decode cX4_aimsFor 108 = .ok (.getfield 99, 3) := dk_180 0 99 (dk_at dksX4_aimsFor_4 15 rfl rfl)
theorem dX4_aimsFor_111 : decode cX4_aimsFor 111 = .ok (.bipush 9, 2) := dk_16 9 (dk_at dksX4_aimsFor_4 18 rfl rfl)
theorem dX4_aimsFor_113 : decode cX4_aimsFor 113 = .ok (.iload 4, 2) := dk_21 4 (dk_at dksX4_aimsFor_4 20 rfl rfl)
theorem dX4_aimsFor_115 : decode cX4_aimsFor 115 = .ok (.iastore, 1) := dk_79 (dk_at dksX4_aimsFor_4 22 rfl rfl)
theorem dX4_aimsFor_116 : decode cX4_aimsFor 116 = .ok (.aload_n 0, 1) := dk_42 (dk_at dksX4_aimsFor_4 23 rfl rfl)
theorem dX4_aimsFor_117 : decode cX4_aimsFor 117 = .ok (.aload_n 0, 1) := dk_42 (dk_at dksX4_aimsFor_5 0 rfl rfl)
theorem dX4_aimsFor_118 : decode cX4_aimsFor 118 = .ok (.getfield 38, 3) := dk_180 0 38 (dk_at dksX4_aimsFor_5 1 rfl rfl)
theorem dX4_aimsFor_121 : decode cX4_aimsFor 121 = .ok (.iconst 2, 1) := dk_5 (dk_at dksX4_aimsFor_5 4 rfl rfl)
theorem dX4_aimsFor_122 : decode cX4_aimsFor 122 = .ok (.iload_n 2, 1) := dk_28 (dk_at dksX4_aimsFor_5 5 rfl rfl)
theorem dX4_aimsFor_123 : decode cX4_aimsFor 123 = .ok (.iadd, 1) := dk_96 (dk_at dksX4_aimsFor_5 6 rfl rfl)
theorem dX4_aimsFor_124 : decode cX4_aimsFor 124 = .ok (.iaload, 1) := dk_46 (dk_at dksX4_aimsFor_5 7 rfl rfl)
theorem dX4_aimsFor_125 : decode cX4_aimsFor 125 = .ok (.invokevirtual 343, 3) := dk_182 1 87 (dk_at dksX4_aimsFor_5 8 rfl rfl)
theorem dX4_aimsFor_128 : decode cX4_aimsFor 128 = .ok (.ireturn, 1) := dk_172 (dk_at dksX4_aimsFor_5 11 rfl rfl)
abbrev cX4_fall : ByteArray := prog_14_method_64_code
def yX4_fall : MethodName := ⟨RX4, "fall", "(I)Z"⟩
def dkwX4_fall_1 : List UInt8 := [167, 0, 4, 3, 172]
abbrev dktX4_fall_1 : List UInt8 := dkwX4_fall_1 ++ []
def dkwX4_fall_0 : List UInt8 := [42, 3, 181, 0, 120, 42, 27, 182, 1, 68, 153, 0, 17, 42, 27, 3, 5, 182, 1, 111, 153, 0, 7, 4]
abbrev dktX4_fall_0 : List UInt8 := dkwX4_fall_0 ++ dktX4_fall_1
theorem dksX4_fall_0 : cX4_fall.data.toList.drop 0 = dktX4_fall_0 := by decide +kernel
theorem dksX4_fall_1 : cX4_fall.data.toList.drop 24 = dktX4_fall_1 := dk_seg dksX4_fall_0 24 rfl rfl
theorem dX4_fall_0 : decode cX4_fall 0 = .ok (.aload_n 0, 1) := dk_42 (dk_at dksX4_fall_0 0 rfl rfl)
theorem dX4_fall_1 : decode cX4_fall 1 = .ok (.iconst 0, 1) := dk_3 (dk_at dksX4_fall_0 1 rfl rfl)
theorem dX4_fall_2 : decode cX4_fall 2 = .ok (.putfield 120, 3) := dk_181 0 120 (dk_at dksX4_fall_0 2 rfl rfl)
theorem dX4_fall_5 : decode cX4_fall 5 = .ok (.aload_n 0, 1) := dk_42 (dk_at dksX4_fall_0 5 rfl rfl)
theorem dX4_fall_6 : decode cX4_fall 6 = .ok (.iload_n 1, 1) := dk_27 (dk_at dksX4_fall_0 6 rfl rfl)
theorem dX4_fall_7 : decode cX4_fall 7 = .ok (.invokevirtual 324, 3) := dk_182 1 68 (dk_at dksX4_fall_0 7 rfl rfl)
theorem dX4_fall_10 : decode cX4_fall 10 = .ok (.ifCond .eq 17, 3) := dk_153 0 17 (dk_at dksX4_fall_0 10 rfl rfl)
theorem dX4_fall_13 : decode cX4_fall 13 = .ok (.aload_n 0, 1) := dk_42 (dk_at dksX4_fall_0 13 rfl rfl)
theorem dX4_fall_14 : decode cX4_fall 14 = .ok (.iload_n 1, 1) := dk_27 (dk_at dksX4_fall_0 14 rfl rfl)
theorem dX4_fall_15 : decode cX4_fall 15 = .ok (.iconst 0, 1) := dk_3 (dk_at dksX4_fall_0 15 rfl rfl)
theorem dX4_fall_16 : decode cX4_fall 16 = .ok (.iconst 2, 1) := dk_5 (dk_at dksX4_fall_0 16 rfl rfl)
theorem dX4_fall_17 : decode cX4_fall 17 = .ok (.invokevirtual 367, 3) := dk_182 1 111 (dk_at dksX4_fall_0 17 rfl rfl)
theorem dX4_fall_20 : decode cX4_fall 20 = .ok (.ifCond .eq 7, 3) := dk_153 0 7 (dk_at dksX4_fall_0 20 rfl rfl)
theorem dX4_fall_23 : decode cX4_fall 23 = .ok (.iconst 1, 1) := dk_4 (dk_at dksX4_fall_0 23 rfl rfl)
theorem dX4_fall_24 : decode cX4_fall 24 = .ok (.goto 4, 3) := dk_167 0 4 (dk_at dksX4_fall_1 0 rfl rfl)
theorem dX4_fall_27 : decode cX4_fall 27 = .ok (.iconst 0, 1) := dk_3 (dk_at dksX4_fall_1 3 rfl rfl)
theorem dX4_fall_28 : decode cX4_fall 28 = .ok (.ireturn, 1) := dk_172 (dk_at dksX4_fall_1 4 rfl rfl)
abbrev cX4_becomes : ByteArray := prog_14_method_63_code
def yX4_becomes : MethodName := ⟨RX4, "becomes", "(III)Z"⟩
def dkwX4_becomes_1 : List UInt8 := [42, 182, 1, 104, 42, 180, 0, 90, 27, 29, 79, 4, 172]
abbrev dktX4_becomes_1 : List UInt8 := dkwX4_becomes_1 ++ []
def dkwX4_becomes_0 : List UInt8 := [42, 180, 0, 90, 27, 46, 28, 159, 0, 17, 42, 4, 182, 1, 101, 158, 0, 7, 4, 167, 0, 4, 3, 172]
abbrev dktX4_becomes_0 : List UInt8 := dkwX4_becomes_0 ++ dktX4_becomes_1
theorem dksX4_becomes_0 : cX4_becomes.data.toList.drop 0 = dktX4_becomes_0 := by decide +kernel
theorem dksX4_becomes_1 : cX4_becomes.data.toList.drop 24 = dktX4_becomes_1 := dk_seg dksX4_becomes_0 24 rfl rfl
theorem dX4_becomes_0 : decode cX4_becomes 0 = .ok (.aload_n 0, 1) := dk_42 (dk_at dksX4_becomes_0 0 rfl rfl)
theorem dX4_becomes_1 : decode cX4_becomes 1 = .ok (.getfield 90, 3) := dk_180 0 90 (dk_at dksX4_becomes_0 1 rfl rfl)
theorem dX4_becomes_4 : decode cX4_becomes 4 = .ok (.iload_n 1, 1) := dk_27 (dk_at dksX4_becomes_0 4 rfl rfl)
theorem dX4_becomes_5 : decode cX4_becomes 5 = .ok (.iaload, 1) := dk_46 (dk_at dksX4_becomes_0 5 rfl rfl)
theorem dX4_becomes_6 : decode cX4_becomes 6 = .ok (.iload_n 2, 1) := dk_28 (dk_at dksX4_becomes_0 6 rfl rfl)
theorem dX4_becomes_7 : decode cX4_becomes 7 = .ok (.if_icmp .eq 17, 3) := dk_159 0 17 (dk_at dksX4_becomes_0 7 rfl rfl)
theorem dX4_becomes_10 : decode cX4_becomes 10 = .ok (.aload_n 0, 1) := dk_42 (dk_at dksX4_becomes_0 10 rfl rfl)
theorem dX4_becomes_11 : decode cX4_becomes 11 = .ok (.iconst 1, 1) := dk_4 (dk_at dksX4_becomes_0 11 rfl rfl)
theorem dX4_becomes_12 : decode cX4_becomes 12 = .ok (.invokevirtual 357, 3) := dk_182 1 101 (dk_at dksX4_becomes_0 12 rfl rfl)
theorem dX4_becomes_15 : decode cX4_becomes 15 = .ok (.ifCond .le 7, 3) := dk_158 0 7 (dk_at dksX4_becomes_0 15 rfl rfl)
theorem dX4_becomes_18 : decode cX4_becomes 18 = .ok (.iconst 1, 1) := dk_4 (dk_at dksX4_becomes_0 18 rfl rfl)
theorem dX4_becomes_19 : decode cX4_becomes 19 = .ok (.goto 4, 3) := dk_167 0 4 (dk_at dksX4_becomes_0 19 rfl rfl)
theorem dX4_becomes_22 : decode cX4_becomes 22 = .ok (.iconst 0, 1) := dk_3 (dk_at dksX4_becomes_0 22 rfl rfl)
theorem dX4_becomes_23 : decode cX4_becomes 23 = .ok (.ireturn, 1) := dk_172 (dk_at dksX4_becomes_0 23 rfl rfl)
theorem dX4_becomes_24 : decode cX4_becomes 24 = .ok (.aload_n 0, 1) := dk_42 (dk_at dksX4_becomes_1 0 rfl rfl)
theorem dX4_becomes_25 : decode cX4_becomes 25 = .ok (.invokevirtual 360, 3) := dk_182 1 104 (dk_at dksX4_becomes_1 1 rfl rfl)
theorem dX4_becomes_28 : decode cX4_becomes 28 = .ok (.aload_n 0, 1) := dk_42 (dk_at dksX4_becomes_1 4 rfl rfl)
theorem dX4_becomes_29 : decode cX4_becomes 29 = .ok (.getfield 90, 3) := dk_180 0 90 (dk_at dksX4_becomes_1 5 rfl rfl)
theorem dX4_becomes_32 : decode cX4_becomes 32 = .ok (.iload_n 1, 1) := dk_27 (dk_at dksX4_becomes_1 8 rfl rfl)
theorem dX4_becomes_33 : decode cX4_becomes 33 = .ok (.iload_n 3, 1) := dk_29 (dk_at dksX4_becomes_1 9 rfl rfl)
theorem dX4_becomes_34 : decode cX4_becomes 34 = .ok (.iastore, 1) := dk_79 (dk_at dksX4_becomes_1 10 rfl rfl)
theorem dX4_becomes_35 : decode cX4_becomes 35 = .ok (.iconst 1, 1) := dk_4 (dk_at dksX4_becomes_1 11 rfl rfl)
theorem dX4_becomes_36 : decode cX4_becomes 36 = .ok (.ireturn, 1) := dk_172 (dk_at dksX4_becomes_1 12 rfl rfl)
abbrev cX4_catches : ByteArray := prog_14_method_65_code
def yX4_catches : MethodName := ⟨RX4, "catches", "(I)Z"⟩
def dkwX4_catches_1 : List UInt8 := [167, 0, 4, 3, 172]
abbrev dktX4_catches_1 : List UInt8 := dkwX4_catches_1 ++ []
def dkwX4_catches_0 : List UInt8 := [42, 3, 181, 0, 120, 42, 27, 182, 1, 68, 153, 0, 17, 42, 27, 3, 4, 182, 1, 111, 153, 0, 7, 4]
abbrev dktX4_catches_0 : List UInt8 := dkwX4_catches_0 ++ dktX4_catches_1
theorem dksX4_catches_0 : cX4_catches.data.toList.drop 0 = dktX4_catches_0 := by decide +kernel
theorem dksX4_catches_1 : cX4_catches.data.toList.drop 24 = dktX4_catches_1 := dk_seg dksX4_catches_0 24 rfl rfl
theorem dX4_catches_0 : decode cX4_catches 0 = .ok (.aload_n 0, 1) := dk_42 (dk_at dksX4_catches_0 0 rfl rfl)
theorem dX4_catches_1 : decode cX4_catches 1 = .ok (.iconst 0, 1) := dk_3 (dk_at dksX4_catches_0 1 rfl rfl)
theorem dX4_catches_2 : decode cX4_catches 2 = .ok (.putfield 120, 3) := dk_181 0 120 (dk_at dksX4_catches_0 2 rfl rfl)
theorem dX4_catches_5 : decode cX4_catches 5 = .ok (.aload_n 0, 1) := dk_42 (dk_at dksX4_catches_0 5 rfl rfl)
theorem dX4_catches_6 : decode cX4_catches 6 = .ok (.iload_n 1, 1) := dk_27 (dk_at dksX4_catches_0 6 rfl rfl)
theorem dX4_catches_7 : decode cX4_catches 7 = .ok (.invokevirtual 324, 3) := dk_182 1 68 (dk_at dksX4_catches_0 7 rfl rfl)
theorem dX4_catches_10 : decode cX4_catches 10 = .ok (.ifCond .eq 17, 3) := dk_153 0 17 (dk_at dksX4_catches_0 10 rfl rfl)
theorem dX4_catches_13 : decode cX4_catches 13 = .ok (.aload_n 0, 1) := dk_42 (dk_at dksX4_catches_0 13 rfl rfl)
theorem dX4_catches_14 : decode cX4_catches 14 = .ok (.iload_n 1, 1) := dk_27 (dk_at dksX4_catches_0 14 rfl rfl)
theorem dX4_catches_15 : decode cX4_catches 15 = .ok (.iconst 0, 1) := dk_3 (dk_at dksX4_catches_0 15 rfl rfl)
theorem dX4_catches_16 : decode cX4_catches 16 = .ok (.iconst 1, 1) := dk_4 (dk_at dksX4_catches_0 16 rfl rfl)
theorem dX4_catches_17 : decode cX4_catches 17 = .ok (.invokevirtual 367, 3) := dk_182 1 111 (dk_at dksX4_catches_0 17 rfl rfl)
theorem dX4_catches_20 : decode cX4_catches 20 = .ok (.ifCond .eq 7, 3) := dk_153 0 7 (dk_at dksX4_catches_0 20 rfl rfl)
theorem dX4_catches_23 : decode cX4_catches 23 = .ok (.iconst 1, 1) := dk_4 (dk_at dksX4_catches_0 23 rfl rfl)
theorem dX4_catches_24 : decode cX4_catches 24 = .ok (.goto 4, 3) := dk_167 0 4 (dk_at dksX4_catches_1 0 rfl rfl)
theorem dX4_catches_27 : decode cX4_catches 27 = .ok (.iconst 0, 1) := dk_3 (dk_at dksX4_catches_1 3 rfl rfl)
theorem dX4_catches_28 : decode cX4_catches 28 = .ok (.ireturn, 1) := dk_172 (dk_at dksX4_catches_1 4 rfl rfl)
abbrev cX4_release : ByteArray := prog_14_method_66_code
def yX4_release : MethodName := ⟨RX4, "release", "(I)Z"⟩
def dkwX4_release_1 : List UInt8 := [167, 0, 4, 3, 172]
abbrev dktX4_release_1 : List UInt8 := dkwX4_release_1 ++ []
def dkwX4_release_0 : List UInt8 := [42, 3, 181, 0, 120, 42, 27, 182, 1, 68, 153, 0, 17, 42, 27, 4, 3, 182, 1, 111, 153, 0, 7, 4]
abbrev dktX4_release_0 : List UInt8 := dkwX4_release_0 ++ dktX4_release_1
theorem dksX4_release_0 : cX4_release.data.toList.drop 0 = dktX4_release_0 := by decide +kernel
theorem dksX4_release_1 : cX4_release.data.toList.drop 24 = dktX4_release_1 := dk_seg dksX4_release_0 24 rfl rfl
theorem dX4_release_0 : decode cX4_release 0 = .ok (.aload_n 0, 1) := dk_42 (dk_at dksX4_release_0 0 rfl rfl)
theorem dX4_release_1 : decode cX4_release 1 = .ok (.iconst 0, 1) := dk_3 (dk_at dksX4_release_0 1 rfl rfl)
theorem dX4_release_2 : decode cX4_release 2 = .ok (.putfield 120, 3) := dk_181 0 120 (dk_at dksX4_release_0 2 rfl rfl)
theorem dX4_release_5 : decode cX4_release 5 = .ok (.aload_n 0, 1) := dk_42 (dk_at dksX4_release_0 5 rfl rfl)
theorem dX4_release_6 : decode cX4_release 6 = .ok (.iload_n 1, 1) := dk_27 (dk_at dksX4_release_0 6 rfl rfl)
theorem dX4_release_7 : decode cX4_release 7 = .ok (.invokevirtual 324, 3) := dk_182 1 68 (dk_at dksX4_release_0 7 rfl rfl)
theorem dX4_release_10 : decode cX4_release 10 = .ok (.ifCond .eq 17, 3) := dk_153 0 17 (dk_at dksX4_release_0 10 rfl rfl)
theorem dX4_release_13 : decode cX4_release 13 = .ok (.aload_n 0, 1) := dk_42 (dk_at dksX4_release_0 13 rfl rfl)
theorem dX4_release_14 : decode cX4_release 14 = .ok (.iload_n 1, 1) := dk_27 (dk_at dksX4_release_0 14 rfl rfl)
theorem dX4_release_15 : decode cX4_release 15 = .ok (.iconst 1, 1) := dk_4 (dk_at dksX4_release_0 15 rfl rfl)
theorem dX4_release_16 : decode cX4_release 16 = .ok (.iconst 0, 1) := dk_3 (dk_at dksX4_release_0 16 rfl rfl)
theorem dX4_release_17 : decode cX4_release 17 = .ok (.invokevirtual 367, 3) := dk_182 1 111 (dk_at dksX4_release_0 17 rfl rfl)
theorem dX4_release_20 : decode cX4_release 20 = .ok (.ifCond .eq 7, 3) := dk_153 0 7 (dk_at dksX4_release_0 20 rfl rfl)
theorem dX4_release_23 : decode cX4_release 23 = .ok (.iconst 1, 1) := dk_4 (dk_at dksX4_release_0 23 rfl rfl)
theorem dX4_release_24 : decode cX4_release 24 = .ok (.goto 4, 3) := dk_167 0 4 (dk_at dksX4_release_1 0 rfl rfl)
theorem dX4_release_27 : decode cX4_release 27 = .ok (.iconst 0, 1) := dk_3 (dk_at dksX4_release_1 3 rfl rfl)
theorem dX4_release_28 : decode cX4_release 28 = .ok (.ireturn, 1) := dk_172 (dk_at dksX4_release_1 4 rfl rfl)
abbrev cX4_exchange : ByteArray := prog_14_method_67_code
def yX4_exchange : MethodName := ⟨RX4, "exchange", "(II)Z"⟩
def dkwX4_exchange_4 : List UInt8 := [172]
abbrev dktX4_exchange_4 : List UInt8 := dkwX4_exchange_4 ++ []
def dkwX4_exchange_3 : List UInt8 := [167, 0, 4, 3, 172, 42, 182, 1, 104, 42, 180, 0, 90, 27, 3, 79, 42, 180, 0, 90, 28, 3, 79, 4]
abbrev dktX4_exchange_3 : List UInt8 := dkwX4_exchange_3 ++ dktX4_exchange_4
def dkwX4_exchange_2 : List UInt8 := [4, 160, 0, 13, 42, 180, 0, 90, 28, 46, 4, 159, 0, 17, 42, 4, 182, 1, 101, 158, 0, 7, 4]
abbrev dktX4_exchange_2 : List UInt8 := dkwX4_exchange_2 ++ dktX4_exchange_3
def dkwX4_exchange_1 : List UInt8 := [180, 0, 13, 27, 46, 154, 0, 33, 42, 180, 0, 13, 28, 46, 4, 160, 0, 23, 42, 180, 0, 90, 27, 46]
abbrev dktX4_exchange_1 : List UInt8 := dkwX4_exchange_1 ++ dktX4_exchange_2
def dkwX4_exchange_0 : List UInt8 := [42, 3, 181, 0, 120, 42, 27, 182, 1, 68, 153, 0, 11, 42, 28, 182, 1, 68, 154, 0, 5, 3, 172, 42]
abbrev dktX4_exchange_0 : List UInt8 := dkwX4_exchange_0 ++ dktX4_exchange_1
theorem dksX4_exchange_0 : cX4_exchange.data.toList.drop 0 = dktX4_exchange_0 := by decide +kernel
theorem dksX4_exchange_1 : cX4_exchange.data.toList.drop 24 = dktX4_exchange_1 := dk_seg dksX4_exchange_0 24 rfl rfl
theorem dksX4_exchange_2 : cX4_exchange.data.toList.drop 48 = dktX4_exchange_2 := dk_seg dksX4_exchange_1 24 rfl rfl
theorem dksX4_exchange_3 : cX4_exchange.data.toList.drop 71 = dktX4_exchange_3 := dk_seg dksX4_exchange_2 23 rfl rfl
theorem dksX4_exchange_4 : cX4_exchange.data.toList.drop 95 = dktX4_exchange_4 := dk_seg dksX4_exchange_3 24 rfl rfl
theorem dX4_exchange_0 : decode cX4_exchange 0 = .ok (.aload_n 0, 1) := dk_42 (dk_at dksX4_exchange_0 0 rfl rfl)
theorem dX4_exchange_1 : decode cX4_exchange 1 = .ok (.iconst 0, 1) := dk_3 (dk_at dksX4_exchange_0 1 rfl rfl)
theorem dX4_exchange_2 : decode cX4_exchange 2 = .ok (.putfield 120, 3) := dk_181 0 120 (dk_at dksX4_exchange_0 2 rfl rfl)
theorem dX4_exchange_5 : decode cX4_exchange 5 = .ok (.aload_n 0, 1) := dk_42 (dk_at dksX4_exchange_0 5 rfl rfl)
theorem dX4_exchange_6 : decode cX4_exchange 6 = .ok (.iload_n 1, 1) := dk_27 (dk_at dksX4_exchange_0 6 rfl rfl)
theorem dX4_exchange_7 : decode cX4_exchange 7 = .ok (.invokevirtual 324, 3) := dk_182 1 68 (dk_at dksX4_exchange_0 7 rfl rfl)
theorem dX4_exchange_10 : decode cX4_exchange 10 = .ok (.ifCond .eq 11, 3) := dk_153 0 11 (dk_at dksX4_exchange_0 10 rfl rfl)
theorem dX4_exchange_13 : decode cX4_exchange 13 = .ok (.aload_n 0, 1) := dk_42 (dk_at dksX4_exchange_0 13 rfl rfl)
theorem dX4_exchange_14 : decode cX4_exchange 14 = .ok (.iload_n 2, 1) := dk_28 (dk_at dksX4_exchange_0 14 rfl rfl)
theorem dX4_exchange_15 : decode cX4_exchange 15 = .ok (.invokevirtual 324, 3) := dk_182 1 68 (dk_at dksX4_exchange_0 15 rfl rfl)
theorem dX4_exchange_18 : decode cX4_exchange 18 = .ok (.ifCond .ne 5, 3) := dk_154 0 5 (dk_at dksX4_exchange_0 18 rfl rfl)
theorem dX4_exchange_21 : decode cX4_exchange 21 = .ok (.iconst 0, 1) := dk_3 (dk_at dksX4_exchange_0 21 rfl rfl)
theorem dX4_exchange_22 : decode cX4_exchange 22 = .ok (.ireturn, 1) := dk_172 (dk_at dksX4_exchange_0 22 rfl rfl)
theorem dX4_exchange_23 : decode cX4_exchange 23 = .ok (.aload_n 0, 1) := dk_42 (dk_at dksX4_exchange_0 23 rfl rfl)
theorem dX4_exchange_24 : decode cX4_exchange 24 = .ok (.getfield 13, 3) := dk_180 0 13 (dk_at dksX4_exchange_1 0 rfl rfl)
theorem dX4_exchange_27 : decode cX4_exchange 27 = .ok (.iload_n 1, 1) := dk_27 (dk_at dksX4_exchange_1 3 rfl rfl)
theorem dX4_exchange_28 : decode cX4_exchange 28 = .ok (.iaload, 1) := dk_46 (dk_at dksX4_exchange_1 4 rfl rfl)
theorem dX4_exchange_29 : decode cX4_exchange 29 = .ok (.ifCond .ne 33, 3) := dk_154 0 33 (dk_at dksX4_exchange_1 5 rfl rfl)
theorem dX4_exchange_32 : decode cX4_exchange 32 = .ok (.aload_n 0, 1) := dk_42 (dk_at dksX4_exchange_1 8 rfl rfl)
theorem dX4_exchange_33 : decode cX4_exchange 33 = .ok (.getfield 13, 3) := dk_180 0 13 (dk_at dksX4_exchange_1 9 rfl rfl)
theorem dX4_exchange_36 : decode cX4_exchange 36 = .ok (.iload_n 2, 1) := dk_28 (dk_at dksX4_exchange_1 12 rfl rfl)
theorem dX4_exchange_37 : decode cX4_exchange 37 = .ok (.iaload, 1) := dk_46 (dk_at dksX4_exchange_1 13 rfl rfl)
theorem dX4_exchange_38 : decode cX4_exchange 38 = .ok (.iconst 1, 1) := dk_4 (dk_at dksX4_exchange_1 14 rfl rfl)
theorem dX4_exchange_39 : decode cX4_exchange 39 = .ok (.if_icmp .ne 23, 3) := dk_160 0 23 (dk_at dksX4_exchange_1 15 rfl rfl)
theorem dX4_exchange_42 : decode cX4_exchange 42 = .ok (.aload_n 0, 1) := dk_42 (dk_at dksX4_exchange_1 18 rfl rfl)
theorem dX4_exchange_43 : decode cX4_exchange 43 = .ok (.getfield 90, 3) := dk_180 0 90 (dk_at dksX4_exchange_1 19 rfl rfl)
theorem dX4_exchange_46 : decode cX4_exchange 46 = .ok (.iload_n 1, 1) := dk_27 (dk_at dksX4_exchange_1 22 rfl rfl)
theorem dX4_exchange_47 : decode cX4_exchange 47 = .ok (.iaload, 1) := dk_46 (dk_at dksX4_exchange_1 23 rfl rfl)
theorem dX4_exchange_48 : decode cX4_exchange 48 = .ok (.iconst 1, 1) := dk_4 (dk_at dksX4_exchange_2 0 rfl rfl)
theorem dX4_exchange_49 : decode cX4_exchange 49 = .ok (.if_icmp .ne 13, 3) := dk_160 0 13 (dk_at dksX4_exchange_2 1 rfl rfl)
theorem dX4_exchange_52 : decode cX4_exchange 52 = .ok (.aload_n 0, 1) := dk_42 (dk_at dksX4_exchange_2 4 rfl rfl)
theorem dX4_exchange_53 : decode cX4_exchange 53 = .ok (.getfield 90, 3) := dk_180 0 90 (dk_at dksX4_exchange_2 5 rfl rfl)
theorem dX4_exchange_56 : decode cX4_exchange 56 = .ok (.iload_n 2, 1) := dk_28 (dk_at dksX4_exchange_2 8 rfl rfl)
theorem dX4_exchange_57 : decode cX4_exchange 57 = .ok (.iaload, 1) := dk_46 (dk_at dksX4_exchange_2 9 rfl rfl)
theorem dX4_exchange_58 : decode cX4_exchange 58 = .ok (.iconst 1, 1) := dk_4 (dk_at dksX4_exchange_2 10 rfl rfl)
theorem dX4_exchange_59 : decode cX4_exchange 59 = .ok (.if_icmp .eq 17, 3) := dk_159 0 17 (dk_at dksX4_exchange_2 11 rfl rfl)
theorem dX4_exchange_62 : decode cX4_exchange 62 = .ok (.aload_n 0, 1) := dk_42 (dk_at dksX4_exchange_2 14 rfl rfl)
theorem dX4_exchange_63 : decode cX4_exchange 63 = .ok (.iconst 1, 1) := dk_4 (dk_at dksX4_exchange_2 15 rfl rfl)
theorem dX4_exchange_64 : decode cX4_exchange 64 = .ok (.invokevirtual 357, 3) := dk_182 1 101 (dk_at dksX4_exchange_2 16 rfl rfl)
theorem dX4_exchange_67 : decode cX4_exchange 67 = .ok (.ifCond .le 7, 3) := dk_158 0 7 (dk_at dksX4_exchange_2 19 rfl rfl)
theorem dX4_exchange_70 : decode cX4_exchange 70 = .ok (.iconst 1, 1) := dk_4 (dk_at dksX4_exchange_2 22 rfl rfl)
theorem dX4_exchange_71 : decode cX4_exchange 71 = .ok (.goto 4, 3) := dk_167 0 4 (dk_at dksX4_exchange_3 0 rfl rfl)
theorem dX4_exchange_74 : decode cX4_exchange 74 = .ok (.iconst 0, 1) := dk_3 (dk_at dksX4_exchange_3 3 rfl rfl)
theorem dX4_exchange_75 : decode cX4_exchange 75 = .ok (.ireturn, 1) := dk_172 (dk_at dksX4_exchange_3 4 rfl rfl)
theorem dX4_exchange_76 : decode cX4_exchange 76 = .ok (.aload_n 0, 1) := dk_42 (dk_at dksX4_exchange_3 5 rfl rfl)
theorem dX4_exchange_77 : decode cX4_exchange 77 = .ok (.invokevirtual 360, 3) := dk_182 1 104 (dk_at dksX4_exchange_3 6 rfl rfl)
theorem dX4_exchange_80 : decode cX4_exchange 80 = .ok (.aload_n 0, 1) := dk_42 (dk_at dksX4_exchange_3 9 rfl rfl)
theorem dX4_exchange_81 : decode cX4_exchange 81 = .ok (.getfield 90, 3) := dk_180 0 90 (dk_at dksX4_exchange_3 10 rfl rfl)
theorem dX4_exchange_84 : decode cX4_exchange 84 = .ok (.iload_n 1, 1) := dk_27 (dk_at dksX4_exchange_3 13 rfl rfl)
theorem dX4_exchange_85 : decode cX4_exchange 85 = .ok (.iconst 0, 1) := dk_3 (dk_at dksX4_exchange_3 14 rfl rfl)
theorem dX4_exchange_86 : decode cX4_exchange 86 = .ok (.iastore, 1) := dk_79 (dk_at dksX4_exchange_3 15 rfl rfl)
theorem dX4_exchange_87 : decode cX4_exchange 87 = .ok (.aload_n 0, 1) := dk_42 (dk_at dksX4_exchange_3 16 rfl rfl)
theorem dX4_exchange_88 : decode cX4_exchange 88 = .ok (.getfield 90, 3) := dk_180 0 90 (dk_at dksX4_exchange_3 17 rfl rfl)
theorem dX4_exchange_91 : decode cX4_exchange 91 = .ok (.iload_n 2, 1) := dk_28 (dk_at dksX4_exchange_3 20 rfl rfl)
theorem dX4_exchange_92 : decode cX4_exchange 92 = .ok (.iconst 0, 1) := dk_3 (dk_at dksX4_exchange_3 21 rfl rfl)
theorem dX4_exchange_93 : decode cX4_exchange 93 = .ok (.iastore, 1) := dk_79 (dk_at dksX4_exchange_3 22 rfl rfl)
theorem dX4_exchange_94 : decode cX4_exchange 94 = .ok (.iconst 1, 1) := dk_4 (dk_at dksX4_exchange_3 23 rfl rfl)
theorem dX4_exchange_95 : decode cX4_exchange 95 = .ok (.ireturn, 1) := dk_172 (dk_at dksX4_exchange_4 0 rfl rfl)
abbrev cX4_moved : ByteArray := prog_14_method_70_code
def yX4_moved : MethodName := ⟨RX4, "moved", "(I)I"⟩
def dkwX4_moved_3 : List UInt8 := [21, 4, 96, 61, 132, 3, 1, 167, 255, 211, 28, 172]
abbrev dktX4_moved_3 : List UInt8 := dkwX4_moved_3 ++ []
def dkwX4_moved_2 : List UInt8 := [154, 0, 7, 3, 167, 0, 8, 42, 29, 182, 1, 117, 54, 4, 21, 4, 2, 160, 0, 5, 2, 172, 28]
abbrev dktX4_moved_2 : List UInt8 := dkwX4_moved_2 ++ dktX4_moved_3
def dkwX4_moved_1 : List UInt8 := [172, 3, 61, 7, 27, 104, 62, 29, 7, 27, 104, 7, 96, 162, 0, 42, 42, 180, 0, 29, 29, 46]
abbrev dktX4_moved_1 : List UInt8 := dkwX4_moved_1 ++ dktX4_moved_2
def dkwX4_moved_0 : List UInt8 := [42, 3, 181, 0, 120, 42, 27, 182, 1, 75, 154, 0, 5, 3, 172, 42, 27, 182, 1, 48, 154, 0, 5, 2]
abbrev dktX4_moved_0 : List UInt8 := dkwX4_moved_0 ++ dktX4_moved_1
theorem dksX4_moved_0 : cX4_moved.data.toList.drop 0 = dktX4_moved_0 := by decide +kernel
theorem dksX4_moved_1 : cX4_moved.data.toList.drop 24 = dktX4_moved_1 := dk_seg dksX4_moved_0 24 rfl rfl
theorem dksX4_moved_2 : cX4_moved.data.toList.drop 46 = dktX4_moved_2 := dk_seg dksX4_moved_1 22 rfl rfl
theorem dksX4_moved_3 : cX4_moved.data.toList.drop 69 = dktX4_moved_3 := dk_seg dksX4_moved_2 23 rfl rfl
theorem dX4_moved_0 : decode cX4_moved 0 = .ok (.aload_n 0, 1) := dk_42 (dk_at dksX4_moved_0 0 rfl rfl)
theorem dX4_moved_1 : decode cX4_moved 1 = .ok (.iconst 0, 1) := dk_3 (dk_at dksX4_moved_0 1 rfl rfl)
theorem dX4_moved_2 : decode cX4_moved 2 = .ok (.putfield 120, 3) := dk_181 0 120 (dk_at dksX4_moved_0 2 rfl rfl)
theorem dX4_moved_5 : decode cX4_moved 5 = .ok (.aload_n 0, 1) := dk_42 (dk_at dksX4_moved_0 5 rfl rfl)
theorem dX4_moved_6 : decode cX4_moved 6 = .ok (.iload_n 1, 1) := dk_27 (dk_at dksX4_moved_0 6 rfl rfl)
theorem dX4_moved_7 : decode cX4_moved 7 = .ok (.invokevirtual 331, 3) := dk_182 1 75 (dk_at dksX4_moved_0 7 rfl rfl)
theorem dX4_moved_10 : decode cX4_moved 10 = .ok (.ifCond .ne 5, 3) := dk_154 0 5 (dk_at dksX4_moved_0 10 rfl rfl)
theorem dX4_moved_13 : decode cX4_moved 13 = .ok (.iconst 0, 1) := dk_3 (dk_at dksX4_moved_0 13 rfl rfl)
theorem dX4_moved_14 : decode cX4_moved 14 = .ok (.ireturn, 1) := dk_172 (dk_at dksX4_moved_0 14 rfl rfl)
theorem dX4_moved_15 : decode cX4_moved 15 = .ok (.aload_n 0, 1) := dk_42 (dk_at dksX4_moved_0 15 rfl rfl)
theorem dX4_moved_16 : decode cX4_moved 16 = .ok (.iload_n 1, 1) := dk_27 (dk_at dksX4_moved_0 16 rfl rfl)
theorem dX4_moved_17 : decode cX4_moved 17 = .ok (.invokevirtual 304, 3) := dk_182 1 48 (dk_at dksX4_moved_0 17 rfl rfl)
theorem dX4_moved_20 : decode cX4_moved 20 = .ok (.ifCond .ne 5, 3) := dk_154 0 5 (dk_at dksX4_moved_0 20 rfl rfl)
theorem dX4_moved_23 : decode cX4_moved 23 = .ok (.iconst (-1), 1) := dk_2 (dk_at dksX4_moved_0 23 rfl rfl)
theorem dX4_moved_24 : decode cX4_moved 24 = .ok (.ireturn, 1) := dk_172 (dk_at dksX4_moved_1 0 rfl rfl)
theorem dX4_moved_25 : decode cX4_moved 25 = .ok (.iconst 0, 1) := dk_3 (dk_at dksX4_moved_1 1 rfl rfl)
theorem dX4_moved_26 : decode cX4_moved 26 = .ok (.istore_n 2, 1) := dk_61 (dk_at dksX4_moved_1 2 rfl rfl)
theorem dX4_moved_27 : decode cX4_moved 27 = .ok (.iconst 4, 1) := dk_7 (dk_at dksX4_moved_1 3 rfl rfl)
theorem dX4_moved_28 : decode cX4_moved 28 = .ok (.iload_n 1, 1) := dk_27 (dk_at dksX4_moved_1 4 rfl rfl)
theorem dX4_moved_29 : decode cX4_moved 29 = .ok (.imul, 1) := dk_104 (dk_at dksX4_moved_1 5 rfl rfl)
theorem dX4_moved_30 : decode cX4_moved 30 = .ok (.istore_n 3, 1) := dk_62 (dk_at dksX4_moved_1 6 rfl rfl)
theorem dX4_moved_31 : decode cX4_moved 31 = .ok (.iload_n 3, 1) := dk_29 (dk_at dksX4_moved_1 7 rfl rfl)
theorem dX4_moved_32 : decode cX4_moved 32 = .ok (.iconst 4, 1) := dk_7 (dk_at dksX4_moved_1 8 rfl rfl)
theorem dX4_moved_33 : decode cX4_moved 33 = .ok (.iload_n 1, 1) := dk_27 (dk_at dksX4_moved_1 9 rfl rfl)
theorem dX4_moved_34 : decode cX4_moved 34 = .ok (.imul, 1) := dk_104 (dk_at dksX4_moved_1 10 rfl rfl)
theorem dX4_moved_35 : decode cX4_moved 35 = .ok (.iconst 4, 1) := dk_7 (dk_at dksX4_moved_1 11 rfl rfl)
theorem dX4_moved_36 : decode cX4_moved 36 = .ok (.iadd, 1) := dk_96 (dk_at dksX4_moved_1 12 rfl rfl)
theorem dX4_moved_37 : decode cX4_moved 37 = .ok (.if_icmp .ge 42, 3) := dk_162 0 42 (dk_at dksX4_moved_1 13 rfl rfl)
theorem dX4_moved_40 : decode cX4_moved 40 = .ok (.aload_n 0, 1) := dk_42 (dk_at dksX4_moved_1 16 rfl rfl)
theorem dX4_moved_41 : decode cX4_moved 41 = .ok (.getfield 29, 3) := dk_180 0 29 (dk_at dksX4_moved_1 17 rfl rfl)
theorem dX4_moved_44 : decode cX4_moved 44 = .ok (.iload_n 3, 1) := dk_29 (dk_at dksX4_moved_1 20 rfl rfl)
theorem dX4_moved_45 : decode cX4_moved 45 = .ok (.iaload, 1) := dk_46 (dk_at dksX4_moved_1 21 rfl rfl)
theorem dX4_moved_46 : decode cX4_moved 46 = .ok (.ifCond .ne 7, 3) := dk_154 0 7 (dk_at dksX4_moved_2 0 rfl rfl)
theorem dX4_moved_49 : decode cX4_moved 49 = .ok (.iconst 0, 1) := dk_3 (dk_at dksX4_moved_2 3 rfl rfl)
theorem dX4_moved_50 : decode cX4_moved 50 = .ok (.goto 8, 3) := dk_167 0 8 (dk_at dksX4_moved_2 4 rfl rfl)
theorem dX4_moved_53 : decode cX4_moved 53 = .ok (.aload_n 0, 1) := dk_42 (dk_at dksX4_moved_2 7 rfl rfl)
theorem dX4_moved_54 : decode cX4_moved 54 = .ok (.iload_n 3, 1) := dk_29 (dk_at dksX4_moved_2 8 rfl rfl)
theorem dX4_moved_55 : decode cX4_moved 55 = .ok (.invokevirtual 373, 3) := dk_182 1 117 (dk_at dksX4_moved_2 9 rfl rfl)
theorem dX4_moved_58 : decode cX4_moved 58 = .ok (.istore 4, 2) := dk_54 4 (dk_at dksX4_moved_2 12 rfl rfl)
theorem dX4_moved_60 : decode cX4_moved 60 = .ok (.iload 4, 2) := dk_21 4 (dk_at dksX4_moved_2 14 rfl rfl)
theorem dX4_moved_62 : decode cX4_moved 62 = .ok (.iconst (-1), 1) := dk_2 (dk_at dksX4_moved_2 16 rfl rfl)
theorem dX4_moved_63 : decode cX4_moved 63 = .ok (.if_icmp .ne 5, 3) := dk_160 0 5 (dk_at dksX4_moved_2 17 rfl rfl)
theorem dX4_moved_66 : decode cX4_moved 66 = .ok (.iconst (-1), 1) := dk_2 (dk_at dksX4_moved_2 20 rfl rfl)
theorem dX4_moved_67 : decode cX4_moved 67 = .ok (.ireturn, 1) := dk_172 (dk_at dksX4_moved_2 21 rfl rfl)
theorem dX4_moved_68 : decode cX4_moved 68 = .ok (.iload_n 2, 1) := dk_28 (dk_at dksX4_moved_2 22 rfl rfl)
theorem dX4_moved_69 : decode cX4_moved 69 = .ok (.iload 4, 2) := dk_21 4 (dk_at dksX4_moved_3 0 rfl rfl)
theorem dX4_moved_71 : decode cX4_moved 71 = .ok (.iadd, 1) := dk_96 (dk_at dksX4_moved_3 2 rfl rfl)
theorem dX4_moved_72 : decode cX4_moved 72 = .ok (.istore_n 2, 1) := dk_61 (dk_at dksX4_moved_3 3 rfl rfl)
theorem dX4_moved_73 : decode cX4_moved 73 = .ok (.iinc 3 1, 3) := dk_132 3 1 (dk_at dksX4_moved_3 4 rfl rfl)
theorem dX4_moved_76 : decode cX4_moved 76 = .ok (.goto (-45), 3) := dk_167 255 211 (dk_at dksX4_moved_3 7 rfl rfl)
theorem dX4_moved_79 : decode cX4_moved 79 = .ok (.iload_n 2, 1) := dk_28 (dk_at dksX4_moved_3 10 rfl rfl)
theorem dX4_moved_80 : decode cX4_moved 80 = .ok (.ireturn, 1) := dk_172 (dk_at dksX4_moved_3 11 rfl rfl)
abbrev cX4_movedIn : ByteArray := prog_14_method_69_code
def yX4_movedIn : MethodName := ⟨RX4, "movedIn", "(I)I"⟩
def dkwX4_movedIn_8 : List UInt8 := [132, 4, 1, 167, 255, 78, 28, 172]
abbrev dktX4_movedIn_8 : List UInt8 := dkwX4_movedIn_8 ++ []
def dkwX4_movedIn_7 : List UInt8 := [28, 2, 159, 0, 9, 21, 7, 28, 162, 0, 8, 21, 7, 167, 0, 4, 28, 61, 132, 5, 1, 167, 255, 96]
abbrev dktX4_movedIn_7 : List UInt8 := dkwX4_movedIn_7 ++ dktX4_movedIn_8
def dkwX4_movedIn_6 : List UInt8 := [180, 0, 20, 21, 4, 46, 42, 180, 0, 23, 21, 5, 46, 182, 1, 114, 54, 7, 21, 7, 2, 159, 0, 19]
abbrev dktX4_movedIn_6 : List UInt8 := dkwX4_movedIn_6 ++ dktX4_movedIn_7
def dkwX4_movedIn_5 : List UInt8 := [132, 7, 1, 167, 255, 177, 21, 6, 42, 180, 0, 29, 27, 46, 162, 0, 7, 2, 167, 0, 22, 42, 27, 42]
abbrev dktX4_movedIn_5 : List UInt8 := dkwX4_movedIn_5 ++ dktX4_movedIn_6
def dkwX4_movedIn_4 : List UInt8 := [180, 0, 23, 21, 7, 46, 42, 180, 0, 23, 21, 5, 46, 161, 0, 7, 4, 167, 0, 4, 3, 96, 54, 6]
abbrev dktX4_movedIn_4 : List UInt8 := dkwX4_movedIn_4 ++ dktX4_movedIn_5
def dkwX4_movedIn_3 : List UInt8 := [112, 160, 0, 41, 42, 180, 0, 20, 21, 7, 46, 42, 180, 0, 20, 21, 4, 46, 163, 0, 24, 42]
abbrev dktX4_movedIn_3 : List UInt8 := dkwX4_movedIn_3 ++ dktX4_movedIn_4
def dkwX4_movedIn_2 : List UInt8 := [162, 0, 76, 21, 6, 29, 21, 7, 122, 4, 126, 4, 160, 0, 54, 42, 180, 0, 17, 21, 7, 46, 27, 7]
abbrev dktX4_movedIn_2 : List UInt8 := dkwX4_movedIn_2 ++ dktX4_movedIn_3
def dkwX4_movedIn_1 : List UInt8 := [3, 54, 5, 21, 5, 42, 180, 1, 21, 162, 0, 157, 3, 54, 6, 3, 54, 7, 21, 7, 42, 180, 1, 21]
abbrev dktX4_movedIn_1 : List UInt8 := dkwX4_movedIn_1 ++ dktX4_movedIn_2
def dkwX4_movedIn_0 : List UInt8 := [2, 61, 42, 42, 180, 0, 90, 3, 182, 1, 61, 62, 3, 54, 4, 21, 4, 42, 180, 1, 21, 162, 0, 175]
abbrev dktX4_movedIn_0 : List UInt8 := dkwX4_movedIn_0 ++ dktX4_movedIn_1
theorem dksX4_movedIn_0 : cX4_movedIn.data.toList.drop 0 = dktX4_movedIn_0 := by decide +kernel
theorem dksX4_movedIn_1 : cX4_movedIn.data.toList.drop 24 = dktX4_movedIn_1 := dk_seg dksX4_movedIn_0 24 rfl rfl
theorem dksX4_movedIn_2 : cX4_movedIn.data.toList.drop 48 = dktX4_movedIn_2 := dk_seg dksX4_movedIn_1 24 rfl rfl
theorem dksX4_movedIn_3 : cX4_movedIn.data.toList.drop 72 = dktX4_movedIn_3 := dk_seg dksX4_movedIn_2 24 rfl rfl
theorem dksX4_movedIn_4 : cX4_movedIn.data.toList.drop 94 = dktX4_movedIn_4 := dk_seg dksX4_movedIn_3 22 rfl rfl
theorem dksX4_movedIn_5 : cX4_movedIn.data.toList.drop 118 = dktX4_movedIn_5 := dk_seg dksX4_movedIn_4 24 rfl rfl
theorem dksX4_movedIn_6 : cX4_movedIn.data.toList.drop 142 = dktX4_movedIn_6 := dk_seg dksX4_movedIn_5 24 rfl rfl
theorem dksX4_movedIn_7 : cX4_movedIn.data.toList.drop 166 = dktX4_movedIn_7 := dk_seg dksX4_movedIn_6 24 rfl rfl
theorem dksX4_movedIn_8 : cX4_movedIn.data.toList.drop 190 = dktX4_movedIn_8 := dk_seg dksX4_movedIn_7 24 rfl rfl
theorem dX4_movedIn_0 : decode cX4_movedIn 0 = .ok (.iconst (-1), 1) := dk_2 (dk_at dksX4_movedIn_0 0 rfl rfl)
theorem dX4_movedIn_1 : decode cX4_movedIn 1 = .ok (.istore_n 2, 1) := dk_61 (dk_at dksX4_movedIn_0 1 rfl rfl)
theorem dX4_movedIn_2 : decode cX4_movedIn 2 = .ok (.aload_n 0, 1) := dk_42 (dk_at dksX4_movedIn_0 2 rfl rfl)
theorem dX4_movedIn_3 : decode cX4_movedIn 3 = .ok (.aload_n 0, 1) := dk_42 (dk_at dksX4_movedIn_0 3 rfl rfl)
theorem dX4_movedIn_4 : decode cX4_movedIn 4 = .ok (.getfield 90, 3) := dk_180 0 90 (dk_at dksX4_movedIn_0 4 rfl rfl)
theorem dX4_movedIn_7 : decode cX4_movedIn 7 = .ok (.iconst 0, 1) := dk_3 (dk_at dksX4_movedIn_0 7 rfl rfl)
theorem dX4_movedIn_8 : decode cX4_movedIn 8 = .ok (.invokevirtual 317, 3) := dk_182 1 61 (dk_at dksX4_movedIn_0 8 rfl rfl)
theorem dX4_movedIn_11 : decode cX4_movedIn 11 = .ok (.istore_n 3, 1) := dk_62 (dk_at dksX4_movedIn_0 11 rfl rfl)
theorem dX4_movedIn_12 : decode cX4_movedIn 12 = .ok (.iconst 0, 1) := dk_3 (dk_at dksX4_movedIn_0 12 rfl rfl)
theorem dX4_movedIn_13 : decode cX4_movedIn 13 = .ok (.istore 4, 2) := dk_54 4 (dk_at dksX4_movedIn_0 13 rfl rfl)
theorem dX4_movedIn_15 : decode cX4_movedIn 15 = .ok (.iload 4, 2) := dk_21 4 (dk_at dksX4_movedIn_0 15 rfl rfl)
theorem dX4_movedIn_17 : decode cX4_movedIn 17 = .ok (.aload_n 0, 1) := dk_42 (dk_at dksX4_movedIn_0 17 rfl rfl)
theorem dX4_movedIn_18 : decode cX4_movedIn 18 = .ok (.getfield 277, 3) := dk_180 1 21 (dk_at dksX4_movedIn_0 18 rfl rfl)
theorem dX4_movedIn_21 : decode cX4_movedIn 21 = .ok (.if_icmp .ge 175, 3) := dk_162 0 175 (dk_at dksX4_movedIn_0 21 rfl rfl)
theorem dX4_movedIn_24 : decode cX4_movedIn 24 = .ok (.iconst 0, 1) := dk_3 (dk_at dksX4_movedIn_1 0 rfl rfl)
theorem dX4_movedIn_25 : decode cX4_movedIn 25 = .ok (.istore 5, 2) := dk_54 5 (dk_at dksX4_movedIn_1 1 rfl rfl)
theorem dX4_movedIn_27 : decode cX4_movedIn 27 = .ok (.iload 5, 2) := dk_21 5 (dk_at dksX4_movedIn_1 3 rfl rfl)
theorem dX4_movedIn_29 : decode cX4_movedIn 29 = .ok (.aload_n 0, 1) := dk_42 (dk_at dksX4_movedIn_1 5 rfl rfl)
theorem dX4_movedIn_30 : decode cX4_movedIn 30 = .ok (.getfield 277, 3) := dk_180 1 21 (dk_at dksX4_movedIn_1 6 rfl rfl)
theorem dX4_movedIn_33 : decode cX4_movedIn 33 = .ok (.if_icmp .ge 157, 3) := dk_162 0 157 (dk_at dksX4_movedIn_1 9 rfl rfl)
theorem dX4_movedIn_36 : decode cX4_movedIn 36 = .ok (.iconst 0, 1) := dk_3 (dk_at dksX4_movedIn_1 12 rfl rfl)
theorem dX4_movedIn_37 : decode cX4_movedIn 37 = .ok (.istore 6, 2) := dk_54 6 (dk_at dksX4_movedIn_1 13 rfl rfl)
theorem dX4_movedIn_39 : decode cX4_movedIn 39 = .ok (.iconst 0, 1) := dk_3 (dk_at dksX4_movedIn_1 15 rfl rfl)
theorem dX4_movedIn_40 : decode cX4_movedIn 40 = .ok (.istore 7, 2) := dk_54 7 (dk_at dksX4_movedIn_1 16 rfl rfl)
theorem dX4_movedIn_42 : decode cX4_movedIn 42 = .ok (.iload 7, 2) := dk_21 7 (dk_at dksX4_movedIn_1 18 rfl rfl)
theorem dX4_movedIn_44 : decode cX4_movedIn 44 = .ok (.aload_n 0, 1) := dk_42 (dk_at dksX4_movedIn_1 20 rfl rfl)
theorem dX4_movedIn_45 : decode cX4_movedIn 45 = .ok (.getfield 277, 3) := dk_180 1 21 (dk_at dksX4_movedIn_1 21 rfl rfl)
theorem dX4_movedIn_48 : decode cX4_movedIn 48 = .ok (.if_icmp .ge 76, 3) := dk_162 0 76 (dk_at dksX4_movedIn_2 0 rfl rfl)
theorem dX4_movedIn_51 : decode cX4_movedIn 51 = .ok (.iload 6, 2) := dk_21 6 (dk_at dksX4_movedIn_2 3 rfl rfl)
theorem dX4_movedIn_53 : decode cX4_movedIn 53 = .ok (.iload_n 3, 1) := dk_29 (dk_at dksX4_movedIn_2 5 rfl rfl)
theorem dX4_movedIn_54 : decode cX4_movedIn 54 = .ok (.iload 7, 2) := dk_21 7 (dk_at dksX4_movedIn_2 6 rfl rfl)
theorem dX4_movedIn_56 : decode cX4_movedIn 56 = .ok (.ishr, 1) := dk_122 (dk_at dksX4_movedIn_2 8 rfl rfl)
theorem dX4_movedIn_57 : decode cX4_movedIn 57 = .ok (.iconst 1, 1) := dk_4 (dk_at dksX4_movedIn_2 9 rfl rfl)
theorem dX4_movedIn_58 : decode cX4_movedIn 58 = .ok (.iand, 1) := dk_126 (dk_at dksX4_movedIn_2 10 rfl rfl)
theorem dX4_movedIn_59 : decode cX4_movedIn 59 = .ok (.iconst 1, 1) := dk_4 (dk_at dksX4_movedIn_2 11 rfl rfl)
theorem dX4_movedIn_60 : decode cX4_movedIn 60 = .ok (.if_icmp .ne 54, 3) := dk_160 0 54 (dk_at dksX4_movedIn_2 12 rfl rfl)
theorem dX4_movedIn_63 : decode cX4_movedIn 63 = .ok (.aload_n 0, 1) := dk_42 (dk_at dksX4_movedIn_2 15 rfl rfl)
theorem dX4_movedIn_64 : decode cX4_movedIn 64 = .ok (.getfield 17, 3) := dk_180 0 17 (dk_at dksX4_movedIn_2 16 rfl rfl)
theorem dX4_movedIn_67 : decode cX4_movedIn 67 = .ok (.iload 7, 2) := dk_21 7 (dk_at dksX4_movedIn_2 19 rfl rfl)
theorem dX4_movedIn_69 : decode cX4_movedIn 69 = .ok (.iaload, 1) := dk_46 (dk_at dksX4_movedIn_2 21 rfl rfl)
theorem dX4_movedIn_70 : decode cX4_movedIn 70 = .ok (.iload_n 1, 1) := dk_27 (dk_at dksX4_movedIn_2 22 rfl rfl)
theorem dX4_movedIn_71 : decode cX4_movedIn 71 = .ok (.iconst 4, 1) := dk_7 (dk_at dksX4_movedIn_2 23 rfl rfl)
theorem dX4_movedIn_72 : decode cX4_movedIn 72 = .ok (.irem, 1) := dk_112 (dk_at dksX4_movedIn_3 0 rfl rfl)
theorem dX4_movedIn_73 : decode cX4_movedIn 73 = .ok (.if_icmp .ne 41, 3) := dk_160 0 41 (dk_at dksX4_movedIn_3 1 rfl rfl)
theorem dX4_movedIn_76 : decode cX4_movedIn 76 = .ok (.aload_n 0, 1) := dk_42 (dk_at dksX4_movedIn_3 4 rfl rfl)
theorem dX4_movedIn_77 : decode cX4_movedIn 77 = .ok (.getfield 20, 3) := dk_180 0 20 (dk_at dksX4_movedIn_3 5 rfl rfl)
theorem dX4_movedIn_80 : decode cX4_movedIn 80 = .ok (.iload 7, 2) := dk_21 7 (dk_at dksX4_movedIn_3 8 rfl rfl)
theorem dX4_movedIn_82 : decode cX4_movedIn 82 = .ok (.iaload, 1) := dk_46 (dk_at dksX4_movedIn_3 10 rfl rfl)
theorem dX4_movedIn_83 : decode cX4_movedIn 83 = .ok (.aload_n 0, 1) := dk_42 (dk_at dksX4_movedIn_3 11 rfl rfl)
theorem dX4_movedIn_84 : decode cX4_movedIn 84 = .ok (.getfield 20, 3) := dk_180 0 20 (dk_at dksX4_movedIn_3 12 rfl rfl)
theorem dX4_movedIn_87 : decode cX4_movedIn 87 = .ok (.iload 4, 2) := dk_21 4 (dk_at dksX4_movedIn_3 15 rfl rfl)
theorem dX4_movedIn_89 : decode cX4_movedIn 89 = .ok (.iaload, 1) := dk_46 (dk_at dksX4_movedIn_3 17 rfl rfl)
theorem dX4_movedIn_90 : decode cX4_movedIn 90 = .ok (.if_icmp .gt 24, 3) := dk_163 0 24 (dk_at dksX4_movedIn_3 18 rfl rfl)
theorem dX4_movedIn_93 : decode cX4_movedIn 93 = .ok (.aload_n 0, 1) := dk_42 (dk_at dksX4_movedIn_3 21 rfl rfl)
theorem dX4_movedIn_94 : decode cX4_movedIn 94 = .ok (.getfield 23, 3) := dk_180 0 23 (dk_at dksX4_movedIn_4 0 rfl rfl)
theorem dX4_movedIn_97 : decode cX4_movedIn 97 = .ok (.iload 7, 2) := dk_21 7 (dk_at dksX4_movedIn_4 3 rfl rfl)
theorem dX4_movedIn_99 : decode cX4_movedIn 99 = .ok (.iaload, 1) := dk_46 (dk_at dksX4_movedIn_4 5 rfl rfl)
theorem dX4_movedIn_100 : decode cX4_movedIn 100 = .ok (.aload_n 0, 1) := dk_42 (dk_at dksX4_movedIn_4 6 rfl rfl)
theorem dX4_movedIn_101 : decode cX4_movedIn 101 = .ok (.getfield 23, 3) := dk_180 0 23 (dk_at dksX4_movedIn_4 7 rfl rfl)
theorem dX4_movedIn_104 : decode cX4_movedIn 104 = .ok (.iload 5, 2) := dk_21 5 (dk_at dksX4_movedIn_4 10 rfl rfl)
theorem dX4_movedIn_106 : decode cX4_movedIn 106 = .ok (.iaload, 1) := dk_46 (dk_at dksX4_movedIn_4 12 rfl rfl)
theorem dX4_movedIn_107 : decode cX4_movedIn 107 = .ok (.if_icmp .lt 7, 3) := dk_161 0 7 (dk_at dksX4_movedIn_4 13 rfl rfl)
theorem dX4_movedIn_110 : decode cX4_movedIn 110 = .ok (.iconst 1, 1) := dk_4 (dk_at dksX4_movedIn_4 16 rfl rfl)
theorem dX4_movedIn_111 : decode cX4_movedIn 111 = .ok (.goto 4, 3) := dk_167 0 4 (dk_at dksX4_movedIn_4 17 rfl rfl)
theorem dX4_movedIn_114 : decode cX4_movedIn 114 = .ok (.iconst 0, 1) := dk_3 (dk_at dksX4_movedIn_4 20 rfl rfl)
theorem dX4_movedIn_115 : decode cX4_movedIn 115 = .ok (.iadd, 1) := dk_96 (dk_at dksX4_movedIn_4 21 rfl rfl)
theorem dX4_movedIn_116 : decode cX4_movedIn 116 = .ok (.istore 6, 2) := dk_54 6 (dk_at dksX4_movedIn_4 22 rfl rfl)
theorem dX4_movedIn_118 : decode cX4_movedIn 118 = .ok (.iinc 7 1, 3) := dk_132 7 1 (dk_at dksX4_movedIn_5 0 rfl rfl)
theorem dX4_movedIn_121 : decode cX4_movedIn 121 = .ok (.goto (-79), 3) := dk_167 255 177 (dk_at dksX4_movedIn_5 3 rfl rfl)
theorem dX4_movedIn_124 : decode cX4_movedIn 124 = .ok (.iload 6, 2) := dk_21 6 (dk_at dksX4_movedIn_5 6 rfl rfl)
theorem dX4_movedIn_126 : decode cX4_movedIn 126 = .ok (.aload_n 0, 1) := dk_42 (dk_at dksX4_movedIn_5 8 rfl rfl)
theorem dX4_movedIn_127 : decode cX4_movedIn 127 = .ok (.getfield 29, 3) := dk_180 0 29 (dk_at dksX4_movedIn_5 9 rfl rfl)
theorem dX4_movedIn_130 : decode cX4_movedIn 130 = .ok (.iload_n 1, 1) := dk_27 (dk_at dksX4_movedIn_5 12 rfl rfl)
theorem dX4_movedIn_131 : decode cX4_movedIn 131 = .ok (.iaload, 1) := dk_46 (dk_at dksX4_movedIn_5 13 rfl rfl)
theorem dX4_movedIn_132 : decode cX4_movedIn 132 = .ok (.if_icmp .ge 7, 3) := dk_162 0 7 (dk_at dksX4_movedIn_5 14 rfl rfl)
theorem dX4_movedIn_135 : decode cX4_movedIn 135 = .ok (.iconst (-1), 1) := dk_2 (dk_at dksX4_movedIn_5 17 rfl rfl)
theorem dX4_movedIn_136 : decode cX4_movedIn 136 = .ok (.goto 22, 3) := dk_167 0 22 (dk_at dksX4_movedIn_5 18 rfl rfl)
theorem dX4_movedIn_139 : decode cX4_movedIn 139 = .ok (.aload_n 0, 1) := dk_42 (dk_at dksX4_movedIn_5 21 rfl rfl)
theorem dX4_movedIn_140 : decode cX4_movedIn 140 = .ok (.iload_n 1, 1) := dk_27 (dk_at dksX4_movedIn_5 22 rfl rfl)
theorem dX4_movedIn_141 : decode cX4_movedIn 141 = .ok (.aload_n 0, 1) := dk_42 (dk_at dksX4_movedIn_5 23 rfl rfl)
theorem dX4_movedIn_142 : decode cX4_movedIn 142 = .ok (.getfield 20, 3) := dk_180 0 20 (dk_at dksX4_movedIn_6 0 rfl rfl)
theorem dX4_movedIn_145 : decode cX4_movedIn 145 = .ok (.iload 4, 2) := dk_21 4 (dk_at dksX4_movedIn_6 3 rfl rfl)
theorem dX4_movedIn_147 : decode cX4_movedIn 147 = .ok (.iaload, 1) := dk_46 (dk_at dksX4_movedIn_6 5 rfl rfl)
theorem dX4_movedIn_148 : decode cX4_movedIn 148 = .ok (.aload_n 0, 1) := dk_42 (dk_at dksX4_movedIn_6 6 rfl rfl)
theorem dX4_movedIn_149 : decode cX4_movedIn 149 = .ok (.getfield 23, 3) := dk_180 0 23 (dk_at dksX4_movedIn_6 7 rfl rfl)
theorem dX4_movedIn_152 : decode cX4_movedIn 152 = .ok (.iload 5, 2) := dk_21 5 (dk_at dksX4_movedIn_6 10 rfl rfl)
theorem dX4_movedIn_154 : decode cX4_movedIn 154 = .ok (.iaload, 1) := dk_46 (dk_at dksX4_movedIn_6 12 rfl rfl)
theorem dX4_movedIn_155 : decode cX4_movedIn 155 = .ok (.invokevirtual 370, 3) := dk_182 1 114 (dk_at dksX4_movedIn_6 13 rfl rfl)
theorem dX4_movedIn_158 : decode cX4_movedIn 158 = .ok (.istore 7, 2) := dk_54 7 (dk_at dksX4_movedIn_6 16 rfl rfl)
theorem dX4_movedIn_160 : decode cX4_movedIn 160 = .ok (.iload 7, 2) := dk_21 7 (dk_at dksX4_movedIn_6 18 rfl rfl)
theorem dX4_movedIn_162 : decode cX4_movedIn 162 = .ok (.iconst (-1), 1) := dk_2 (dk_at dksX4_movedIn_6 20 rfl rfl)
theorem dX4_movedIn_163 : decode cX4_movedIn 163 = .ok (.if_icmp .eq 19, 3) := dk_159 0 19 (dk_at dksX4_movedIn_6 21 rfl rfl)
theorem dX4_movedIn_166 : decode cX4_movedIn 166 = .ok (.iload_n 2, 1) := dk_28 (dk_at dksX4_movedIn_7 0 rfl rfl)
theorem dX4_movedIn_167 : decode cX4_movedIn 167 = .ok (.iconst (-1), 1) := dk_2 (dk_at dksX4_movedIn_7 1 rfl rfl)
theorem dX4_movedIn_168 : decode cX4_movedIn 168 = .ok (.if_icmp .eq 9, 3) := dk_159 0 9 (dk_at dksX4_movedIn_7 2 rfl rfl)
theorem dX4_movedIn_171 : decode cX4_movedIn 171 = .ok (.iload 7, 2) := dk_21 7 (dk_at dksX4_movedIn_7 5 rfl rfl)
theorem dX4_movedIn_173 : decode cX4_movedIn 173 = .ok (.iload_n 2, 1) := dk_28 (dk_at dksX4_movedIn_7 7 rfl rfl)
theorem dX4_movedIn_174 : decode cX4_movedIn 174 = .ok (.if_icmp .ge 8, 3) := dk_162 0 8 (dk_at dksX4_movedIn_7 8 rfl rfl)
theorem dX4_movedIn_177 : decode cX4_movedIn 177 = .ok (.iload 7, 2) := dk_21 7 (dk_at dksX4_movedIn_7 11 rfl rfl)
theorem dX4_movedIn_179 : decode cX4_movedIn 179 = .ok (.goto 4, 3) := dk_167 0 4 (dk_at dksX4_movedIn_7 13 rfl rfl)
theorem dX4_movedIn_182 : decode cX4_movedIn 182 = .ok (.iload_n 2, 1) := dk_28 (dk_at dksX4_movedIn_7 16 rfl rfl)
theorem dX4_movedIn_183 : decode cX4_movedIn 183 = .ok (.istore_n 2, 1) := dk_61 (dk_at dksX4_movedIn_7 17 rfl rfl)
theorem dX4_movedIn_184 : decode cX4_movedIn 184 = .ok (.iinc 5 1, 3) := dk_132 5 1 (dk_at dksX4_movedIn_7 18 rfl rfl)
theorem dX4_movedIn_187 : decode cX4_movedIn 187 = .ok (.goto (-160), 3) := dk_167 255 96 (dk_at dksX4_movedIn_7 21 rfl rfl)
theorem dX4_movedIn_190 : decode cX4_movedIn 190 = .ok (.iinc 4 1, 3) := dk_132 4 1 (dk_at dksX4_movedIn_8 0 rfl rfl)
theorem dX4_movedIn_193 : decode cX4_movedIn 193 = .ok (.goto (-178), 3) := dk_167 255 78 (dk_at dksX4_movedIn_8 3 rfl rfl)
theorem dX4_movedIn_196 : decode cX4_movedIn 196 = .ok (.iload_n 2, 1) := dk_28 (dk_at dksX4_movedIn_8 6 rfl rfl)
theorem dX4_movedIn_197 : decode cX4_movedIn 197 = .ok (.ireturn, 1) := dk_172 (dk_at dksX4_movedIn_8 7 rfl rfl)
abbrev cX4_movedFor : ByteArray := prog_14_method_68_code
def yX4_movedFor : MethodName := ⟨RX4, "movedFor", "(III)I"⟩
def dkwX4_movedFor_3 : List UInt8 := [132, 4, 1, 132, 5, 1, 167, 255, 184, 21, 4, 172]
abbrev dktX4_movedFor_3 : List UInt8 := dkwX4_movedFor_3 ++ []
def dkwX4_movedFor_2 : List UInt8 := [100, 28, 29, 184, 1, 41, 154, 0, 18, 21, 6, 16, 12, 96, 28, 29, 184, 1, 41, 154, 0, 5, 2, 172]
abbrev dktX4_movedFor_2 : List UInt8 := dkwX4_movedFor_2 ++ dktX4_movedFor_3
def dkwX4_movedFor_1 : List UInt8 := [104, 21, 5, 96, 46, 54, 6, 21, 6, 28, 29, 184, 1, 41, 153, 0, 6, 167, 0, 34, 21, 6, 16, 12]
abbrev dktX4_movedFor_1 : List UInt8 := dkwX4_movedFor_1 ++ dktX4_movedFor_2
def dkwX4_movedFor_0 : List UInt8 := [3, 54, 4, 3, 54, 5, 21, 5, 42, 180, 0, 32, 27, 46, 162, 0, 67, 42, 180, 0, 35, 16, 12, 27]
abbrev dktX4_movedFor_0 : List UInt8 := dkwX4_movedFor_0 ++ dktX4_movedFor_1
theorem dksX4_movedFor_0 : cX4_movedFor.data.toList.drop 0 = dktX4_movedFor_0 := by decide +kernel
theorem dksX4_movedFor_1 : cX4_movedFor.data.toList.drop 24 = dktX4_movedFor_1 := dk_seg dksX4_movedFor_0 24 rfl rfl
theorem dksX4_movedFor_2 : cX4_movedFor.data.toList.drop 48 = dktX4_movedFor_2 := dk_seg dksX4_movedFor_1 24 rfl rfl
theorem dksX4_movedFor_3 : cX4_movedFor.data.toList.drop 72 = dktX4_movedFor_3 := dk_seg dksX4_movedFor_2 24 rfl rfl
theorem dX4_movedFor_0 : decode cX4_movedFor 0 = .ok (.iconst 0, 1) := dk_3 (dk_at dksX4_movedFor_0 0 rfl rfl)
theorem dX4_movedFor_1 : decode cX4_movedFor 1 = .ok (.istore 4, 2) := dk_54 4 (dk_at dksX4_movedFor_0 1 rfl rfl)
theorem dX4_movedFor_3 : decode cX4_movedFor 3 = .ok (.iconst 0, 1) := dk_3 (dk_at dksX4_movedFor_0 3 rfl rfl)
theorem dX4_movedFor_4 : decode cX4_movedFor 4 = .ok (.istore 5, 2) := dk_54 5 (dk_at dksX4_movedFor_0 4 rfl rfl)
theorem dX4_movedFor_6 : decode cX4_movedFor 6 = .ok (.iload 5, 2) := dk_21 5 (dk_at dksX4_movedFor_0 6 rfl rfl)
theorem dX4_movedFor_8 : decode cX4_movedFor 8 = .ok (.aload_n 0, 1) := dk_42 (dk_at dksX4_movedFor_0 8 rfl rfl)
theorem dX4_movedFor_9 : decode cX4_movedFor 9 = .ok (.getfield 32, 3) := dk_180 0 32 (dk_at dksX4_movedFor_0 9 rfl rfl)
theorem dX4_movedFor_12 : decode cX4_movedFor 12 = .ok (.iload_n 1, 1) := dk_27 (dk_at dksX4_movedFor_0 12 rfl rfl)
theorem dX4_movedFor_13 : decode cX4_movedFor 13 = .ok (.iaload, 1) := dk_46 (dk_at dksX4_movedFor_0 13 rfl rfl)
theorem dX4_movedFor_14 : decode cX4_movedFor 14 = .ok (.if_icmp .ge 67, 3) := dk_162 0 67 (dk_at dksX4_movedFor_0 14 rfl rfl)
theorem dX4_movedFor_17 : decode cX4_movedFor 17 = .ok (.aload_n 0, 1) := dk_42 (dk_at dksX4_movedFor_0 17 rfl rfl)
theorem dX4_movedFor_18 : decode cX4_movedFor 18 = .ok (.getfield 35, 3) := dk_180 0 35 (dk_at dksX4_movedFor_0 18 rfl rfl)
theorem dX4_movedFor_21 : decode cX4_movedFor 21 = .ok (.bipush 12, 2) := dk_16 12 (dk_at dksX4_movedFor_0 21 rfl rfl)
theorem dX4_movedFor_23 : decode cX4_movedFor 23 = .ok (.iload_n 1, 1) := dk_27 (dk_at dksX4_movedFor_0 23 rfl rfl)
theorem dX4_movedFor_24 : decode cX4_movedFor 24 = .ok (.imul, 1) := dk_104 (dk_at dksX4_movedFor_1 0 rfl rfl)
theorem dX4_movedFor_25 : decode cX4_movedFor 25 = .ok (.iload 5, 2) := dk_21 5 (dk_at dksX4_movedFor_1 1 rfl rfl)
theorem dX4_movedFor_27 : decode cX4_movedFor 27 = .ok (.iadd, 1) := dk_96 (dk_at dksX4_movedFor_1 3 rfl rfl)
theorem dX4_movedFor_28 : decode cX4_movedFor 28 = .ok (.iaload, 1) := dk_46 (dk_at dksX4_movedFor_1 4 rfl rfl)
theorem dX4_movedFor_29 : decode cX4_movedFor 29 = .ok (.istore 6, 2) := dk_54 6 (dk_at dksX4_movedFor_1 5 rfl rfl)
theorem dX4_movedFor_31 : decode cX4_movedFor 31 = .ok (.iload 6, 2) := dk_21 6 (dk_at dksX4_movedFor_1 7 rfl rfl)
theorem dX4_movedFor_33 : decode cX4_movedFor 33 = .ok (.iload_n 2, 1) := dk_28 (dk_at dksX4_movedFor_1 9 rfl rfl)
theorem dX4_movedFor_34 : decode cX4_movedFor 34 = .ok (.iload_n 3, 1) := dk_29 (dk_at dksX4_movedFor_1 10 rfl rfl)
theorem dX4_movedFor_35 : decode cX4_movedFor 35 = .ok (.invokestatic 297, 3) := dk_184 1 41 (dk_at dksX4_movedFor_1 11 rfl rfl)
theorem dX4_movedFor_38 : decode cX4_movedFor 38 = .ok (.ifCond .eq 6, 3) := dk_153 0 6 (dk_at dksX4_movedFor_1 14 rfl rfl)
theorem dX4_movedFor_41 : decode cX4_movedFor 41 = .ok (.goto 34, 3) := dk_167 0 34 (dk_at dksX4_movedFor_1 17 rfl rfl)
theorem dX4_movedFor_44 : decode cX4_movedFor 44 = .ok (.iload 6, 2) := dk_21 6 (dk_at dksX4_movedFor_1 20 rfl rfl)
theorem dX4_movedFor_46 : decode cX4_movedFor 46 = .ok (.bipush 12, 2) := dk_16 12 (dk_at dksX4_movedFor_1 22 rfl rfl)
theorem dX4_movedFor_48 : decode cX4_movedFor 48 = .ok (.isub, 1) := dk_100 (dk_at dksX4_movedFor_2 0 rfl rfl)
theorem dX4_movedFor_49 : decode cX4_movedFor 49 = .ok (.iload_n 2, 1) := dk_28 (dk_at dksX4_movedFor_2 1 rfl rfl)
theorem dX4_movedFor_50 : decode cX4_movedFor 50 = .ok (.iload_n 3, 1) := dk_29 (dk_at dksX4_movedFor_2 2 rfl rfl)
theorem dX4_movedFor_51 : decode cX4_movedFor 51 = .ok (.invokestatic 297, 3) := dk_184 1 41 (dk_at dksX4_movedFor_2 3 rfl rfl)
theorem dX4_movedFor_54 : decode cX4_movedFor 54 = .ok (.ifCond .ne 18, 3) := dk_154 0 18 (dk_at dksX4_movedFor_2 6 rfl rfl)
theorem dX4_movedFor_57 : decode cX4_movedFor 57 = .ok (.iload 6, 2) := dk_21 6 (dk_at dksX4_movedFor_2 9 rfl rfl)
theorem dX4_movedFor_59 : decode cX4_movedFor 59 = .ok (.bipush 12, 2) := dk_16 12 (dk_at dksX4_movedFor_2 11 rfl rfl)
theorem dX4_movedFor_61 : decode cX4_movedFor 61 = .ok (.iadd, 1) := dk_96 (dk_at dksX4_movedFor_2 13 rfl rfl)
theorem dX4_movedFor_62 : decode cX4_movedFor 62 = .ok (.iload_n 2, 1) := dk_28 (dk_at dksX4_movedFor_2 14 rfl rfl)
theorem dX4_movedFor_63 : decode cX4_movedFor 63 = .ok (.iload_n 3, 1) := dk_29 (dk_at dksX4_movedFor_2 15 rfl rfl)
theorem dX4_movedFor_64 : decode cX4_movedFor 64 = .ok (.invokestatic 297, 3) := dk_184 1 41 (dk_at dksX4_movedFor_2 16 rfl rfl)
theorem dX4_movedFor_67 : decode cX4_movedFor 67 = .ok (.ifCond .ne 5, 3) := dk_154 0 5 (dk_at dksX4_movedFor_2 19 rfl rfl)
theorem dX4_movedFor_70 : decode cX4_movedFor 70 = .ok (.iconst (-1), 1) := dk_2 (dk_at dksX4_movedFor_2 22 rfl rfl)
theorem dX4_movedFor_71 : decode cX4_movedFor 71 = .ok (.ireturn, 1) := dk_172 (dk_at dksX4_movedFor_2 23 rfl rfl)
theorem dX4_movedFor_72 : decode cX4_movedFor 72 = .ok (.iinc 4 1, 3) := dk_132 4 1 (dk_at dksX4_movedFor_3 0 rfl rfl)
theorem dX4_movedFor_75 : decode cX4_movedFor 75 = .ok (.iinc 5 1, 3) := dk_132 5 1 (dk_at dksX4_movedFor_3 3 rfl rfl)
theorem dX4_movedFor_78 : decode cX4_movedFor 78 = .ok (.goto (-72), 3) := dk_167 255 184 (dk_at dksX4_movedFor_3 6 rfl rfl)
theorem dX4_movedFor_81 : decode cX4_movedFor 81 = .ok (.iload 4, 2) := dk_21 4 (dk_at dksX4_movedFor_3 9 rfl rfl)
theorem dX4_movedFor_83 : decode cX4_movedFor 83 = .ok (.ireturn, 1) := dk_172 (dk_at dksX4_movedFor_3 11 rfl rfl)
abbrev cX4_spare : ByteArray := prog_14_method_71_code
def yX4_spare : MethodName := ⟨RX4, "spare", "(I)I"⟩
def dkwX4_spare_4 : List UInt8 := [162, 0, 8, 21, 5, 167, 0, 4, 29, 62, 132, 4, 1, 167, 255, 194, 29, 172]
abbrev dktX4_spare_4 : List UInt8 := dkwX4_spare_4 ++ []
def dkwX4_spare_3 : List UInt8 := [21, 4, 3, 182, 1, 51, 184, 1, 55, 42, 180, 0, 29, 21, 4, 46, 100, 54, 5, 21, 5, 29]
abbrev dktX4_spare_3 : List UInt8 := dkwX4_spare_3 ++ dktX4_spare_4
def dkwX4_spare_2 : List UInt8 := [27, 104, 7, 96, 162, 0, 58, 42, 180, 0, 29, 21, 4, 46, 154, 0, 8, 16, 99, 167, 0, 22, 42, 28]
abbrev dktX4_spare_2 : List UInt8 := dkwX4_spare_2 ++ dktX4_spare_3
def dkwX4_spare_1 : List UInt8 := [61, 42, 28, 27, 3, 182, 1, 58, 154, 0, 5, 2, 172, 16, 99, 62, 7, 27, 104, 54, 4, 21, 4, 7]
abbrev dktX4_spare_1 : List UInt8 := dkwX4_spare_1 ++ dktX4_spare_2
def dkwX4_spare_0 : List UInt8 := [42, 3, 181, 0, 120, 42, 27, 182, 1, 75, 154, 0, 5, 3, 172, 42, 42, 180, 0, 90, 3, 182, 1, 61]
abbrev dktX4_spare_0 : List UInt8 := dkwX4_spare_0 ++ dktX4_spare_1
theorem dksX4_spare_0 : cX4_spare.data.toList.drop 0 = dktX4_spare_0 := by decide +kernel
theorem dksX4_spare_1 : cX4_spare.data.toList.drop 24 = dktX4_spare_1 := dk_seg dksX4_spare_0 24 rfl rfl
theorem dksX4_spare_2 : cX4_spare.data.toList.drop 48 = dktX4_spare_2 := dk_seg dksX4_spare_1 24 rfl rfl
theorem dksX4_spare_3 : cX4_spare.data.toList.drop 72 = dktX4_spare_3 := dk_seg dksX4_spare_2 24 rfl rfl
theorem dksX4_spare_4 : cX4_spare.data.toList.drop 94 = dktX4_spare_4 := dk_seg dksX4_spare_3 22 rfl rfl
theorem dX4_spare_0 : decode cX4_spare 0 = .ok (.aload_n 0, 1) := dk_42 (dk_at dksX4_spare_0 0 rfl rfl)
theorem dX4_spare_1 : decode cX4_spare 1 = .ok (.iconst 0, 1) := dk_3 (dk_at dksX4_spare_0 1 rfl rfl)
theorem dX4_spare_2 : decode cX4_spare 2 = .ok (.putfield 120, 3) := dk_181 0 120 (dk_at dksX4_spare_0 2 rfl rfl)
theorem dX4_spare_5 : decode cX4_spare 5 = .ok (.aload_n 0, 1) := dk_42 (dk_at dksX4_spare_0 5 rfl rfl)
theorem dX4_spare_6 : decode cX4_spare 6 = .ok (.iload_n 1, 1) := dk_27 (dk_at dksX4_spare_0 6 rfl rfl)
theorem dX4_spare_7 : decode cX4_spare 7 = .ok (.invokevirtual 331, 3) := dk_182 1 75 (dk_at dksX4_spare_0 7 rfl rfl)
theorem dX4_spare_10 : decode cX4_spare 10 = .ok (.ifCond .ne 5, 3) := dk_154 0 5 (dk_at dksX4_spare_0 10 rfl rfl)
theorem dX4_spare_13 : decode cX4_spare 13 = .ok (.iconst 0, 1) := dk_3 (dk_at dksX4_spare_0 13 rfl rfl)
theorem dX4_spare_14 : decode cX4_spare 14 = .ok (.ireturn, 1) := dk_172 (dk_at dksX4_spare_0 14 rfl rfl)
theorem dX4_spare_15 : decode cX4_spare 15 = .ok (.aload_n 0, 1) := dk_42 (dk_at dksX4_spare_0 15 rfl rfl)
theorem dX4_spare_16 : decode cX4_spare 16 = .ok (.aload_n 0, 1) := dk_42 (dk_at dksX4_spare_0 16 rfl rfl)
theorem dX4_spare_17 : decode cX4_spare 17 = .ok (.getfield 90, 3) := dk_180 0 90 (dk_at dksX4_spare_0 17 rfl rfl)
theorem dX4_spare_20 : decode cX4_spare 20 = .ok (.iconst 0, 1) := dk_3 (dk_at dksX4_spare_0 20 rfl rfl)
theorem dX4_spare_21 : decode cX4_spare 21 = .ok (.invokevirtual 317, 3) := dk_182 1 61 (dk_at dksX4_spare_0 21 rfl rfl)
theorem dX4_spare_24 : decode cX4_spare 24 = .ok (.istore_n 2, 1) := dk_61 (dk_at dksX4_spare_1 0 rfl rfl)
theorem dX4_spare_25 : decode cX4_spare 25 = .ok (.aload_n 0, 1) := dk_42 (dk_at dksX4_spare_1 1 rfl rfl)
theorem dX4_spare_26 : decode cX4_spare 26 = .ok (.iload_n 2, 1) := dk_28 (dk_at dksX4_spare_1 2 rfl rfl)
theorem dX4_spare_27 : decode cX4_spare 27 = .ok (.iload_n 1, 1) := dk_27 (dk_at dksX4_spare_1 3 rfl rfl)
theorem dX4_spare_28 : decode cX4_spare 28 = .ok (.iconst 0, 1) := dk_3 (dk_at dksX4_spare_1 4 rfl rfl)
theorem dX4_spare_29 : decode cX4_spare 29 = .ok (.invokevirtual 314, 3) := dk_182 1 58 (dk_at dksX4_spare_1 5 rfl rfl)
theorem dX4_spare_32 : decode cX4_spare 32 = .ok (.ifCond .ne 5, 3) := dk_154 0 5 (dk_at dksX4_spare_1 8 rfl rfl)
theorem dX4_spare_35 : decode cX4_spare 35 = .ok (.iconst (-1), 1) := dk_2 (dk_at dksX4_spare_1 11 rfl rfl)
theorem dX4_spare_36 : decode cX4_spare 36 = .ok (.ireturn, 1) := dk_172 (dk_at dksX4_spare_1 12 rfl rfl)
theorem dX4_spare_37 : decode cX4_spare 37 = .ok (.bipush 99, 2) := dk_16 99 (dk_at dksX4_spare_1 13 rfl rfl)
theorem dX4_spare_39 : decode cX4_spare 39 = .ok (.istore_n 3, 1) := dk_62 (dk_at dksX4_spare_1 15 rfl rfl)
theorem dX4_spare_40 : decode cX4_spare 40 = .ok (.iconst 4, 1) := dk_7 (dk_at dksX4_spare_1 16 rfl rfl)
theorem dX4_spare_41 : decode cX4_spare 41 = .ok (.iload_n 1, 1) := dk_27 (dk_at dksX4_spare_1 17 rfl rfl)
theorem dX4_spare_42 : decode cX4_spare 42 = .ok (.imul, 1) := dk_104 (dk_at dksX4_spare_1 18 rfl rfl)
theorem dX4_spare_43 : decode cX4_spare 43 = .ok (.istore 4, 2) := dk_54 4 (dk_at dksX4_spare_1 19 rfl rfl)
theorem dX4_spare_45 : decode cX4_spare 45 = .ok (.iload 4, 2) := dk_21 4 (dk_at dksX4_spare_1 21 rfl rfl)
theorem dX4_spare_47 : decode cX4_spare 47 = .ok (.iconst 4, 1) := dk_7 (dk_at dksX4_spare_1 23 rfl rfl)
theorem dX4_spare_48 : decode cX4_spare 48 = .ok (.iload_n 1, 1) := dk_27 (dk_at dksX4_spare_2 0 rfl rfl)
theorem dX4_spare_49 : decode cX4_spare 49 = .ok (.imul, 1) := dk_104 (dk_at dksX4_spare_2 1 rfl rfl)
theorem dX4_spare_50 : decode cX4_spare 50 = .ok (.iconst 4, 1) := dk_7 (dk_at dksX4_spare_2 2 rfl rfl)
theorem dX4_spare_51 : decode cX4_spare 51 = .ok (.iadd, 1) := dk_96 (dk_at dksX4_spare_2 3 rfl rfl)
theorem dX4_spare_52 : decode cX4_spare 52 = .ok (.if_icmp .ge 58, 3) := dk_162 0 58 (dk_at dksX4_spare_2 4 rfl rfl)
theorem dX4_spare_55 : decode cX4_spare 55 = .ok (.aload_n 0, 1) := dk_42 (dk_at dksX4_spare_2 7 rfl rfl)
theorem dX4_spare_56 : decode cX4_spare 56 = .ok (.getfield 29, 3) := dk_180 0 29 (dk_at dksX4_spare_2 8 rfl rfl)
theorem dX4_spare_59 : decode cX4_spare 59 = .ok (.iload 4, 2) := dk_21 4 (dk_at dksX4_spare_2 11 rfl rfl)
theorem dX4_spare_61 : decode cX4_spare 61 = .ok (.iaload, 1) := dk_46 (dk_at dksX4_spare_2 13 rfl rfl)
theorem dX4_spare_62 : decode cX4_spare 62 = .ok (.ifCond .ne 8, 3) := dk_154 0 8 (dk_at dksX4_spare_2 14 rfl rfl)
theorem dX4_spare_65 : decode cX4_spare 65 = .ok (.bipush 99, 2) := dk_16 99 (dk_at dksX4_spare_2 17 rfl rfl)
theorem dX4_spare_67 : decode cX4_spare 67 = .ok (.goto 22, 3) := dk_167 0 22 (dk_at dksX4_spare_2 19 rfl rfl)
theorem dX4_spare_70 : decode cX4_spare 70 = .ok (.aload_n 0, 1) := dk_42 (dk_at dksX4_spare_2 22 rfl rfl)
theorem dX4_spare_71 : decode cX4_spare 71 = .ok (.iload_n 2, 1) := dk_28 (dk_at dksX4_spare_2 23 rfl rfl)
theorem dX4_spare_72 : decode cX4_spare 72 = .ok (.iload 4, 2) := dk_21 4 (dk_at dksX4_spare_3 0 rfl rfl)
theorem dX4_spare_74 : decode cX4_spare 74 = .ok (.iconst 0, 1) := dk_3 (dk_at dksX4_spare_3 2 rfl rfl)
theorem dX4_spare_75 : decode cX4_spare 75 = .ok (.invokevirtual 307, 3) := dk_182 1 51 (dk_at dksX4_spare_3 3 rfl rfl)
theorem dX4_spare_78 : decode cX4_spare 78 = .ok (.invokestatic 311, 3) := dk_184 1 55 (dk_at dksX4_spare_3 6 rfl rfl)
theorem dX4_spare_81 : decode cX4_spare 81 = .ok (.aload_n 0, 1) := dk_42 (dk_at dksX4_spare_3 9 rfl rfl)
theorem dX4_spare_82 : decode cX4_spare 82 = .ok (.getfield 29, 3) := dk_180 0 29 (dk_at dksX4_spare_3 10 rfl rfl)
theorem dX4_spare_85 : decode cX4_spare 85 = .ok (.iload 4, 2) := dk_21 4 (dk_at dksX4_spare_3 13 rfl rfl)
theorem dX4_spare_87 : decode cX4_spare 87 = .ok (.iaload, 1) := dk_46 (dk_at dksX4_spare_3 15 rfl rfl)
theorem dX4_spare_88 : decode cX4_spare 88 = .ok (.isub, 1) := dk_100 (dk_at dksX4_spare_3 16 rfl rfl)
theorem dX4_spare_89 : decode cX4_spare 89 = .ok (.istore 5, 2) := dk_54 5 (dk_at dksX4_spare_3 17 rfl rfl)
theorem dX4_spare_91 : decode cX4_spare 91 = .ok (.iload 5, 2) := dk_21 5 (dk_at dksX4_spare_3 19 rfl rfl)
theorem dX4_spare_93 : decode cX4_spare 93 = .ok (.iload_n 3, 1) := dk_29 (dk_at dksX4_spare_3 21 rfl rfl)
theorem dX4_spare_94 : decode cX4_spare 94 = .ok (.if_icmp .ge 8, 3) := dk_162 0 8 (dk_at dksX4_spare_4 0 rfl rfl)
theorem dX4_spare_97 : decode cX4_spare 97 = .ok (.iload 5, 2) := dk_21 5 (dk_at dksX4_spare_4 3 rfl rfl)
theorem dX4_spare_99 : decode cX4_spare 99 = .ok (.goto 4, 3) := dk_167 0 4 (dk_at dksX4_spare_4 5 rfl rfl)
theorem dX4_spare_102 : decode cX4_spare 102 = .ok (.iload_n 3, 1) := dk_29 (dk_at dksX4_spare_4 8 rfl rfl)
theorem dX4_spare_103 : decode cX4_spare 103 = .ok (.istore_n 3, 1) := dk_62 (dk_at dksX4_spare_4 9 rfl rfl)
theorem dX4_spare_104 : decode cX4_spare 104 = .ok (.iinc 4 1, 3) := dk_132 4 1 (dk_at dksX4_spare_4 10 rfl rfl)
theorem dX4_spare_107 : decode cX4_spare 107 = .ok (.goto (-62), 3) := dk_167 255 194 (dk_at dksX4_spare_4 13 rfl rfl)
theorem dX4_spare_110 : decode cX4_spare 110 = .ok (.iload_n 3, 1) := dk_29 (dk_at dksX4_spare_4 16 rfl rfl)
theorem dX4_spare_111 : decode cX4_spare 111 = .ok (.ireturn, 1) := dk_172 (dk_at dksX4_spare_4 17 rfl rfl)
abbrev cX4_keys : ByteArray := prog_14_method_72_code
def yX4_keys : MethodName := ⟨RX4, "keys", "()I"⟩
def dkwX4_keys_3 : List UInt8 := [21, 4, 120, 167, 0, 4, 3, 128, 62, 132, 4, 1, 167, 255, 204, 29, 172]
abbrev dktX4_keys_3 : List UInt8 := dkwX4_keys_3 ++ []
def dkwX4_keys_2 : List UInt8 := [160, 0, 29, 42, 27, 4, 21, 4, 120, 2, 130, 126, 182, 1, 65, 184, 1, 55, 28, 162, 0, 10, 4]
abbrev dktX4_keys_2 : List UInt8 := dkwX4_keys_2 ++ dktX4_keys_3
def dkwX4_keys_1 : List UInt8 := [3, 62, 3, 54, 4, 21, 4, 42, 180, 1, 21, 162, 0, 49, 29, 27, 21, 4, 122, 4, 126, 4]
abbrev dktX4_keys_1 : List UInt8 := dkwX4_keys_1 ++ dktX4_keys_2
def dkwX4_keys_0 : List UInt8 := [42, 3, 181, 0, 120, 42, 42, 180, 0, 90, 3, 182, 1, 61, 60, 42, 27, 182, 1, 65, 184, 1, 55, 61]
abbrev dktX4_keys_0 : List UInt8 := dkwX4_keys_0 ++ dktX4_keys_1
theorem dksX4_keys_0 : cX4_keys.data.toList.drop 0 = dktX4_keys_0 := by decide +kernel
theorem dksX4_keys_1 : cX4_keys.data.toList.drop 24 = dktX4_keys_1 := dk_seg dksX4_keys_0 24 rfl rfl
theorem dksX4_keys_2 : cX4_keys.data.toList.drop 46 = dktX4_keys_2 := dk_seg dksX4_keys_1 22 rfl rfl
theorem dksX4_keys_3 : cX4_keys.data.toList.drop 69 = dktX4_keys_3 := dk_seg dksX4_keys_2 23 rfl rfl
theorem dX4_keys_0 : decode cX4_keys 0 = .ok (.aload_n 0, 1) := dk_42 (dk_at dksX4_keys_0 0 rfl rfl)
theorem dX4_keys_1 : decode cX4_keys 1 = .ok (.iconst 0, 1) := dk_3 (dk_at dksX4_keys_0 1 rfl rfl)
theorem dX4_keys_2 : decode cX4_keys 2 = .ok (.putfield 120, 3) := dk_181 0 120 (dk_at dksX4_keys_0 2 rfl rfl)
theorem dX4_keys_5 : decode cX4_keys 5 = .ok (.aload_n 0, 1) := dk_42 (dk_at dksX4_keys_0 5 rfl rfl)
theorem dX4_keys_6 : decode cX4_keys 6 = .ok (.aload_n 0, 1) := dk_42 (dk_at dksX4_keys_0 6 rfl rfl)
theorem dX4_keys_7 : decode cX4_keys 7 = .ok (.getfield 90, 3) := dk_180 0 90 (dk_at dksX4_keys_0 7 rfl rfl)
theorem dX4_keys_10 : decode cX4_keys 10 = .ok (.iconst 0, 1) := dk_3 (dk_at dksX4_keys_0 10 rfl rfl)
theorem dX4_keys_11 : decode cX4_keys 11 = .ok (.invokevirtual 317, 3) := dk_182 1 61 (dk_at dksX4_keys_0 11 rfl rfl)
theorem dX4_keys_14 : decode cX4_keys 14 = .ok (.istore_n 1, 1) := dk_60 (dk_at dksX4_keys_0 14 rfl rfl)
theorem dX4_keys_15 : decode cX4_keys 15 = .ok (.aload_n 0, 1) := dk_42 (dk_at dksX4_keys_0 15 rfl rfl)
theorem dX4_keys_16 : decode cX4_keys 16 = .ok (.iload_n 1, 1) := dk_27 (dk_at dksX4_keys_0 16 rfl rfl)
theorem dX4_keys_17 : decode cX4_keys 17 = .ok (.invokevirtual 321, 3) := dk_182 1 65 (dk_at dksX4_keys_0 17 rfl rfl)
theorem dX4_keys_20 : decode cX4_keys 20 = .ok (.invokestatic 311, 3) := dk_184 1 55 (dk_at dksX4_keys_0 20 rfl rfl)
theorem dX4_keys_23 : decode cX4_keys 23 = .ok (.istore_n 2, 1) := dk_61 (dk_at dksX4_keys_0 23 rfl rfl)
theorem dX4_keys_24 : decode cX4_keys 24 = .ok (.iconst 0, 1) := dk_3 (dk_at dksX4_keys_1 0 rfl rfl)
theorem dX4_keys_25 : decode cX4_keys 25 = .ok (.istore_n 3, 1) := dk_62 (dk_at dksX4_keys_1 1 rfl rfl)
theorem dX4_keys_26 : decode cX4_keys 26 = .ok (.iconst 0, 1) := dk_3 (dk_at dksX4_keys_1 2 rfl rfl)
theorem dX4_keys_27 : decode cX4_keys 27 = .ok (.istore 4, 2) := dk_54 4 (dk_at dksX4_keys_1 3 rfl rfl)
theorem dX4_keys_29 : decode cX4_keys 29 = .ok (.iload 4, 2) := dk_21 4 (dk_at dksX4_keys_1 5 rfl rfl)
theorem dX4_keys_31 : decode cX4_keys 31 = .ok (.aload_n 0, 1) := dk_42 (dk_at dksX4_keys_1 7 rfl rfl)
theorem dX4_keys_32 : decode cX4_keys 32 = .ok (.getfield 277, 3) := dk_180 1 21 (dk_at dksX4_keys_1 8 rfl rfl)
theorem dX4_keys_35 : decode cX4_keys 35 = .ok (.if_icmp .ge 49, 3) := dk_162 0 49 (dk_at dksX4_keys_1 11 rfl rfl)
theorem dX4_keys_38 : decode cX4_keys 38 = .ok (.iload_n 3, 1) := dk_29 (dk_at dksX4_keys_1 14 rfl rfl)
theorem dX4_keys_39 : decode cX4_keys 39 = .ok (.iload_n 1, 1) := dk_27 (dk_at dksX4_keys_1 15 rfl rfl)
theorem dX4_keys_40 : decode cX4_keys 40 = .ok (.iload 4, 2) := dk_21 4 (dk_at dksX4_keys_1 16 rfl rfl)
theorem dX4_keys_42 : decode cX4_keys 42 = .ok (.ishr, 1) := dk_122 (dk_at dksX4_keys_1 18 rfl rfl)
theorem dX4_keys_43 : decode cX4_keys 43 = .ok (.iconst 1, 1) := dk_4 (dk_at dksX4_keys_1 19 rfl rfl)
theorem dX4_keys_44 : decode cX4_keys 44 = .ok (.iand, 1) := dk_126 (dk_at dksX4_keys_1 20 rfl rfl)
theorem dX4_keys_45 : decode cX4_keys 45 = .ok (.iconst 1, 1) := dk_4 (dk_at dksX4_keys_1 21 rfl rfl)
theorem dX4_keys_46 : decode cX4_keys 46 = .ok (.if_icmp .ne 29, 3) := dk_160 0 29 (dk_at dksX4_keys_2 0 rfl rfl)
theorem dX4_keys_49 : decode cX4_keys 49 = .ok (.aload_n 0, 1) := dk_42 (dk_at dksX4_keys_2 3 rfl rfl)
theorem dX4_keys_50 : decode cX4_keys 50 = .ok (.iload_n 1, 1) := dk_27 (dk_at dksX4_keys_2 4 rfl rfl)
theorem dX4_keys_51 : decode cX4_keys 51 = .ok (.iconst 1, 1) := dk_4 (dk_at dksX4_keys_2 5 rfl rfl)
theorem dX4_keys_52 : decode cX4_keys 52 = .ok (.iload 4, 2) := dk_21 4 (dk_at dksX4_keys_2 6 rfl rfl)
theorem dX4_keys_54 : decode cX4_keys 54 = .ok (.ishl, 1) := dk_120 (dk_at dksX4_keys_2 8 rfl rfl)
theorem dX4_keys_55 : decode cX4_keys 55 = .ok (.iconst (-1), 1) := dk_2 (dk_at dksX4_keys_2 9 rfl rfl)
theorem dX4_keys_56 : decode cX4_keys 56 = .ok (.ixor, 1) := dk_130 (dk_at dksX4_keys_2 10 rfl rfl)
theorem dX4_keys_57 : decode cX4_keys 57 = .ok (.iand, 1) := dk_126 (dk_at dksX4_keys_2 11 rfl rfl)
theorem dX4_keys_58 : decode cX4_keys 58 = .ok (.invokevirtual 321, 3) := dk_182 1 65 (dk_at dksX4_keys_2 12 rfl rfl)
theorem dX4_keys_61 : decode cX4_keys 61 = .ok (.invokestatic 311, 3) := dk_184 1 55 (dk_at dksX4_keys_2 15 rfl rfl)
theorem dX4_keys_64 : decode cX4_keys 64 = .ok (.iload_n 2, 1) := dk_28 (dk_at dksX4_keys_2 18 rfl rfl)
theorem dX4_keys_65 : decode cX4_keys 65 = .ok (.if_icmp .ge 10, 3) := dk_162 0 10 (dk_at dksX4_keys_2 19 rfl rfl)
theorem dX4_keys_68 : decode cX4_keys 68 = .ok (.iconst 1, 1) := dk_4 (dk_at dksX4_keys_2 22 rfl rfl)
theorem dX4_keys_69 : decode cX4_keys 69 = .ok (.iload 4, 2) := dk_21 4 (dk_at dksX4_keys_3 0 rfl rfl)
theorem dX4_keys_71 : decode cX4_keys 71 = .ok (.ishl, 1) := dk_120 (dk_at dksX4_keys_3 2 rfl rfl)
theorem dX4_keys_72 : decode cX4_keys 72 = .ok (.goto 4, 3) := dk_167 0 4 (dk_at dksX4_keys_3 3 rfl rfl)
theorem dX4_keys_75 : decode cX4_keys 75 = .ok (.iconst 0, 1) := dk_3 (dk_at dksX4_keys_3 6 rfl rfl)
theorem dX4_keys_76 : decode cX4_keys 76 = .ok (.ior, 1) := dk_128 (dk_at dksX4_keys_3 7 rfl rfl)
theorem dX4_keys_77 : decode cX4_keys 77 = .ok (.istore_n 3, 1) := dk_62 (dk_at dksX4_keys_3 8 rfl rfl)
theorem dX4_keys_78 : decode cX4_keys 78 = .ok (.iinc 4 1, 3) := dk_132 4 1 (dk_at dksX4_keys_3 9 rfl rfl)
theorem dX4_keys_81 : decode cX4_keys 81 = .ok (.goto (-52), 3) := dk_167 255 204 (dk_at dksX4_keys_3 12 rfl rfl)
theorem dX4_keys_84 : decode cX4_keys 84 = .ok (.iload_n 3, 1) := dk_29 (dk_at dksX4_keys_3 15 rfl rfl)
theorem dX4_keys_85 : decode cX4_keys 85 = .ok (.ireturn, 1) := dk_172 (dk_at dksX4_keys_3 16 rfl rfl)
abbrev cX4_ransom : ByteArray := prog_14_method_73_code
def yX4_ransom : MethodName := ⟨RX4, "ransom", "(I)I"⟩
def dkwX4_ransom_6 : List UInt8 := [132, 5, 1, 167, 255, 153, 21, 4, 172]
abbrev dktX4_ransom_6 : List UInt8 := dkwX4_ransom_6 ++ []
def dkwX4_ransom_5 : List UInt8 := [161, 0, 6, 167, 0, 20, 42, 28, 21, 5, 128, 27, 3, 182, 1, 58, 153, 0, 7, 21, 5, 54, 4]
abbrev dktX4_ransom_5 : List UInt8 := dkwX4_ransom_5 ++ dktX4_ransom_6
def dkwX4_ransom_4 : List UInt8 := [21, 5, 184, 1, 55, 160, 0, 42, 21, 4, 2, 159, 0, 19, 21, 5, 184, 1, 55, 21, 4, 184, 1, 55]
abbrev dktX4_ransom_4 : List UInt8 := dkwX4_ransom_4 ++ dktX4_ransom_5
def dkwX4_ransom_3 : List UInt8 := [154, 0, 70, 21, 6, 21, 5, 42, 4, 182, 1, 84, 126, 184, 1, 55, 160, 0, 54, 5, 21, 6, 104]
abbrev dktX4_ransom_3 : List UInt8 := dkwX4_ransom_3 ++ dktX4_ransom_4
def dkwX4_ransom_2 : List UInt8 := [120, 162, 0, 98, 21, 5, 42, 3, 182, 1, 84, 126, 184, 1, 55, 54, 6, 21, 5, 29, 2, 130, 126]
abbrev dktX4_ransom_2 : List UInt8 := dkwX4_ransom_2 ++ dktX4_ransom_3
def dkwX4_ransom_1 : List UInt8 := [61, 42, 42, 180, 0, 90, 4, 182, 1, 61, 62, 2, 54, 4, 3, 54, 5, 21, 5, 4, 42, 180, 1, 21]
abbrev dktX4_ransom_1 : List UInt8 := dkwX4_ransom_1 ++ dktX4_ransom_2
def dkwX4_ransom_0 : List UInt8 := [42, 3, 181, 0, 120, 42, 27, 182, 1, 75, 154, 0, 5, 3, 172, 42, 42, 180, 0, 90, 3, 182, 1, 61]
abbrev dktX4_ransom_0 : List UInt8 := dkwX4_ransom_0 ++ dktX4_ransom_1
theorem dksX4_ransom_0 : cX4_ransom.data.toList.drop 0 = dktX4_ransom_0 := by decide +kernel
theorem dksX4_ransom_1 : cX4_ransom.data.toList.drop 24 = dktX4_ransom_1 := dk_seg dksX4_ransom_0 24 rfl rfl
theorem dksX4_ransom_2 : cX4_ransom.data.toList.drop 48 = dktX4_ransom_2 := dk_seg dksX4_ransom_1 24 rfl rfl
theorem dksX4_ransom_3 : cX4_ransom.data.toList.drop 71 = dktX4_ransom_3 := dk_seg dksX4_ransom_2 23 rfl rfl
theorem dksX4_ransom_4 : cX4_ransom.data.toList.drop 94 = dktX4_ransom_4 := dk_seg dksX4_ransom_3 23 rfl rfl
theorem dksX4_ransom_5 : cX4_ransom.data.toList.drop 118 = dktX4_ransom_5 := dk_seg dksX4_ransom_4 24 rfl rfl
theorem dksX4_ransom_6 : cX4_ransom.data.toList.drop 141 = dktX4_ransom_6 := dk_seg dksX4_ransom_5 23 rfl rfl
theorem dX4_ransom_0 : decode cX4_ransom 0 = .ok (.aload_n 0, 1) := dk_42 (dk_at dksX4_ransom_0 0 rfl rfl)
theorem dX4_ransom_1 : decode cX4_ransom 1 = .ok (.iconst 0, 1) := dk_3 (dk_at dksX4_ransom_0 1 rfl rfl)
theorem dX4_ransom_2 : decode cX4_ransom 2 = .ok (.putfield 120, 3) := dk_181 0 120 (dk_at dksX4_ransom_0 2 rfl rfl)
theorem dX4_ransom_5 : decode cX4_ransom 5 = .ok (.aload_n 0, 1) := dk_42 (dk_at dksX4_ransom_0 5 rfl rfl)
theorem dX4_ransom_6 : decode cX4_ransom 6 = .ok (.iload_n 1, 1) := dk_27 (dk_at dksX4_ransom_0 6 rfl rfl)
theorem dX4_ransom_7 : decode cX4_ransom 7 = .ok (.invokevirtual 331, 3) := dk_182 1 75 (dk_at dksX4_ransom_0 7 rfl rfl)
theorem dX4_ransom_10 : decode cX4_ransom 10 = .ok (.ifCond .ne 5, 3) := dk_154 0 5 (dk_at dksX4_ransom_0 10 rfl rfl)
theorem dX4_ransom_13 : decode cX4_ransom 13 = .ok (.iconst 0, 1) := dk_3 (dk_at dksX4_ransom_0 13 rfl rfl)
theorem dX4_ransom_14 : decode cX4_ransom 14 = .ok (.ireturn, 1) := dk_172 (dk_at dksX4_ransom_0 14 rfl rfl)
theorem dX4_ransom_15 : decode cX4_ransom 15 = .ok (.aload_n 0, 1) := dk_42 (dk_at dksX4_ransom_0 15 rfl rfl)
theorem dX4_ransom_16 : decode cX4_ransom 16 = .ok (.aload_n 0, 1) := dk_42 (dk_at dksX4_ransom_0 16 rfl rfl)
theorem dX4_ransom_17 : decode cX4_ransom 17 = .ok (.getfield 90, 3) := dk_180 0 90 (dk_at dksX4_ransom_0 17 rfl rfl)
theorem dX4_ransom_20 : decode cX4_ransom 20 = .ok (.iconst 0, 1) := dk_3 (dk_at dksX4_ransom_0 20 rfl rfl)
theorem dX4_ransom_21 : decode cX4_ransom 21 = .ok (.invokevirtual 317, 3) := dk_182 1 61 (dk_at dksX4_ransom_0 21 rfl rfl)
theorem dX4_ransom_24 : decode cX4_ransom 24 = .ok (.istore_n 2, 1) := dk_61 (dk_at dksX4_ransom_1 0 rfl rfl)
theorem dX4_ransom_25 : decode cX4_ransom 25 = .ok (.aload_n 0, 1) := dk_42 (dk_at dksX4_ransom_1 1 rfl rfl)
theorem dX4_ransom_26 : decode cX4_ransom 26 = .ok (.aload_n 0, 1) := dk_42 (dk_at dksX4_ransom_1 2 rfl rfl)
theorem dX4_ransom_27 : decode cX4_ransom 27 = .ok (.getfield 90, 3) := dk_180 0 90 (dk_at dksX4_ransom_1 3 rfl rfl)
theorem dX4_ransom_30 : decode cX4_ransom 30 = .ok (.iconst 1, 1) := dk_4 (dk_at dksX4_ransom_1 6 rfl rfl)
theorem dX4_ransom_31 : decode cX4_ransom 31 = .ok (.invokevirtual 317, 3) := dk_182 1 61 (dk_at dksX4_ransom_1 7 rfl rfl)
theorem dX4_ransom_34 : decode cX4_ransom 34 = .ok (.istore_n 3, 1) := dk_62 (dk_at dksX4_ransom_1 10 rfl rfl)
theorem dX4_ransom_35 : decode cX4_ransom 35 = .ok (.iconst (-1), 1) := dk_2 (dk_at dksX4_ransom_1 11 rfl rfl)
theorem dX4_ransom_36 : decode cX4_ransom 36 = .ok (.istore 4, 2) := dk_54 4 (dk_at dksX4_ransom_1 12 rfl rfl)
theorem dX4_ransom_38 : decode cX4_ransom 38 = .ok (.iconst 0, 1) := dk_3 (dk_at dksX4_ransom_1 14 rfl rfl)
theorem dX4_ransom_39 : decode cX4_ransom 39 = .ok (.istore 5, 2) := dk_54 5 (dk_at dksX4_ransom_1 15 rfl rfl)
theorem dX4_ransom_41 : decode cX4_ransom 41 = .ok (.iload 5, 2) := dk_21 5 (dk_at dksX4_ransom_1 17 rfl rfl)
theorem dX4_ransom_43 : decode cX4_ransom 43 = .ok (.iconst 1, 1) := dk_4 (dk_at dksX4_ransom_1 19 rfl rfl)
theorem dX4_ransom_44 : decode cX4_ransom 44 = .ok (.aload_n 0, 1) := dk_42 (dk_at dksX4_ransom_1 20 rfl rfl)
theorem dX4_ransom_45 : decode cX4_ransom 45 = .ok (.getfield 277, 3) := dk_180 1 21 (dk_at dksX4_ransom_1 21 rfl rfl)
theorem dX4_ransom_48 : decode cX4_ransom 48 = .ok (.ishl, 1) := dk_120 (dk_at dksX4_ransom_2 0 rfl rfl)
theorem dX4_ransom_49 : decode cX4_ransom 49 = .ok (.if_icmp .ge 98, 3) := dk_162 0 98 (dk_at dksX4_ransom_2 1 rfl rfl)
theorem dX4_ransom_52 : decode cX4_ransom 52 = .ok (.iload 5, 2) := dk_21 5 (dk_at dksX4_ransom_2 4 rfl rfl)
theorem dX4_ransom_54 : decode cX4_ransom 54 = .ok (.aload_n 0, 1) := dk_42 (dk_at dksX4_ransom_2 6 rfl rfl)
theorem dX4_ransom_55 : decode cX4_ransom 55 = .ok (.iconst 0, 1) := dk_3 (dk_at dksX4_ransom_2 7 rfl rfl)
theorem dX4_ransom_56 : decode cX4_ransom 56 = .ok (.invokevirtual 340, 3) := dk_182 1 84 (dk_at dksX4_ransom_2 8 rfl rfl)
theorem dX4_ransom_59 : decode cX4_ransom 59 = .ok (.iand, 1) := dk_126 (dk_at dksX4_ransom_2 11 rfl rfl)
theorem dX4_ransom_60 : decode cX4_ransom 60 = .ok (.invokestatic 311, 3) := dk_184 1 55 (dk_at dksX4_ransom_2 12 rfl rfl)
theorem dX4_ransom_63 : decode cX4_ransom 63 = .ok (.istore 6, 2) := dk_54 6 (dk_at dksX4_ransom_2 15 rfl rfl)
theorem dX4_ransom_65 : decode cX4_ransom 65 = .ok (.iload 5, 2) := dk_21 5 (dk_at dksX4_ransom_2 17 rfl rfl)
theorem dX4_ransom_67 : decode cX4_ransom 67 = .ok (.iload_n 3, 1) := dk_29 (dk_at dksX4_ransom_2 19 rfl rfl)
theorem dX4_ransom_68 : decode cX4_ransom 68 = .ok (.iconst (-1), 1) := dk_2 (dk_at dksX4_ransom_2 20 rfl rfl)
theorem dX4_ransom_69 : decode cX4_ransom 69 = .ok (.ixor, 1) := dk_130 (dk_at dksX4_ransom_2 21 rfl rfl)
theorem dX4_ransom_70 : decode cX4_ransom 70 = .ok (.iand, 1) := dk_126 (dk_at dksX4_ransom_2 22 rfl rfl)
theorem dX4_ransom_71 : decode cX4_ransom 71 = .ok (.ifCond .ne 70, 3) := dk_154 0 70 (dk_at dksX4_ransom_3 0 rfl rfl)
theorem dX4_ransom_74 : decode cX4_ransom 74 = .ok (.iload 6, 2) := dk_21 6 (dk_at dksX4_ransom_3 3 rfl rfl)
theorem dX4_ransom_76 : decode cX4_ransom 76 = .ok (.iload 5, 2) := dk_21 5 (dk_at dksX4_ransom_3 5 rfl rfl)
theorem dX4_ransom_78 : decode cX4_ransom 78 = .ok (.aload_n 0, 1) := dk_42 (dk_at dksX4_ransom_3 7 rfl rfl)
theorem dX4_ransom_79 : decode cX4_ransom 79 = .ok (.iconst 1, 1) := dk_4 (dk_at dksX4_ransom_3 8 rfl rfl)
theorem dX4_ransom_80 : decode cX4_ransom 80 = .ok (.invokevirtual 340, 3) := dk_182 1 84 (dk_at dksX4_ransom_3 9 rfl rfl)
theorem dX4_ransom_83 : decode cX4_ransom 83 = .ok (.iand, 1) := dk_126 (dk_at dksX4_ransom_3 12 rfl rfl)
theorem dX4_ransom_84 : decode cX4_ransom 84 = .ok (.invokestatic 311, 3) := dk_184 1 55 (dk_at dksX4_ransom_3 13 rfl rfl)
theorem dX4_ransom_87 : decode cX4_ransom 87 = .ok (.if_icmp .ne 54, 3) := dk_160 0 54 (dk_at dksX4_ransom_3 16 rfl rfl)
theorem dX4_ransom_90 : decode cX4_ransom 90 = .ok (.iconst 2, 1) := dk_5 (dk_at dksX4_ransom_3 19 rfl rfl)
theorem dX4_ransom_91 : decode cX4_ransom 91 = .ok (.iload 6, 2) := dk_21 6 (dk_at dksX4_ransom_3 20 rfl rfl)
theorem dX4_ransom_93 : decode cX4_ransom 93 = .ok (.imul, 1) := dk_104 (dk_at dksX4_ransom_3 22 rfl rfl)
theorem dX4_ransom_94 : decode cX4_ransom 94 = .ok (.iload 5, 2) := dk_21 5 (dk_at dksX4_ransom_4 0 rfl rfl)
theorem dX4_ransom_96 : decode cX4_ransom 96 = .ok (.invokestatic 311, 3) := dk_184 1 55 (dk_at dksX4_ransom_4 2 rfl rfl)
theorem dX4_ransom_99 : decode cX4_ransom 99 = .ok (.if_icmp .ne 42, 3) := dk_160 0 42 (dk_at dksX4_ransom_4 5 rfl rfl)
theorem dX4_ransom_102 : decode cX4_ransom 102 = .ok (.iload 4, 2) := dk_21 4 (dk_at dksX4_ransom_4 8 rfl rfl)
theorem dX4_ransom_104 : decode cX4_ransom 104 = .ok (.iconst (-1), 1) := dk_2 (dk_at dksX4_ransom_4 10 rfl rfl)
theorem dX4_ransom_105 : decode cX4_ransom 105 = .ok (.if_icmp .eq 19, 3) := dk_159 0 19 (dk_at dksX4_ransom_4 11 rfl rfl)
theorem dX4_ransom_108 : decode cX4_ransom 108 = .ok (.iload 5, 2) := dk_21 5 (dk_at dksX4_ransom_4 14 rfl rfl)
theorem dX4_ransom_110 : decode cX4_ransom 110 = .ok (.invokestatic 311, 3) := dk_184 1 55 (dk_at dksX4_ransom_4 16 rfl rfl)
theorem dX4_ransom_113 : decode cX4_ransom 113 = .ok (.iload 4, 2) := dk_21 4 (dk_at dksX4_ransom_4 19 rfl rfl)
theorem dX4_ransom_115 : decode cX4_ransom 115 = .ok (.invokestatic 311, 3) := dk_184 1 55 (dk_at dksX4_ransom_4 21 rfl rfl)
theorem dX4_ransom_118 : decode cX4_ransom 118 = .ok (.if_icmp .lt 6, 3) := dk_161 0 6 (dk_at dksX4_ransom_5 0 rfl rfl)
theorem dX4_ransom_121 : decode cX4_ransom 121 = .ok (.goto 20, 3) := dk_167 0 20 (dk_at dksX4_ransom_5 3 rfl rfl)
theorem dX4_ransom_124 : decode cX4_ransom 124 = .ok (.aload_n 0, 1) := dk_42 (dk_at dksX4_ransom_5 6 rfl rfl)
theorem dX4_ransom_125 : decode cX4_ransom 125 = .ok (.iload_n 2, 1) := dk_28 (dk_at dksX4_ransom_5 7 rfl rfl)
theorem dX4_ransom_126 : decode cX4_ransom 126 = .ok (.iload 5, 2) := dk_21 5 (dk_at dksX4_ransom_5 8 rfl rfl)
theorem dX4_ransom_128 : decode cX4_ransom 128 = .ok (.ior, 1) := dk_128 (dk_at dksX4_ransom_5 10 rfl rfl)
theorem dX4_ransom_129 : decode cX4_ransom 129 = .ok (.iload_n 1, 1) := dk_27 (dk_at dksX4_ransom_5 11 rfl rfl)
theorem dX4_ransom_130 : decode cX4_ransom 130 = .ok (.iconst 0, 1) := dk_3 (dk_at dksX4_ransom_5 12 rfl rfl)
theorem dX4_ransom_131 : decode cX4_ransom 131 = .ok (.invokevirtual 314, 3) := dk_182 1 58 (dk_at dksX4_ransom_5 13 rfl rfl)
theorem dX4_ransom_134 : decode cX4_ransom 134 = .ok (.ifCond .eq 7, 3) := dk_153 0 7 (dk_at dksX4_ransom_5 16 rfl rfl)
theorem dX4_ransom_137 : decode cX4_ransom 137 = .ok (.iload 5, 2) := dk_21 5 (dk_at dksX4_ransom_5 19 rfl rfl)
theorem dX4_ransom_139 : decode cX4_ransom 139 = .ok (.istore 4, 2) := dk_54 4 (dk_at dksX4_ransom_5 21 rfl rfl)
theorem dX4_ransom_141 : decode cX4_ransom 141 = .ok (.iinc 5 1, 3) := dk_132 5 1 (dk_at dksX4_ransom_6 0 rfl rfl)
theorem dX4_ransom_144 : decode cX4_ransom 144 = .ok (.goto (-103), 3) := dk_167 255 153 (dk_at dksX4_ransom_6 3 rfl rfl)
theorem dX4_ransom_147 : decode cX4_ransom 147 = .ok (.iload 4, 2) := dk_21 4 (dk_at dksX4_ransom_6 6 rfl rfl)
theorem dX4_ransom_149 : decode cX4_ransom 149 = .ok (.ireturn, 1) := dk_172 (dk_at dksX4_ransom_6 8 rfl rfl)
abbrev cX4_peace : ByteArray := prog_14_method_74_code
def yX4_peace : MethodName := ⟨RX4, "peace", "()I"⟩
def dkwX4_peace_2 : List UInt8 := [172]
abbrev dktX4_peace_2 : List UInt8 := dkwX4_peace_2 ++ []
def dkwX4_peace_1 : List UInt8 := [162, 0, 22, 42, 42, 180, 0, 93, 182, 1, 107, 158, 0, 5, 27, 172, 132, 1, 1, 167, 255, 234, 16, 99]
abbrev dktX4_peace_1 : List UInt8 := dkwX4_peace_1 ++ dktX4_peace_2
def dkwX4_peace_0 : List UInt8 := [42, 3, 181, 0, 120, 42, 42, 180, 0, 90, 42, 180, 0, 93, 182, 1, 27, 3, 60, 27, 16, 99]
abbrev dktX4_peace_0 : List UInt8 := dkwX4_peace_0 ++ dktX4_peace_1
theorem dksX4_peace_0 : cX4_peace.data.toList.drop 0 = dktX4_peace_0 := by decide +kernel
theorem dksX4_peace_1 : cX4_peace.data.toList.drop 22 = dktX4_peace_1 := dk_seg dksX4_peace_0 22 rfl rfl
theorem dksX4_peace_2 : cX4_peace.data.toList.drop 46 = dktX4_peace_2 := dk_seg dksX4_peace_1 24 rfl rfl
theorem dX4_peace_0 : decode cX4_peace 0 = .ok (.aload_n 0, 1) := dk_42 (dk_at dksX4_peace_0 0 rfl rfl)
theorem dX4_peace_1 : decode cX4_peace 1 = .ok (.iconst 0, 1) := dk_3 (dk_at dksX4_peace_0 1 rfl rfl)
theorem dX4_peace_2 : decode cX4_peace 2 = .ok (.putfield 120, 3) := dk_181 0 120 (dk_at dksX4_peace_0 2 rfl rfl)
theorem dX4_peace_5 : decode cX4_peace 5 = .ok (.aload_n 0, 1) := dk_42 (dk_at dksX4_peace_0 5 rfl rfl)
theorem dX4_peace_6 : decode cX4_peace 6 = .ok (.aload_n 0, 1) := dk_42 (dk_at dksX4_peace_0 6 rfl rfl)
theorem dX4_peace_7 : decode cX4_peace 7 = .ok (.getfield 90, 3) := dk_180 0 90 (dk_at dksX4_peace_0 7 rfl rfl)
theorem dX4_peace_10 : decode cX4_peace 10 = .ok (.aload_n 0, 1) := dk_42 (dk_at dksX4_peace_0 10 rfl rfl)
theorem dX4_peace_11 : decode cX4_peace 11 = .ok (.getfield 93, 3) := dk_180 0 93 (dk_at dksX4_peace_0 11 rfl rfl)
theorem dX4_peace_14 : decode cX4_peace 14 = .ok (.invokevirtual 283, 3) := dk_182 1 27 (dk_at dksX4_peace_0 14 rfl rfl)
theorem dX4_peace_17 : decode cX4_peace 17 = .ok (.iconst 0, 1) := dk_3 (dk_at dksX4_peace_0 17 rfl rfl)
theorem dX4_peace_18 : decode cX4_peace 18 = .ok (.istore_n 1, 1) := dk_60 (dk_at dksX4_peace_0 18 rfl rfl)
theorem dX4_peace_19 : decode cX4_peace 19 = .ok (.iload_n 1, 1) := dk_27 (dk_at dksX4_peace_0 19 rfl rfl)
theorem dX4_peace_20 : decode cX4_peace 20 = .ok (.bipush 99, 2) := dk_16 99 (dk_at dksX4_peace_0 20 rfl rfl)
theorem dX4_peace_22 : decode cX4_peace 22 = .ok (.if_icmp .ge 22, 3) := dk_162 0 22 (dk_at dksX4_peace_1 0 rfl rfl)
theorem dX4_peace_25 : decode cX4_peace 25 = .ok (.aload_n 0, 1) := dk_42 (dk_at dksX4_peace_1 3 rfl rfl)
theorem dX4_peace_26 : decode cX4_peace 26 = .ok (.aload_n 0, 1) := dk_42 (dk_at dksX4_peace_1 4 rfl rfl)
theorem dX4_peace_27 : decode cX4_peace 27 = .ok (.getfield 93, 3) := dk_180 0 93 (dk_at dksX4_peace_1 5 rfl rfl)
theorem dX4_peace_30 : decode cX4_peace 30 = .ok (.invokevirtual 363, 3) := dk_182 1 107 (dk_at dksX4_peace_1 8 rfl rfl)
theorem dX4_peace_33 : decode cX4_peace 33 = .ok (.ifCond .le 5, 3) := dk_158 0 5 (dk_at dksX4_peace_1 11 rfl rfl)
theorem dX4_peace_36 : decode cX4_peace 36 = .ok (.iload_n 1, 1) := dk_27 (dk_at dksX4_peace_1 14 rfl rfl)
theorem dX4_peace_37 : decode cX4_peace 37 = .ok (.ireturn, 1) := dk_172 (dk_at dksX4_peace_1 15 rfl rfl)
theorem dX4_peace_38 : decode cX4_peace 38 = .ok (.iinc 1 1, 3) := dk_132 1 1 (dk_at dksX4_peace_1 16 rfl rfl)
theorem dX4_peace_41 : decode cX4_peace 41 = .ok (.goto (-22), 3) := dk_167 255 234 (dk_at dksX4_peace_1 19 rfl rfl)
theorem dX4_peace_44 : decode cX4_peace 44 = .ok (.bipush 99, 2) := dk_16 99 (dk_at dksX4_peace_1 22 rfl rfl)
theorem dX4_peace_46 : decode cX4_peace 46 = .ok (.ireturn, 1) := dk_172 (dk_at dksX4_peace_2 0 rfl rfl)
abbrev cX4_silent : ByteArray := prog_14_method_75_code
def yX4_silent : MethodName := ⟨RX4, "silent", "()I"⟩
def dkwX4_silent_3 : List UInt8 := [182, 1, 107, 87, 132, 1, 1, 167, 255, 199, 2, 172]
abbrev dktX4_silent_3 : List UInt8 := dkwX4_silent_3 ++ []
def dkwX4_silent_2 : List UInt8 := [3, 182, 1, 61, 182, 1, 65, 154, 0, 11, 42, 180, 0, 93, 16, 14, 46, 172, 42, 42, 180, 0, 93]
abbrev dktX4_silent_2 : List UInt8 := dkwX4_silent_2 ++ dktX4_silent_3
def dkwX4_silent_1 : List UInt8 := [162, 0, 57, 42, 180, 0, 93, 16, 14, 46, 42, 180, 0, 7, 112, 154, 0, 27, 42, 42, 42, 180, 0, 93]
abbrev dktX4_silent_1 : List UInt8 := dkwX4_silent_1 ++ dktX4_silent_2
def dkwX4_silent_0 : List UInt8 := [42, 3, 181, 0, 120, 42, 42, 180, 0, 90, 42, 180, 0, 93, 182, 1, 27, 3, 60, 27, 16, 99]
abbrev dktX4_silent_0 : List UInt8 := dkwX4_silent_0 ++ dktX4_silent_1
theorem dksX4_silent_0 : cX4_silent.data.toList.drop 0 = dktX4_silent_0 := by decide +kernel
theorem dksX4_silent_1 : cX4_silent.data.toList.drop 22 = dktX4_silent_1 := dk_seg dksX4_silent_0 22 rfl rfl
theorem dksX4_silent_2 : cX4_silent.data.toList.drop 46 = dktX4_silent_2 := dk_seg dksX4_silent_1 24 rfl rfl
theorem dksX4_silent_3 : cX4_silent.data.toList.drop 69 = dktX4_silent_3 := dk_seg dksX4_silent_2 23 rfl rfl
theorem dX4_silent_0 : decode cX4_silent 0 = .ok (.aload_n 0, 1) := dk_42 (dk_at dksX4_silent_0 0 rfl rfl)
theorem dX4_silent_1 : decode cX4_silent 1 = .ok (.iconst 0, 1) := dk_3 (dk_at dksX4_silent_0 1 rfl rfl)
theorem dX4_silent_2 : decode cX4_silent 2 = .ok (.putfield 120, 3) := dk_181 0 120 (dk_at dksX4_silent_0 2 rfl rfl)
theorem dX4_silent_5 : decode cX4_silent 5 = .ok (.aload_n 0, 1) := dk_42 (dk_at dksX4_silent_0 5 rfl rfl)
theorem dX4_silent_6 : decode cX4_silent 6 = .ok (.aload_n 0, 1) := dk_42 (dk_at dksX4_silent_0 6 rfl rfl)
theorem dX4_silent_7 : decode cX4_silent 7 = .ok (.getfield 90, 3) := dk_180 0 90 (dk_at dksX4_silent_0 7 rfl rfl)
theorem dX4_silent_10 : decode cX4_silent 10 = .ok (.aload_n 0, 1) := dk_42 (dk_at dksX4_silent_0 10 rfl rfl)
theorem dX4_silent_11 : decode cX4_silent 11 = .ok (.getfield 93, 3) := dk_180 0 93 (dk_at dksX4_silent_0 11 rfl rfl)
theorem dX4_silent_14 : decode cX4_silent 14 = .ok (.invokevirtual 283, 3) := dk_182 1 27 (dk_at dksX4_silent_0 14 rfl rfl)
theorem dX4_silent_17 : decode cX4_silent 17 = .ok (.iconst 0, 1) := dk_3 (dk_at dksX4_silent_0 17 rfl rfl)
theorem dX4_silent_18 : decode cX4_silent 18 = .ok (.istore_n 1, 1) := dk_60 (dk_at dksX4_silent_0 18 rfl rfl)
theorem dX4_silent_19 : decode cX4_silent 19 = .ok (.iload_n 1, 1) := dk_27 (dk_at dksX4_silent_0 19 rfl rfl)
theorem dX4_silent_20 : decode cX4_silent 20 = .ok (.bipush 99, 2) := dk_16 99 (dk_at dksX4_silent_0 20 rfl rfl)
theorem dX4_silent_22 : decode cX4_silent 22 = .ok (.if_icmp .ge 57, 3) := dk_162 0 57 (dk_at dksX4_silent_1 0 rfl rfl)
theorem dX4_silent_25 : decode cX4_silent 25 = .ok (.aload_n 0, 1) := dk_42 (dk_at dksX4_silent_1 3 rfl rfl)
theorem dX4_silent_26 : decode cX4_silent 26 = .ok (.getfield 93, 3) := dk_180 0 93 (dk_at dksX4_silent_1 4 rfl rfl)
theorem dX4_silent_29 : decode cX4_silent 29 = .ok (.bipush 14, 2) := dk_16 14 (dk_at dksX4_silent_1 7 rfl rfl)
theorem dX4_silent_31 : decode cX4_silent 31 = .ok (.iaload, 1) := dk_46 (dk_at dksX4_silent_1 9 rfl rfl)
theorem dX4_silent_32 : decode cX4_silent 32 = .ok (.aload_n 0, 1) := dk_42 (dk_at dksX4_silent_1 10 rfl rfl)
theorem dX4_silent_33 : decode cX4_silent 33 = .ok (.getfield 7, 3) := dk_180 0 7 (dk_at dksX4_silent_1 11 rfl rfl)
theorem dX4_silent_36 : decode cX4_silent 36 = .ok (.irem, 1) := dk_112 (dk_at dksX4_silent_1 14 rfl rfl)
theorem dX4_silent_37 : decode cX4_silent 37 = .ok (.ifCond .ne 27, 3) := dk_154 0 27 (dk_at dksX4_silent_1 15 rfl rfl)
theorem dX4_silent_40 : decode cX4_silent 40 = .ok (.aload_n 0, 1) := dk_42 (dk_at dksX4_silent_1 18 rfl rfl)
theorem dX4_silent_41 : decode cX4_silent 41 = .ok (.aload_n 0, 1) := dk_42 (dk_at dksX4_silent_1 19 rfl rfl)
theorem dX4_silent_42 : decode cX4_silent 42 = .ok (.aload_n 0, 1) := dk_42 (dk_at dksX4_silent_1 20 rfl rfl)
theorem dX4_silent_43 : decode cX4_silent 43 = .ok (.getfield 93, 3) := dk_180 0 93 (dk_at dksX4_silent_1 21 rfl rfl)
theorem dX4_silent_46 : decode cX4_silent 46 = .ok (.iconst 0, 1) := dk_3 (dk_at dksX4_silent_2 0 rfl rfl)
theorem dX4_silent_47 : decode cX4_silent 47 = .ok (.invokevirtual 317, 3) := dk_182 1 61 (dk_at dksX4_silent_2 1 rfl rfl)
theorem dX4_silent_50 : decode cX4_silent 50 = .ok (.invokevirtual 321, 3) := dk_182 1 65 (dk_at dksX4_silent_2 4 rfl rfl)
theorem dX4_silent_53 : decode cX4_silent 53 = .ok (.ifCond .ne 11, 3) := dk_154 0 11 (dk_at dksX4_silent_2 7 rfl rfl)
theorem dX4_silent_56 : decode cX4_silent 56 = .ok (.aload_n 0, 1) := dk_42 (dk_at dksX4_silent_2 10 rfl rfl)
theorem dX4_silent_57 : decode cX4_silent 57 = .ok (.getfield 93, 3) := dk_180 0 93 (dk_at dksX4_silent_2 11 rfl rfl)
theorem dX4_silent_60 : decode cX4_silent 60 = .ok (.bipush 14, 2) := dk_16 14 (dk_at dksX4_silent_2 14 rfl rfl)
theorem dX4_silent_62 : decode cX4_silent 62 = .ok (.iaload, 1) := dk_46 (dk_at dksX4_silent_2 16 rfl rfl)
theorem dX4_silent_63 : decode cX4_silent 63 = .ok (.ireturn, 1) := dk_172 (dk_at dksX4_silent_2 17 rfl rfl)
theorem dX4_silent_64 : decode cX4_silent 64 = .ok (.aload_n 0, 1) := dk_42 (dk_at dksX4_silent_2 18 rfl rfl)
theorem dX4_silent_65 : decode cX4_silent 65 = .ok (.aload_n 0, 1) := dk_42 (dk_at dksX4_silent_2 19 rfl rfl)
theorem dX4_silent_66 : decode cX4_silent 66 = .ok (.getfield 93, 3) := dk_180 0 93 (dk_at dksX4_silent_2 20 rfl rfl)
theorem dX4_silent_69 : decode cX4_silent 69 = .ok (.invokevirtual 363, 3) := dk_182 1 107 (dk_at dksX4_silent_3 0 rfl rfl)
theorem dX4_silent_72 : decode cX4_silent 72 = .ok (.pop, 1) := dk_87 (dk_at dksX4_silent_3 3 rfl rfl)
theorem dX4_silent_73 : decode cX4_silent 73 = .ok (.iinc 1 1, 3) := dk_132 1 1 (dk_at dksX4_silent_3 4 rfl rfl)
theorem dX4_silent_76 : decode cX4_silent 76 = .ok (.goto (-57), 3) := dk_167 255 199 (dk_at dksX4_silent_3 7 rfl rfl)
theorem dX4_silent_79 : decode cX4_silent 79 = .ok (.iconst (-1), 1) := dk_2 (dk_at dksX4_silent_3 10 rfl rfl)
theorem dX4_silent_80 : decode cX4_silent 80 = .ok (.ireturn, 1) := dk_172 (dk_at dksX4_silent_3 11 rfl rfl)
abbrev cX4_falls : ByteArray := prog_14_method_76_code
def yX4_falls : MethodName := ⟨RX4, "falls", "(I)I"⟩
def dkwX4_falls_2 : List UInt8 := [180, 0, 93, 182, 1, 107, 96, 61, 132, 3, 1, 167, 255, 237, 28, 172]
abbrev dktX4_falls_2 : List UInt8 := dkwX4_falls_2 ++ []
def dkwX4_falls_1 : List UInt8 := [180, 0, 90, 42, 180, 0, 93, 182, 1, 27, 3, 61, 3, 62, 29, 27, 162, 0, 20, 28, 42, 42]
abbrev dktX4_falls_1 : List UInt8 := dkwX4_falls_1 ++ dktX4_falls_2
def dkwX4_falls_0 : List UInt8 := [42, 3, 181, 0, 120, 42, 27, 3, 16, 99, 184, 1, 41, 4, 182, 1, 14, 154, 0, 5, 3, 172, 42, 42]
abbrev dktX4_falls_0 : List UInt8 := dkwX4_falls_0 ++ dktX4_falls_1
theorem dksX4_falls_0 : cX4_falls.data.toList.drop 0 = dktX4_falls_0 := by decide +kernel
theorem dksX4_falls_1 : cX4_falls.data.toList.drop 24 = dktX4_falls_1 := dk_seg dksX4_falls_0 24 rfl rfl
theorem dksX4_falls_2 : cX4_falls.data.toList.drop 46 = dktX4_falls_2 := dk_seg dksX4_falls_1 22 rfl rfl
theorem dX4_falls_0 : decode cX4_falls 0 = .ok (.aload_n 0, 1) := dk_42 (dk_at dksX4_falls_0 0 rfl rfl)
theorem dX4_falls_1 : decode cX4_falls 1 = .ok (.iconst 0, 1) := dk_3 (dk_at dksX4_falls_0 1 rfl rfl)
theorem dX4_falls_2 : decode cX4_falls 2 = .ok (.putfield 120, 3) := dk_181 0 120 (dk_at dksX4_falls_0 2 rfl rfl)
theorem dX4_falls_5 : decode cX4_falls 5 = .ok (.aload_n 0, 1) := dk_42 (dk_at dksX4_falls_0 5 rfl rfl)
theorem dX4_falls_6 : decode cX4_falls 6 = .ok (.iload_n 1, 1) := dk_27 (dk_at dksX4_falls_0 6 rfl rfl)
theorem dX4_falls_7 : decode cX4_falls 7 = .ok (.iconst 0, 1) := dk_3 (dk_at dksX4_falls_0 7 rfl rfl)
theorem dX4_falls_8 : decode cX4_falls 8 = .ok (.bipush 99, 2) := dk_16 99 (dk_at dksX4_falls_0 8 rfl rfl)
theorem dX4_falls_10 : decode cX4_falls 10 = .ok (.invokestatic 297, 3) := dk_184 1 41 (dk_at dksX4_falls_0 10 rfl rfl)
theorem dX4_falls_13 : decode cX4_falls 13 = .ok (.iconst 1, 1) := dk_4 (dk_at dksX4_falls_0 13 rfl rfl)
theorem dX4_falls_14 : decode cX4_falls 14 = .ok (.invokevirtual 270, 3) := dk_182 1 14 (dk_at dksX4_falls_0 14 rfl rfl)
theorem dX4_falls_17 : decode cX4_falls 17 = .ok (.ifCond .ne 5, 3) := dk_154 0 5 (dk_at dksX4_falls_0 17 rfl rfl)
theorem dX4_falls_20 : decode cX4_falls 20 = .ok (.iconst 0, 1) := dk_3 (dk_at dksX4_falls_0 20 rfl rfl)
theorem dX4_falls_21 : decode cX4_falls 21 = .ok (.ireturn, 1) := dk_172 (dk_at dksX4_falls_0 21 rfl rfl)
theorem dX4_falls_22 : decode cX4_falls 22 = .ok (.aload_n 0, 1) := dk_42 (dk_at dksX4_falls_0 22 rfl rfl)
theorem dX4_falls_23 : decode cX4_falls 23 = .ok (.aload_n 0, 1) := dk_42 (dk_at dksX4_falls_0 23 rfl rfl)
theorem dX4_falls_24 : decode cX4_falls 24 = .ok (.getfield 90, 3) := dk_180 0 90 (dk_at dksX4_falls_1 0 rfl rfl)
theorem dX4_falls_27 : decode cX4_falls 27 = .ok (.aload_n 0, 1) := dk_42 (dk_at dksX4_falls_1 3 rfl rfl)
theorem dX4_falls_28 : decode cX4_falls 28 = .ok (.getfield 93, 3) := dk_180 0 93 (dk_at dksX4_falls_1 4 rfl rfl)
theorem dX4_falls_31 : decode cX4_falls 31 = .ok (.invokevirtual 283, 3) := dk_182 1 27 (dk_at dksX4_falls_1 7 rfl rfl)
theorem dX4_falls_34 : decode cX4_falls 34 = .ok (.iconst 0, 1) := dk_3 (dk_at dksX4_falls_1 10 rfl rfl)
theorem dX4_falls_35 : decode cX4_falls 35 = .ok (.istore_n 2, 1) := dk_61 (dk_at dksX4_falls_1 11 rfl rfl)
theorem dX4_falls_36 : decode cX4_falls 36 = .ok (.iconst 0, 1) := dk_3 (dk_at dksX4_falls_1 12 rfl rfl)
theorem dX4_falls_37 : decode cX4_falls 37 = .ok (.istore_n 3, 1) := dk_62 (dk_at dksX4_falls_1 13 rfl rfl)
theorem dX4_falls_38 : decode cX4_falls 38 = .ok (.iload_n 3, 1) := dk_29 (dk_at dksX4_falls_1 14 rfl rfl)
theorem dX4_falls_39 : decode cX4_falls 39 = .ok (.iload_n 1, 1) := dk_27 (dk_at dksX4_falls_1 15 rfl rfl)
theorem dX4_falls_40 : decode cX4_falls 40 = .ok (.if_icmp .ge 20, 3) := dk_162 0 20 (dk_at dksX4_falls_1 16 rfl rfl)
theorem dX4_falls_43 : decode cX4_falls 43 = .ok (.iload_n 2, 1) := dk_28 (dk_at dksX4_falls_1 19 rfl rfl)
theorem dX4_falls_44 : decode cX4_falls 44 = .ok (.aload_n 0, 1) := dk_42 (dk_at dksX4_falls_1 20 rfl rfl)
theorem dX4_falls_45 : decode cX4_falls 45 = .ok (.aload_n 0, 1) := dk_42 (dk_at dksX4_falls_1 21 rfl rfl)
theorem dX4_falls_46 : decode cX4_falls 46 = .ok (.getfield 93, 3) := dk_180 0 93 (dk_at dksX4_falls_2 0 rfl rfl)
theorem dX4_falls_49 : decode cX4_falls 49 = .ok (.invokevirtual 363, 3) := dk_182 1 107 (dk_at dksX4_falls_2 3 rfl rfl)
theorem dX4_falls_52 : decode cX4_falls 52 = .ok (.iadd, 1) := dk_96 (dk_at dksX4_falls_2 6 rfl rfl)
theorem dX4_falls_53 : decode cX4_falls 53 = .ok (.istore_n 2, 1) := dk_61 (dk_at dksX4_falls_2 7 rfl rfl)
theorem dX4_falls_54 : decode cX4_falls 54 = .ok (.iinc 3 1, 3) := dk_132 3 1 (dk_at dksX4_falls_2 8 rfl rfl)
theorem dX4_falls_57 : decode cX4_falls 57 = .ok (.goto (-19), 3) := dk_167 255 237 (dk_at dksX4_falls_2 11 rfl rfl)
theorem dX4_falls_60 : decode cX4_falls 60 = .ok (.iload_n 2, 1) := dk_28 (dk_at dksX4_falls_2 14 rfl rfl)
theorem dX4_falls_61 : decode cX4_falls 61 = .ok (.ireturn, 1) := dk_172 (dk_at dksX4_falls_2 15 rfl rfl)
abbrev cX4_duet : ByteArray := prog_14_method_78_code
def yX4_duet : MethodName := ⟨RX4, "duet", "()I"⟩
def dkwX4_duet_2 : List UInt8 := [132, 2, 1, 167, 255, 224, 132, 1, 1, 167, 255, 206, 2, 172]
abbrev dktX4_duet_2 : List UInt8 := dkwX4_duet_2 ++ []
def dkwX4_duet_1 : List UInt8 := [162, 0, 30, 42, 4, 27, 120, 4, 28, 120, 128, 182, 1, 120, 153, 0, 10, 16, 10, 27, 104, 28, 96, 172]
abbrev dktX4_duet_1 : List UInt8 := dkwX4_duet_1 ++ dktX4_duet_2
def dkwX4_duet_0 : List UInt8 := [42, 3, 181, 0, 120, 3, 60, 27, 42, 180, 1, 24, 162, 0, 48, 27, 4, 96, 61, 28, 42, 180, 1, 24]
abbrev dktX4_duet_0 : List UInt8 := dkwX4_duet_0 ++ dktX4_duet_1
theorem dksX4_duet_0 : cX4_duet.data.toList.drop 0 = dktX4_duet_0 := by decide +kernel
theorem dksX4_duet_1 : cX4_duet.data.toList.drop 24 = dktX4_duet_1 := dk_seg dksX4_duet_0 24 rfl rfl
theorem dksX4_duet_2 : cX4_duet.data.toList.drop 48 = dktX4_duet_2 := dk_seg dksX4_duet_1 24 rfl rfl
theorem dX4_duet_0 : decode cX4_duet 0 = .ok (.aload_n 0, 1) := dk_42 (dk_at dksX4_duet_0 0 rfl rfl)
theorem dX4_duet_1 : decode cX4_duet 1 = .ok (.iconst 0, 1) := dk_3 (dk_at dksX4_duet_0 1 rfl rfl)
theorem dX4_duet_2 : decode cX4_duet 2 = .ok (.putfield 120, 3) := dk_181 0 120 (dk_at dksX4_duet_0 2 rfl rfl)
theorem dX4_duet_5 : decode cX4_duet 5 = .ok (.iconst 0, 1) := dk_3 (dk_at dksX4_duet_0 5 rfl rfl)
theorem dX4_duet_6 : decode cX4_duet 6 = .ok (.istore_n 1, 1) := dk_60 (dk_at dksX4_duet_0 6 rfl rfl)
theorem dX4_duet_7 : decode cX4_duet 7 = .ok (.iload_n 1, 1) := dk_27 (dk_at dksX4_duet_0 7 rfl rfl)
theorem dX4_duet_8 : decode cX4_duet 8 = .ok (.aload_n 0, 1) := dk_42 (dk_at dksX4_duet_0 8 rfl rfl)
theorem dX4_duet_9 : decode cX4_duet 9 = .ok (.getfield 280, 3) := dk_180 1 24 (dk_at dksX4_duet_0 9 rfl rfl)
theorem dX4_duet_12 : decode cX4_duet 12 = .ok (.if_icmp .ge 48, 3) := dk_162 0 48 (dk_at dksX4_duet_0 12 rfl rfl)
theorem dX4_duet_15 : decode cX4_duet 15 = .ok (.iload_n 1, 1) := dk_27 (dk_at dksX4_duet_0 15 rfl rfl)
theorem dX4_duet_16 : decode cX4_duet 16 = .ok (.iconst 1, 1) := dk_4 (dk_at dksX4_duet_0 16 rfl rfl)
theorem dX4_duet_17 : decode cX4_duet 17 = .ok (.iadd, 1) := dk_96 (dk_at dksX4_duet_0 17 rfl rfl)
theorem dX4_duet_18 : decode cX4_duet 18 = .ok (.istore_n 2, 1) := dk_61 (dk_at dksX4_duet_0 18 rfl rfl)
theorem dX4_duet_19 : decode cX4_duet 19 = .ok (.iload_n 2, 1) := dk_28 (dk_at dksX4_duet_0 19 rfl rfl)
theorem dX4_duet_20 : decode cX4_duet 20 = .ok (.aload_n 0, 1) := dk_42 (dk_at dksX4_duet_0 20 rfl rfl)
theorem dX4_duet_21 : decode cX4_duet 21 = .ok (.getfield 280, 3) := dk_180 1 24 (dk_at dksX4_duet_0 21 rfl rfl)
theorem dX4_duet_24 : decode cX4_duet 24 = .ok (.if_icmp .ge 30, 3) := dk_162 0 30 (dk_at dksX4_duet_1 0 rfl rfl)
theorem dX4_duet_27 : decode cX4_duet 27 = .ok (.aload_n 0, 1) := dk_42 (dk_at dksX4_duet_1 3 rfl rfl)
theorem dX4_duet_28 : decode cX4_duet 28 = .ok (.iconst 1, 1) := dk_4 (dk_at dksX4_duet_1 4 rfl rfl)
theorem dX4_duet_29 : decode cX4_duet 29 = .ok (.iload_n 1, 1) := dk_27 (dk_at dksX4_duet_1 5 rfl rfl)
theorem dX4_duet_30 : decode cX4_duet 30 = .ok (.ishl, 1) := dk_120 (dk_at dksX4_duet_1 6 rfl rfl)
theorem dX4_duet_31 : decode cX4_duet 31 = .ok (.iconst 1, 1) := dk_4 (dk_at dksX4_duet_1 7 rfl rfl)
theorem dX4_duet_32 : decode cX4_duet 32 = .ok (.iload_n 2, 1) := dk_28 (dk_at dksX4_duet_1 8 rfl rfl)
theorem dX4_duet_33 : decode cX4_duet 33 = .ok (.ishl, 1) := dk_120 (dk_at dksX4_duet_1 9 rfl rfl)
theorem dX4_duet_34 : decode cX4_duet 34 = .ok (.ior, 1) := dk_128 (dk_at dksX4_duet_1 10 rfl rfl)
theorem dX4_duet_35 : decode cX4_duet 35 = .ok (.invokevirtual 376, 3) := dk_182 1 120 (dk_at dksX4_duet_1 11 rfl rfl)
theorem dX4_duet_38 : decode cX4_duet 38 = .ok (.ifCond .eq 10, 3) := dk_153 0 10 (dk_at dksX4_duet_1 14 rfl rfl)
theorem dX4_duet_41 : decode cX4_duet 41 = .ok (.bipush 10, 2) := dk_16 10 (dk_at dksX4_duet_1 17 rfl rfl)
theorem dX4_duet_43 : decode cX4_duet 43 = .ok (.iload_n 1, 1) := dk_27 (dk_at dksX4_duet_1 19 rfl rfl)
theorem dX4_duet_44 : decode cX4_duet 44 = .ok (.imul, 1) := dk_104 (dk_at dksX4_duet_1 20 rfl rfl)
theorem dX4_duet_45 : decode cX4_duet 45 = .ok (.iload_n 2, 1) := dk_28 (dk_at dksX4_duet_1 21 rfl rfl)
theorem dX4_duet_46 : decode cX4_duet 46 = .ok (.iadd, 1) := dk_96 (dk_at dksX4_duet_1 22 rfl rfl)
theorem dX4_duet_47 : decode cX4_duet 47 = .ok (.ireturn, 1) := dk_172 (dk_at dksX4_duet_1 23 rfl rfl)
theorem dX4_duet_48 : decode cX4_duet 48 = .ok (.iinc 2 1, 3) := dk_132 2 1 (dk_at dksX4_duet_2 0 rfl rfl)
theorem dX4_duet_51 : decode cX4_duet 51 = .ok (.goto (-32), 3) := dk_167 255 224 (dk_at dksX4_duet_2 3 rfl rfl)
theorem dX4_duet_54 : decode cX4_duet 54 = .ok (.iinc 1 1, 3) := dk_132 1 1 (dk_at dksX4_duet_2 6 rfl rfl)
theorem dX4_duet_57 : decode cX4_duet 57 = .ok (.goto (-50), 3) := dk_167 255 206 (dk_at dksX4_duet_2 9 rfl rfl)
theorem dX4_duet_60 : decode cX4_duet 60 = .ok (.iconst (-1), 1) := dk_2 (dk_at dksX4_duet_2 12 rfl rfl)
theorem dX4_duet_61 : decode cX4_duet 61 = .ok (.ireturn, 1) := dk_172 (dk_at dksX4_duet_2 13 rfl rfl)
abbrev cX4_areAtOnce : ByteArray := prog_14_method_77_code
def yX4_areAtOnce : MethodName := ⟨RX4, "areAtOnce", "(I)Z"⟩
def dkwX4_areAtOnce_7 : List UInt8 := [167, 255, 139, 4, 172]
abbrev dktX4_areAtOnce_7 : List UInt8 := dkwX4_areAtOnce_7 ++ []
def dkwX4_areAtOnce_6 : List UInt8 := [167, 255, 197, 21, 5, 184, 1, 55, 21, 6, 162, 0, 5, 3, 172, 132, 4, 1, 167, 255, 164, 132, 3, 1]
abbrev dktX4_areAtOnce_6 : List UInt8 := dkwX4_areAtOnce_6 ++ dktX4_areAtOnce_7
def dkwX4_areAtOnce_5 : List UInt8 := [128, 54, 5, 21, 6, 42, 180, 0, 29, 7, 21, 7, 104, 21, 4, 96, 46, 96, 54, 6, 132, 7, 1]
abbrev dktX4_areAtOnce_5 : List UInt8 := dkwX4_areAtOnce_5 ++ dktX4_areAtOnce_6
def dkwX4_areAtOnce_4 : List UInt8 := [122, 4, 126, 154, 0, 6, 167, 0, 38, 21, 5, 42, 28, 7, 21, 7, 104, 21, 4, 96, 3, 182, 1, 51]
abbrev dktX4_areAtOnce_4 : List UInt8 := dkwX4_areAtOnce_4 ++ dktX4_areAtOnce_5
def dkwX4_areAtOnce_3 : List UInt8 := [162, 0, 92, 3, 54, 5, 3, 54, 6, 3, 54, 7, 21, 7, 42, 180, 1, 24, 162, 0, 56, 29, 21, 7]
abbrev dktX4_areAtOnce_3 : List UInt8 := dkwX4_areAtOnce_3 ++ dktX4_areAtOnce_4
def dkwX4_areAtOnce_2 : List UInt8 := [62, 29, 27, 163, 0, 118, 29, 27, 2, 130, 126, 153, 0, 6, 167, 0, 101, 3, 54, 4, 21, 4, 7]
abbrev dktX4_areAtOnce_2 : List UInt8 := dkwX4_areAtOnce_2 ++ dktX4_areAtOnce_3
def dkwX4_areAtOnce_1 : List UInt8 := [126, 4, 160, 0, 15, 42, 28, 29, 3, 182, 1, 58, 154, 0, 5, 3, 172, 132, 3, 1, 167, 255, 224, 4]
abbrev dktX4_areAtOnce_1 : List UInt8 := dkwX4_areAtOnce_1 ++ dktX4_areAtOnce_2
def dkwX4_areAtOnce_0 : List UInt8 := [42, 42, 180, 0, 90, 3, 182, 1, 61, 61, 3, 62, 29, 42, 180, 1, 24, 162, 0, 30, 27, 29, 122, 4]
abbrev dktX4_areAtOnce_0 : List UInt8 := dkwX4_areAtOnce_0 ++ dktX4_areAtOnce_1
theorem dksX4_areAtOnce_0 : cX4_areAtOnce.data.toList.drop 0 = dktX4_areAtOnce_0 := by decide +kernel
theorem dksX4_areAtOnce_1 : cX4_areAtOnce.data.toList.drop 24 = dktX4_areAtOnce_1 := dk_seg dksX4_areAtOnce_0 24 rfl rfl
theorem dksX4_areAtOnce_2 : cX4_areAtOnce.data.toList.drop 48 = dktX4_areAtOnce_2 := dk_seg dksX4_areAtOnce_1 24 rfl rfl
theorem dksX4_areAtOnce_3 : cX4_areAtOnce.data.toList.drop 71 = dktX4_areAtOnce_3 := dk_seg dksX4_areAtOnce_2 23 rfl rfl
theorem dksX4_areAtOnce_4 : cX4_areAtOnce.data.toList.drop 95 = dktX4_areAtOnce_4 := dk_seg dksX4_areAtOnce_3 24 rfl rfl
theorem dksX4_areAtOnce_5 : cX4_areAtOnce.data.toList.drop 119 = dktX4_areAtOnce_5 := dk_seg dksX4_areAtOnce_4 24 rfl rfl
theorem dksX4_areAtOnce_6 : cX4_areAtOnce.data.toList.drop 142 = dktX4_areAtOnce_6 := dk_seg dksX4_areAtOnce_5 23 rfl rfl
theorem dksX4_areAtOnce_7 : cX4_areAtOnce.data.toList.drop 166 = dktX4_areAtOnce_7 := dk_seg dksX4_areAtOnce_6 24 rfl rfl
theorem dX4_areAtOnce_0 : decode cX4_areAtOnce 0 = .ok (.aload_n 0, 1) := dk_42 (dk_at dksX4_areAtOnce_0 0 rfl rfl)
theorem dX4_areAtOnce_1 : decode cX4_areAtOnce 1 = .ok (.aload_n 0, 1) := dk_42 (dk_at dksX4_areAtOnce_0 1 rfl rfl)
theorem dX4_areAtOnce_2 : decode cX4_areAtOnce 2 = .ok (.getfield 90, 3) := dk_180 0 90 (dk_at dksX4_areAtOnce_0 2 rfl rfl)
theorem dX4_areAtOnce_5 : decode cX4_areAtOnce 5 = .ok (.iconst 0, 1) := dk_3 (dk_at dksX4_areAtOnce_0 5 rfl rfl)
theorem dX4_areAtOnce_6 : decode cX4_areAtOnce 6 = .ok (.invokevirtual 317, 3) := dk_182 1 61 (dk_at dksX4_areAtOnce_0 6 rfl rfl)
theorem dX4_areAtOnce_9 : decode cX4_areAtOnce 9 = .ok (.istore_n 2, 1) := dk_61 (dk_at dksX4_areAtOnce_0 9 rfl rfl)
theorem dX4_areAtOnce_10 : decode cX4_areAtOnce 10 = .ok (.iconst 0, 1) := dk_3 (dk_at dksX4_areAtOnce_0 10 rfl rfl)
theorem dX4_areAtOnce_11 : decode cX4_areAtOnce 11 = .ok (.istore_n 3, 1) := dk_62 (dk_at dksX4_areAtOnce_0 11 rfl rfl)
theorem dX4_areAtOnce_12 : decode cX4_areAtOnce 12 = .ok (.iload_n 3, 1) := dk_29 (dk_at dksX4_areAtOnce_0 12 rfl rfl)
theorem dX4_areAtOnce_13 : decode cX4_areAtOnce 13 = .ok (.aload_n 0, 1) := dk_42 (dk_at dksX4_areAtOnce_0 13 rfl rfl)
theorem dX4_areAtOnce_14 : decode cX4_areAtOnce 14 = .ok (.getfield 280, 3) := dk_180 1 24 (dk_at dksX4_areAtOnce_0 14 rfl rfl)
theorem dX4_areAtOnce_17 : decode cX4_areAtOnce 17 = .ok (.if_icmp .ge 30, 3) := dk_162 0 30 (dk_at dksX4_areAtOnce_0 17 rfl rfl)
theorem dX4_areAtOnce_20 : decode cX4_areAtOnce 20 = .ok (.iload_n 1, 1) := dk_27 (dk_at dksX4_areAtOnce_0 20 rfl rfl)
theorem dX4_areAtOnce_21 : decode cX4_areAtOnce 21 = .ok (.iload_n 3, 1) := dk_29 (dk_at dksX4_areAtOnce_0 21 rfl rfl)
theorem dX4_areAtOnce_22 : decode cX4_areAtOnce 22 = .ok (.ishr, 1) := dk_122 (dk_at dksX4_areAtOnce_0 22 rfl rfl)
theorem dX4_areAtOnce_23 : decode cX4_areAtOnce 23 = .ok (.iconst 1, 1) := dk_4 (dk_at dksX4_areAtOnce_0 23 rfl rfl)
theorem dX4_areAtOnce_24 : decode cX4_areAtOnce 24 = .ok (.iand, 1) := dk_126 (dk_at dksX4_areAtOnce_1 0 rfl rfl)
theorem dX4_areAtOnce_25 : decode cX4_areAtOnce 25 = .ok (.iconst 1, 1) := dk_4 (dk_at dksX4_areAtOnce_1 1 rfl rfl)
theorem dX4_areAtOnce_26 : decode cX4_areAtOnce 26 = .ok (.if_icmp .ne 15, 3) := dk_160 0 15 (dk_at dksX4_areAtOnce_1 2 rfl rfl)
theorem dX4_areAtOnce_29 : decode cX4_areAtOnce 29 = .ok (.aload_n 0, 1) := dk_42 (dk_at dksX4_areAtOnce_1 5 rfl rfl)
theorem dX4_areAtOnce_30 : decode cX4_areAtOnce 30 = .ok (.iload_n 2, 1) := dk_28 (dk_at dksX4_areAtOnce_1 6 rfl rfl)
theorem dX4_areAtOnce_31 : decode cX4_areAtOnce 31 = .ok (.iload_n 3, 1) := dk_29 (dk_at dksX4_areAtOnce_1 7 rfl rfl)
theorem dX4_areAtOnce_32 : decode cX4_areAtOnce 32 = .ok (.iconst 0, 1) := dk_3 (dk_at dksX4_areAtOnce_1 8 rfl rfl)
theorem dX4_areAtOnce_33 : decode cX4_areAtOnce 33 = .ok (.invokevirtual 314, 3) := dk_182 1 58 (dk_at dksX4_areAtOnce_1 9 rfl rfl)
theorem dX4_areAtOnce_36 : decode cX4_areAtOnce 36 = .ok (.ifCond .ne 5, 3) := dk_154 0 5 (dk_at dksX4_areAtOnce_1 12 rfl rfl)
theorem dX4_areAtOnce_39 : decode cX4_areAtOnce 39 = .ok (.iconst 0, 1) := dk_3 (dk_at dksX4_areAtOnce_1 15 rfl rfl)
theorem dX4_areAtOnce_40 : decode cX4_areAtOnce 40 = .ok (.ireturn, 1) := dk_172 (dk_at dksX4_areAtOnce_1 16 rfl rfl)
theorem dX4_areAtOnce_41 : decode cX4_areAtOnce 41 = .ok (.iinc 3 1, 3) := dk_132 3 1 (dk_at dksX4_areAtOnce_1 17 rfl rfl)
theorem dX4_areAtOnce_44 : decode cX4_areAtOnce 44 = .ok (.goto (-32), 3) := dk_167 255 224 (dk_at dksX4_areAtOnce_1 20 rfl rfl)
theorem dX4_areAtOnce_47 : decode cX4_areAtOnce 47 = .ok (.iconst 1, 1) := dk_4 (dk_at dksX4_areAtOnce_1 23 rfl rfl)
theorem dX4_areAtOnce_48 : decode cX4_areAtOnce 48 = .ok (.istore_n 3, 1) := dk_62 (dk_at dksX4_areAtOnce_2 0 rfl rfl)
theorem dX4_areAtOnce_49 : decode cX4_areAtOnce 49 = .ok (.iload_n 3, 1) := dk_29 (dk_at dksX4_areAtOnce_2 1 rfl rfl)
theorem dX4_areAtOnce_50 : decode cX4_areAtOnce 50 = .ok (.iload_n 1, 1) := dk_27 (dk_at dksX4_areAtOnce_2 2 rfl rfl)
theorem dX4_areAtOnce_51 : decode cX4_areAtOnce 51 = .ok (.if_icmp .gt 118, 3) := dk_163 0 118 (dk_at dksX4_areAtOnce_2 3 rfl rfl)
theorem dX4_areAtOnce_54 : decode cX4_areAtOnce 54 = .ok (.iload_n 3, 1) := dk_29 (dk_at dksX4_areAtOnce_2 6 rfl rfl)
theorem dX4_areAtOnce_55 : decode cX4_areAtOnce 55 = .ok (.iload_n 1, 1) := dk_27 (dk_at dksX4_areAtOnce_2 7 rfl rfl)
theorem dX4_areAtOnce_56 : decode cX4_areAtOnce 56 = .ok (.iconst (-1), 1) := dk_2 (dk_at dksX4_areAtOnce_2 8 rfl rfl)
theorem dX4_areAtOnce_57 : decode cX4_areAtOnce 57 = .ok (.ixor, 1) := dk_130 (dk_at dksX4_areAtOnce_2 9 rfl rfl)
theorem dX4_areAtOnce_58 : decode cX4_areAtOnce 58 = .ok (.iand, 1) := dk_126 (dk_at dksX4_areAtOnce_2 10 rfl rfl)
theorem dX4_areAtOnce_59 : decode cX4_areAtOnce 59 = .ok (.ifCond .eq 6, 3) := dk_153 0 6 (dk_at dksX4_areAtOnce_2 11 rfl rfl)
theorem dX4_areAtOnce_62 : decode cX4_areAtOnce 62 = .ok (.goto 101, 3) := dk_167 0 101 (dk_at dksX4_areAtOnce_2 14 rfl rfl)
theorem dX4_areAtOnce_65 : decode cX4_areAtOnce 65 = .ok (.iconst 0, 1) := dk_3 (dk_at dksX4_areAtOnce_2 17 rfl rfl)
theorem dX4_areAtOnce_66 : decode cX4_areAtOnce 66 = .ok (.istore 4, 2) := dk_54 4 (dk_at dksX4_areAtOnce_2 18 rfl rfl)
theorem dX4_areAtOnce_68 : decode cX4_areAtOnce 68 = .ok (.iload 4, 2) := dk_21 4 (dk_at dksX4_areAtOnce_2 20 rfl rfl)
theorem dX4_areAtOnce_70 : decode cX4_areAtOnce 70 = .ok (.iconst 4, 1) := dk_7 (dk_at dksX4_areAtOnce_2 22 rfl rfl)
theorem dX4_areAtOnce_71 : decode cX4_areAtOnce 71 = .ok (.if_icmp .ge 92, 3) := dk_162 0 92 (dk_at dksX4_areAtOnce_3 0 rfl rfl)
theorem dX4_areAtOnce_74 : decode cX4_areAtOnce 74 = .ok (.iconst 0, 1) := dk_3 (dk_at dksX4_areAtOnce_3 3 rfl rfl)
theorem dX4_areAtOnce_75 : decode cX4_areAtOnce 75 = .ok (.istore 5, 2) := dk_54 5 (dk_at dksX4_areAtOnce_3 4 rfl rfl)
theorem dX4_areAtOnce_77 : decode cX4_areAtOnce 77 = .ok (.iconst 0, 1) := dk_3 (dk_at dksX4_areAtOnce_3 6 rfl rfl)
theorem dX4_areAtOnce_78 : decode cX4_areAtOnce 78 = .ok (.istore 6, 2) := dk_54 6 (dk_at dksX4_areAtOnce_3 7 rfl rfl)
theorem dX4_areAtOnce_80 : decode cX4_areAtOnce 80 = .ok (.iconst 0, 1) := dk_3 (dk_at dksX4_areAtOnce_3 9 rfl rfl)
theorem dX4_areAtOnce_81 : decode cX4_areAtOnce 81 = .ok (.istore 7, 2) := dk_54 7 (dk_at dksX4_areAtOnce_3 10 rfl rfl)
theorem dX4_areAtOnce_83 : decode cX4_areAtOnce 83 = .ok (.iload 7, 2) := dk_21 7 (dk_at dksX4_areAtOnce_3 12 rfl rfl)
theorem dX4_areAtOnce_85 : decode cX4_areAtOnce 85 = .ok (.aload_n 0, 1) := dk_42 (dk_at dksX4_areAtOnce_3 14 rfl rfl)
theorem dX4_areAtOnce_86 : decode cX4_areAtOnce 86 = .ok (.getfield 280, 3) := dk_180 1 24 (dk_at dksX4_areAtOnce_3 15 rfl rfl)
theorem dX4_areAtOnce_89 : decode cX4_areAtOnce 89 = .ok (.if_icmp .ge 56, 3) := dk_162 0 56 (dk_at dksX4_areAtOnce_3 18 rfl rfl)
theorem dX4_areAtOnce_92 : decode cX4_areAtOnce 92 = .ok (.iload_n 3, 1) := dk_29 (dk_at dksX4_areAtOnce_3 21 rfl rfl)
theorem dX4_areAtOnce_93 : decode cX4_areAtOnce 93 = .ok (.iload 7, 2) := dk_21 7 (dk_at dksX4_areAtOnce_3 22 rfl rfl)
theorem dX4_areAtOnce_95 : decode cX4_areAtOnce 95 = .ok (.ishr, 1) := dk_122 (dk_at dksX4_areAtOnce_4 0 rfl rfl)
theorem dX4_areAtOnce_96 : decode cX4_areAtOnce 96 = .ok (.iconst 1, 1) := dk_4 (dk_at dksX4_areAtOnce_4 1 rfl rfl)
theorem dX4_areAtOnce_97 : decode cX4_areAtOnce 97 = .ok (.iand, 1) := dk_126 (dk_at dksX4_areAtOnce_4 2 rfl rfl)
theorem dX4_areAtOnce_98 : decode cX4_areAtOnce 98 = .ok (.ifCond .ne 6, 3) := dk_154 0 6 (dk_at dksX4_areAtOnce_4 3 rfl rfl)
theorem dX4_areAtOnce_101 : decode cX4_areAtOnce 101 = .ok (.goto 38, 3) := dk_167 0 38 (dk_at dksX4_areAtOnce_4 6 rfl rfl)
theorem dX4_areAtOnce_104 : decode cX4_areAtOnce 104 = .ok (.iload 5, 2) := dk_21 5 (dk_at dksX4_areAtOnce_4 9 rfl rfl)
theorem dX4_areAtOnce_106 : decode cX4_areAtOnce 106 = .ok (.aload_n 0, 1) := dk_42 (dk_at dksX4_areAtOnce_4 11 rfl rfl)
theorem dX4_areAtOnce_107 : decode cX4_areAtOnce 107 = .ok (.iload_n 2, 1) := dk_28 (dk_at dksX4_areAtOnce_4 12 rfl rfl)
theorem dX4_areAtOnce_108 : decode cX4_areAtOnce 108 = .ok (.iconst 4, 1) := dk_7 (dk_at dksX4_areAtOnce_4 13 rfl rfl)
theorem dX4_areAtOnce_109 : decode cX4_areAtOnce 109 = .ok (.iload 7, 2) := dk_21 7 (dk_at dksX4_areAtOnce_4 14 rfl rfl)
theorem dX4_areAtOnce_111 : decode cX4_areAtOnce 111 = .ok (.imul, 1) := dk_104 (dk_at dksX4_areAtOnce_4 16 rfl rfl)
theorem dX4_areAtOnce_112 : decode cX4_areAtOnce 112 = .ok (.iload 4, 2) := dk_21 4 (dk_at dksX4_areAtOnce_4 17 rfl rfl)
theorem dX4_areAtOnce_114 : decode cX4_areAtOnce 114 = .ok (.iadd, 1) := dk_96 (dk_at dksX4_areAtOnce_4 19 rfl rfl)
theorem dX4_areAtOnce_115 : decode cX4_areAtOnce 115 = .ok (.iconst 0, 1) := dk_3 (dk_at dksX4_areAtOnce_4 20 rfl rfl)
theorem dX4_areAtOnce_116 : decode cX4_areAtOnce 116 = .ok (.invokevirtual 307, 3) := dk_182 1 51 (dk_at dksX4_areAtOnce_4 21 rfl rfl)
theorem dX4_areAtOnce_119 : decode cX4_areAtOnce 119 = .ok (.ior, 1) := dk_128 (dk_at dksX4_areAtOnce_5 0 rfl rfl)
theorem dX4_areAtOnce_120 : decode cX4_areAtOnce 120 = .ok (.istore 5, 2) := dk_54 5 (dk_at dksX4_areAtOnce_5 1 rfl rfl)
theorem dX4_areAtOnce_122 : decode cX4_areAtOnce 122 = .ok (.iload 6, 2) := dk_21 6 (dk_at dksX4_areAtOnce_5 3 rfl rfl)
theorem dX4_areAtOnce_124 : decode cX4_areAtOnce 124 = .ok (.aload_n 0, 1) := dk_42 (dk_at dksX4_areAtOnce_5 5 rfl rfl)
theorem dX4_areAtOnce_125 : decode cX4_areAtOnce 125 = .ok (.getfield 29, 3) := dk_180 0 29 (dk_at dksX4_areAtOnce_5 6 rfl rfl)
theorem dX4_areAtOnce_128 : decode cX4_areAtOnce 128 = .ok (.iconst 4, 1) := dk_7 (dk_at dksX4_areAtOnce_5 9 rfl rfl)
theorem dX4_areAtOnce_129 : decode cX4_areAtOnce 129 = .ok (.iload 7, 2) := dk_21 7 (dk_at dksX4_areAtOnce_5 10 rfl rfl)
theorem dX4_areAtOnce_131 : decode cX4_areAtOnce 131 = .ok (.imul, 1) := dk_104 (dk_at dksX4_areAtOnce_5 12 rfl rfl)
theorem dX4_areAtOnce_132 : decode cX4_areAtOnce 132 = .ok (.iload 4, 2) := dk_21 4 (dk_at dksX4_areAtOnce_5 13 rfl rfl)
theorem dX4_areAtOnce_134 : decode cX4_areAtOnce 134 = .ok (.iadd, 1) := dk_96 (dk_at dksX4_areAtOnce_5 15 rfl rfl)
theorem dX4_areAtOnce_135 : decode cX4_areAtOnce 135 = .ok (.iaload, 1) := dk_46 (dk_at dksX4_areAtOnce_5 16 rfl rfl)
theorem dX4_areAtOnce_136 : decode cX4_areAtOnce 136 = .ok (.iadd, 1) := dk_96 (dk_at dksX4_areAtOnce_5 17 rfl rfl)
theorem dX4_areAtOnce_137 : decode cX4_areAtOnce 137 = .ok (.istore 6, 2) := dk_54 6 (dk_at dksX4_areAtOnce_5 18 rfl rfl)
theorem dX4_areAtOnce_139 : decode cX4_areAtOnce 139 = .ok (.iinc 7 1, 3) := dk_132 7 1 (dk_at dksX4_areAtOnce_5 20 rfl rfl)
theorem dX4_areAtOnce_142 : decode cX4_areAtOnce 142 = .ok (.goto (-59), 3) := dk_167 255 197 (dk_at dksX4_areAtOnce_6 0 rfl rfl)
theorem dX4_areAtOnce_145 : decode cX4_areAtOnce 145 = .ok (.iload 5, 2) := dk_21 5 (dk_at dksX4_areAtOnce_6 3 rfl rfl)
theorem dX4_areAtOnce_147 : decode cX4_areAtOnce 147 = .ok (.invokestatic 311, 3) := dk_184 1 55 (dk_at dksX4_areAtOnce_6 5 rfl rfl)
theorem dX4_areAtOnce_150 : decode cX4_areAtOnce 150 = .ok (.iload 6, 2) := dk_21 6 (dk_at dksX4_areAtOnce_6 8 rfl rfl)
theorem dX4_areAtOnce_152 : decode cX4_areAtOnce 152 = .ok (.if_icmp .ge 5, 3) := dk_162 0 5 (dk_at dksX4_areAtOnce_6 10 rfl rfl)
theorem dX4_areAtOnce_155 : decode cX4_areAtOnce 155 = .ok (.iconst 0, 1) := dk_3 (dk_at dksX4_areAtOnce_6 13 rfl rfl)
theorem dX4_areAtOnce_156 : decode cX4_areAtOnce 156 = .ok (.ireturn, 1) := dk_172 (dk_at dksX4_areAtOnce_6 14 rfl rfl)
theorem dX4_areAtOnce_157 : decode cX4_areAtOnce 157 = .ok (.iinc 4 1, 3) := dk_132 4 1 (dk_at dksX4_areAtOnce_6 15 rfl rfl)
theorem dX4_areAtOnce_160 : decode cX4_areAtOnce 160 = .ok (.goto (-92), 3) := dk_167 255 164 (dk_at dksX4_areAtOnce_6 18 rfl rfl)
theorem dX4_areAtOnce_163 : decode cX4_areAtOnce 163 = .ok (.iinc 3 1, 3) := dk_132 3 1 (dk_at dksX4_areAtOnce_6 21 rfl rfl)
theorem dX4_areAtOnce_166 : decode cX4_areAtOnce 166 = .ok (.goto (-117), 3) := dk_167 255 139 (dk_at dksX4_areAtOnce_7 0 rfl rfl)
theorem dX4_areAtOnce_169 : decode cX4_areAtOnce 169 = .ok (.iconst 1, 1) := dk_4 (dk_at dksX4_areAtOnce_7 3 rfl rfl)
theorem dX4_areAtOnce_170 : decode cX4_areAtOnce 170 = .ok (.ireturn, 1) := dk_172 (dk_at dksX4_areAtOnce_7 4 rfl rfl)
abbrev cX4_evening : ByteArray := prog_14_method_79_code
def yX4_evening : MethodName := ⟨RX4, "evening", "()I"⟩
def dkwX4_evening_1 : List UInt8 := [184, 1, 55, 164, 0, 13, 42, 28, 182, 1, 120, 153, 0, 5, 28, 60, 132, 2, 1, 167, 255, 222, 27, 172]
abbrev dktX4_evening_1 : List UInt8 := dkwX4_evening_1 ++ []
def dkwX4_evening_0 : List UInt8 := [42, 3, 181, 0, 120, 3, 60, 4, 61, 28, 4, 42, 180, 1, 24, 120, 162, 0, 30, 28, 184, 1, 55, 27]
abbrev dktX4_evening_0 : List UInt8 := dkwX4_evening_0 ++ dktX4_evening_1
theorem dksX4_evening_0 : cX4_evening.data.toList.drop 0 = dktX4_evening_0 := by decide +kernel
theorem dksX4_evening_1 : cX4_evening.data.toList.drop 24 = dktX4_evening_1 := dk_seg dksX4_evening_0 24 rfl rfl
theorem dX4_evening_0 : decode cX4_evening 0 = .ok (.aload_n 0, 1) := dk_42 (dk_at dksX4_evening_0 0 rfl rfl)
theorem dX4_evening_1 : decode cX4_evening 1 = .ok (.iconst 0, 1) := dk_3 (dk_at dksX4_evening_0 1 rfl rfl)
theorem dX4_evening_2 : decode cX4_evening 2 = .ok (.putfield 120, 3) := dk_181 0 120 (dk_at dksX4_evening_0 2 rfl rfl)
theorem dX4_evening_5 : decode cX4_evening 5 = .ok (.iconst 0, 1) := dk_3 (dk_at dksX4_evening_0 5 rfl rfl)
theorem dX4_evening_6 : decode cX4_evening 6 = .ok (.istore_n 1, 1) := dk_60 (dk_at dksX4_evening_0 6 rfl rfl)
theorem dX4_evening_7 : decode cX4_evening 7 = .ok (.iconst 1, 1) := dk_4 (dk_at dksX4_evening_0 7 rfl rfl)
theorem dX4_evening_8 : decode cX4_evening 8 = .ok (.istore_n 2, 1) := dk_61 (dk_at dksX4_evening_0 8 rfl rfl)
theorem dX4_evening_9 : decode cX4_evening 9 = .ok (.iload_n 2, 1) := dk_28 (dk_at dksX4_evening_0 9 rfl rfl)
theorem dX4_evening_10 : decode cX4_evening 10 = .ok (.iconst 1, 1) := dk_4 (dk_at dksX4_evening_0 10 rfl rfl)
theorem dX4_evening_11 : decode cX4_evening 11 = .ok (.aload_n 0, 1) := dk_42 (dk_at dksX4_evening_0 11 rfl rfl)
theorem dX4_evening_12 : decode cX4_evening 12 = .ok (.getfield 280, 3) := dk_180 1 24 (dk_at dksX4_evening_0 12 rfl rfl)
theorem dX4_evening_15 : decode cX4_evening 15 = .ok (.ishl, 1) := dk_120 (dk_at dksX4_evening_0 15 rfl rfl)
theorem dX4_evening_16 : decode cX4_evening 16 = .ok (.if_icmp .ge 30, 3) := dk_162 0 30 (dk_at dksX4_evening_0 16 rfl rfl)
theorem dX4_evening_19 : decode cX4_evening 19 = .ok (.iload_n 2, 1) := dk_28 (dk_at dksX4_evening_0 19 rfl rfl)
theorem dX4_evening_20 : decode cX4_evening 20 = .ok (.invokestatic 311, 3) := dk_184 1 55 (dk_at dksX4_evening_0 20 rfl rfl)
theorem dX4_evening_23 : decode cX4_evening 23 = .ok (.iload_n 1, 1) := dk_27 (dk_at dksX4_evening_0 23 rfl rfl)
theorem dX4_evening_24 : decode cX4_evening 24 = .ok (.invokestatic 311, 3) := dk_184 1 55 (dk_at dksX4_evening_1 0 rfl rfl)
theorem dX4_evening_27 : decode cX4_evening 27 = .ok (.if_icmp .le 13, 3) := dk_164 0 13 (dk_at dksX4_evening_1 3 rfl rfl)
theorem dX4_evening_30 : decode cX4_evening 30 = .ok (.aload_n 0, 1) := dk_42 (dk_at dksX4_evening_1 6 rfl rfl)
theorem dX4_evening_31 : decode cX4_evening 31 = .ok (.iload_n 2, 1) := dk_28 (dk_at dksX4_evening_1 7 rfl rfl)
theorem dX4_evening_32 : decode cX4_evening 32 = .ok (.invokevirtual 376, 3) := dk_182 1 120 (dk_at dksX4_evening_1 8 rfl rfl)
theorem dX4_evening_35 : decode cX4_evening 35 = .ok (.ifCond .eq 5, 3) := dk_153 0 5 (dk_at dksX4_evening_1 11 rfl rfl)
theorem dX4_evening_38 : decode cX4_evening 38 = .ok (.iload_n 2, 1) := dk_28 (dk_at dksX4_evening_1 14 rfl rfl)
theorem dX4_evening_39 : decode cX4_evening 39 = .ok (.istore_n 1, 1) := dk_60 (dk_at dksX4_evening_1 15 rfl rfl)
theorem dX4_evening_40 : decode cX4_evening 40 = .ok (.iinc 2 1, 3) := dk_132 2 1 (dk_at dksX4_evening_1 16 rfl rfl)
theorem dX4_evening_43 : decode cX4_evening 43 = .ok (.goto (-34), 3) := dk_167 255 222 (dk_at dksX4_evening_1 19 rfl rfl)
theorem dX4_evening_46 : decode cX4_evening 46 = .ok (.iload_n 1, 1) := dk_27 (dk_at dksX4_evening_1 22 rfl rfl)
theorem dX4_evening_47 : decode cX4_evening 47 = .ok (.ireturn, 1) := dk_172 (dk_at dksX4_evening_1 23 rfl rfl)
abbrev cX4_cast : ByteArray := prog_14_method_80_code
def yX4_cast : MethodName := ⟨RX4, "cast", "(II)I"⟩
def dkwX4_cast_8 : List UInt8 := [132, 6, 1, 167, 255, 121, 28, 154, 0, 8, 21, 4, 167, 0, 5, 21, 5, 172]
abbrev dktX4_cast_8 : List UInt8 := dkwX4_cast_8 ++ []
def dkwX4_cast_7 : List UInt8 := [21, 9, 120, 128, 54, 4, 21, 5, 42, 180, 0, 26, 21, 9, 46, 96, 54, 5, 132, 8, 1, 167, 255, 150]
abbrev dktX4_cast_7 : List UInt8 := dkwX4_cast_7 ++ dktX4_cast_8
def dkwX4_cast_6 : List UInt8 := [21, 10, 54, 9, 132, 10, 1, 167, 255, 206, 21, 7, 4, 21, 9, 120, 2, 130, 126, 54, 7, 21, 4, 4]
abbrev dktX4_cast_6 : List UInt8 := dkwX4_cast_6 ++ dktX4_cast_7
def dkwX4_cast_5 : List UInt8 := [21, 9, 2, 159, 0, 20, 42, 180, 0, 26, 21, 10, 46, 42, 180, 0, 26, 21, 9, 46, 164, 0, 7]
abbrev dktX4_cast_5 : List UInt8 := dkwX4_cast_5 ++ dktX4_cast_6
def dkwX4_cast_4 : List UInt8 := [3, 54, 10, 21, 10, 42, 180, 1, 21, 162, 0, 47, 21, 7, 21, 10, 122, 4, 126, 4, 160, 0, 30]
abbrev dktX4_cast_4 : List UInt8 := dkwX4_cast_4 ++ dktX4_cast_5
def dkwX4_cast_3 : List UInt8 := [3, 182, 1, 51, 54, 7, 3, 54, 8, 21, 8, 42, 180, 0, 29, 21, 6, 46, 162, 0, 100, 2, 54, 9]
abbrev dktX4_cast_3 : List UInt8 := dkwX4_cast_3 ++ dktX4_cast_4
def dkwX4_cast_2 : List UInt8 := [54, 4, 3, 54, 5, 7, 27, 104, 54, 6, 21, 6, 7, 27, 104, 7, 96, 162, 0, 131, 42, 29, 21, 6]
abbrev dktX4_cast_2 : List UInt8 := dkwX4_cast_2 ++ dktX4_cast_3
def dkwX4_cast_1 : List UInt8 := [42, 42, 180, 0, 90, 3, 182, 1, 61, 62, 42, 29, 27, 3, 182, 1, 58, 154, 0, 5, 2, 172, 3]
abbrev dktX4_cast_1 : List UInt8 := dkwX4_cast_1 ++ dktX4_cast_2
def dkwX4_cast_0 : List UInt8 := [42, 3, 181, 0, 120, 42, 27, 182, 1, 75, 153, 0, 12, 42, 28, 4, 182, 1, 71, 154, 0, 5, 3, 172]
abbrev dktX4_cast_0 : List UInt8 := dkwX4_cast_0 ++ dktX4_cast_1
theorem dksX4_cast_0 : cX4_cast.data.toList.drop 0 = dktX4_cast_0 := by decide +kernel
theorem dksX4_cast_1 : cX4_cast.data.toList.drop 24 = dktX4_cast_1 := dk_seg dksX4_cast_0 24 rfl rfl
theorem dksX4_cast_2 : cX4_cast.data.toList.drop 47 = dktX4_cast_2 := dk_seg dksX4_cast_1 23 rfl rfl
theorem dksX4_cast_3 : cX4_cast.data.toList.drop 71 = dktX4_cast_3 := dk_seg dksX4_cast_2 24 rfl rfl
theorem dksX4_cast_4 : cX4_cast.data.toList.drop 95 = dktX4_cast_4 := dk_seg dksX4_cast_3 24 rfl rfl
theorem dksX4_cast_5 : cX4_cast.data.toList.drop 118 = dktX4_cast_5 := dk_seg dksX4_cast_4 23 rfl rfl
theorem dksX4_cast_6 : cX4_cast.data.toList.drop 141 = dktX4_cast_6 := dk_seg dksX4_cast_5 23 rfl rfl
theorem dksX4_cast_7 : cX4_cast.data.toList.drop 165 = dktX4_cast_7 := dk_seg dksX4_cast_6 24 rfl rfl
theorem dksX4_cast_8 : cX4_cast.data.toList.drop 189 = dktX4_cast_8 := dk_seg dksX4_cast_7 24 rfl rfl
theorem dX4_cast_0 : decode cX4_cast 0 = .ok (.aload_n 0, 1) := dk_42 (dk_at dksX4_cast_0 0 rfl rfl)
theorem dX4_cast_1 : decode cX4_cast 1 = .ok (.iconst 0, 1) := dk_3 (dk_at dksX4_cast_0 1 rfl rfl)
theorem dX4_cast_2 : decode cX4_cast 2 = .ok (.putfield 120, 3) := dk_181 0 120 (dk_at dksX4_cast_0 2 rfl rfl)
theorem dX4_cast_5 : decode cX4_cast 5 = .ok (.aload_n 0, 1) := dk_42 (dk_at dksX4_cast_0 5 rfl rfl)
theorem dX4_cast_6 : decode cX4_cast 6 = .ok (.iload_n 1, 1) := dk_27 (dk_at dksX4_cast_0 6 rfl rfl)
theorem dX4_cast_7 : decode cX4_cast 7 = .ok (.invokevirtual 331, 3) := dk_182 1 75 (dk_at dksX4_cast_0 7 rfl rfl)
theorem dX4_cast_10 : decode cX4_cast 10 = .ok (.ifCond .eq 12, 3) := dk_153 0 12 (dk_at dksX4_cast_0 10 rfl rfl)
theorem dX4_cast_13 : decode cX4_cast 13 = .ok (.aload_n 0, 1) := dk_42 (dk_at dksX4_cast_0 13 rfl rfl)
theorem dX4_cast_14 : decode cX4_cast 14 = .ok (.iload_n 2, 1) := dk_28 (dk_at dksX4_cast_0 14 rfl rfl)
theorem dX4_cast_15 : decode cX4_cast 15 = .ok (.iconst 1, 1) := dk_4 (dk_at dksX4_cast_0 15 rfl rfl)
theorem dX4_cast_16 : decode cX4_cast 16 = .ok (.invokevirtual 327, 3) := dk_182 1 71 (dk_at dksX4_cast_0 16 rfl rfl)
theorem dX4_cast_19 : decode cX4_cast 19 = .ok (.ifCond .ne 5, 3) := dk_154 0 5 (dk_at dksX4_cast_0 19 rfl rfl)
theorem dX4_cast_22 : decode cX4_cast 22 = .ok (.iconst 0, 1) := dk_3 (dk_at dksX4_cast_0 22 rfl rfl)
theorem dX4_cast_23 : decode cX4_cast 23 = .ok (.ireturn, 1) := dk_172 (dk_at dksX4_cast_0 23 rfl rfl)
theorem dX4_cast_24 : decode cX4_cast 24 = .ok (.aload_n 0, 1) := dk_42 (dk_at dksX4_cast_1 0 rfl rfl)
theorem dX4_cast_25 : decode cX4_cast 25 = .ok (.aload_n 0, 1) := dk_42 (dk_at dksX4_cast_1 1 rfl rfl)
theorem dX4_cast_26 : decode cX4_cast 26 = .ok (.getfield 90, 3) := dk_180 0 90 (dk_at dksX4_cast_1 2 rfl rfl)
theorem dX4_cast_29 : decode cX4_cast 29 = .ok (.iconst 0, 1) := dk_3 (dk_at dksX4_cast_1 5 rfl rfl)
theorem dX4_cast_30 : decode cX4_cast 30 = .ok (.invokevirtual 317, 3) := dk_182 1 61 (dk_at dksX4_cast_1 6 rfl rfl)
theorem dX4_cast_33 : decode cX4_cast 33 = .ok (.istore_n 3, 1) := dk_62 (dk_at dksX4_cast_1 9 rfl rfl)
theorem dX4_cast_34 : decode cX4_cast 34 = .ok (.aload_n 0, 1) := dk_42 (dk_at dksX4_cast_1 10 rfl rfl)
theorem dX4_cast_35 : decode cX4_cast 35 = .ok (.iload_n 3, 1) := dk_29 (dk_at dksX4_cast_1 11 rfl rfl)
theorem dX4_cast_36 : decode cX4_cast 36 = .ok (.iload_n 1, 1) := dk_27 (dk_at dksX4_cast_1 12 rfl rfl)
theorem dX4_cast_37 : decode cX4_cast 37 = .ok (.iconst 0, 1) := dk_3 (dk_at dksX4_cast_1 13 rfl rfl)
theorem dX4_cast_38 : decode cX4_cast 38 = .ok (.invokevirtual 314, 3) := dk_182 1 58 (dk_at dksX4_cast_1 14 rfl rfl)
theorem dX4_cast_41 : decode cX4_cast 41 = .ok (.ifCond .ne 5, 3) := dk_154 0 5 (dk_at dksX4_cast_1 17 rfl rfl)
theorem dX4_cast_44 : decode cX4_cast 44 = .ok (.iconst (-1), 1) := dk_2 (dk_at dksX4_cast_1 20 rfl rfl)
theorem dX4_cast_45 : decode cX4_cast 45 = .ok (.ireturn, 1) := dk_172 (dk_at dksX4_cast_1 21 rfl rfl)
theorem dX4_cast_46 : decode cX4_cast 46 = .ok (.iconst 0, 1) := dk_3 (dk_at dksX4_cast_1 22 rfl rfl)
theorem dX4_cast_47 : decode cX4_cast 47 = .ok (.istore 4, 2) := dk_54 4 (dk_at dksX4_cast_2 0 rfl rfl)
theorem dX4_cast_49 : decode cX4_cast 49 = .ok (.iconst 0, 1) := dk_3 (dk_at dksX4_cast_2 2 rfl rfl)
theorem dX4_cast_50 : decode cX4_cast 50 = .ok (.istore 5, 2) := dk_54 5 (dk_at dksX4_cast_2 3 rfl rfl)
theorem dX4_cast_52 : decode cX4_cast 52 = .ok (.iconst 4, 1) := dk_7 (dk_at dksX4_cast_2 5 rfl rfl)
theorem dX4_cast_53 : decode cX4_cast 53 = .ok (.iload_n 1, 1) := dk_27 (dk_at dksX4_cast_2 6 rfl rfl)
theorem dX4_cast_54 : decode cX4_cast 54 = .ok (.imul, 1) := dk_104 (dk_at dksX4_cast_2 7 rfl rfl)
theorem dX4_cast_55 : decode cX4_cast 55 = .ok (.istore 6, 2) := dk_54 6 (dk_at dksX4_cast_2 8 rfl rfl)
theorem dX4_cast_57 : decode cX4_cast 57 = .ok (.iload 6, 2) := dk_21 6 (dk_at dksX4_cast_2 10 rfl rfl)
theorem dX4_cast_59 : decode cX4_cast 59 = .ok (.iconst 4, 1) := dk_7 (dk_at dksX4_cast_2 12 rfl rfl)
theorem dX4_cast_60 : decode cX4_cast 60 = .ok (.iload_n 1, 1) := dk_27 (dk_at dksX4_cast_2 13 rfl rfl)
theorem dX4_cast_61 : decode cX4_cast 61 = .ok (.imul, 1) := dk_104 (dk_at dksX4_cast_2 14 rfl rfl)
theorem dX4_cast_62 : decode cX4_cast 62 = .ok (.iconst 4, 1) := dk_7 (dk_at dksX4_cast_2 15 rfl rfl)
theorem dX4_cast_63 : decode cX4_cast 63 = .ok (.iadd, 1) := dk_96 (dk_at dksX4_cast_2 16 rfl rfl)
theorem dX4_cast_64 : decode cX4_cast 64 = .ok (.if_icmp .ge 131, 3) := dk_162 0 131 (dk_at dksX4_cast_2 17 rfl rfl)
theorem dX4_cast_67 : decode cX4_cast 67 = .ok (.aload_n 0, 1) := dk_42 (dk_at dksX4_cast_2 20 rfl rfl)
theorem dX4_cast_68 : decode cX4_cast 68 = .ok (.iload_n 3, 1) := dk_29 (dk_at dksX4_cast_2 21 rfl rfl)
theorem dX4_cast_69 : decode cX4_cast 69 = .ok (.iload 6, 2) := dk_21 6 (dk_at dksX4_cast_2 22 rfl rfl)
theorem dX4_cast_71 : decode cX4_cast 71 = .ok (.iconst 0, 1) := dk_3 (dk_at dksX4_cast_3 0 rfl rfl)
theorem dX4_cast_72 : decode cX4_cast 72 = .ok (.invokevirtual 307, 3) := dk_182 1 51 (dk_at dksX4_cast_3 1 rfl rfl)
theorem dX4_cast_75 : decode cX4_cast 75 = .ok (.istore 7, 2) := dk_54 7 (dk_at dksX4_cast_3 4 rfl rfl)
theorem dX4_cast_77 : decode cX4_cast 77 = .ok (.iconst 0, 1) := dk_3 (dk_at dksX4_cast_3 6 rfl rfl)
theorem dX4_cast_78 : decode cX4_cast 78 = .ok (.istore 8, 2) := dk_54 8 (dk_at dksX4_cast_3 7 rfl rfl)
theorem dX4_cast_80 : decode cX4_cast 80 = .ok (.iload 8, 2) := dk_21 8 (dk_at dksX4_cast_3 9 rfl rfl)
theorem dX4_cast_82 : decode cX4_cast 82 = .ok (.aload_n 0, 1) := dk_42 (dk_at dksX4_cast_3 11 rfl rfl)
theorem dX4_cast_83 : decode cX4_cast 83 = .ok (.getfield 29, 3) := dk_180 0 29 (dk_at dksX4_cast_3 12 rfl rfl)
theorem dX4_cast_86 : decode cX4_cast 86 = .ok (.iload 6, 2) := dk_21 6 (dk_at dksX4_cast_3 15 rfl rfl)
theorem dX4_cast_88 : decode cX4_cast 88 = .ok (.iaload, 1) := dk_46 (dk_at dksX4_cast_3 17 rfl rfl)
theorem dX4_cast_89 : decode cX4_cast 89 = .ok (.if_icmp .ge 100, 3) := dk_162 0 100 (dk_at dksX4_cast_3 18 rfl rfl)
theorem dX4_cast_92 : decode cX4_cast 92 = .ok (.iconst (-1), 1) := dk_2 (dk_at dksX4_cast_3 21 rfl rfl)
theorem dX4_cast_93 : decode cX4_cast 93 = .ok (.istore 9, 2) := dk_54 9 (dk_at dksX4_cast_3 22 rfl rfl)
theorem dX4_cast_95 : decode cX4_cast 95 = .ok (.iconst 0, 1) := dk_3 (dk_at dksX4_cast_4 0 rfl rfl)
theorem dX4_cast_96 : decode cX4_cast 96 = .ok (.istore 10, 2) := dk_54 10 (dk_at dksX4_cast_4 1 rfl rfl)
theorem dX4_cast_98 : decode cX4_cast 98 = .ok (.iload 10, 2) := dk_21 10 (dk_at dksX4_cast_4 3 rfl rfl)
theorem dX4_cast_100 : decode cX4_cast 100 = .ok (.aload_n 0, 1) := dk_42 (dk_at dksX4_cast_4 5 rfl rfl)
theorem dX4_cast_101 : decode cX4_cast 101 = .ok (.getfield 277, 3) := dk_180 1 21 (dk_at dksX4_cast_4 6 rfl rfl)
theorem dX4_cast_104 : decode cX4_cast 104 = .ok (.if_icmp .ge 47, 3) := dk_162 0 47 (dk_at dksX4_cast_4 9 rfl rfl)
theorem dX4_cast_107 : decode cX4_cast 107 = .ok (.iload 7, 2) := dk_21 7 (dk_at dksX4_cast_4 12 rfl rfl)
theorem dX4_cast_109 : decode cX4_cast 109 = .ok (.iload 10, 2) := dk_21 10 (dk_at dksX4_cast_4 14 rfl rfl)
theorem dX4_cast_111 : decode cX4_cast 111 = .ok (.ishr, 1) := dk_122 (dk_at dksX4_cast_4 16 rfl rfl)
theorem dX4_cast_112 : decode cX4_cast 112 = .ok (.iconst 1, 1) := dk_4 (dk_at dksX4_cast_4 17 rfl rfl)
theorem dX4_cast_113 : decode cX4_cast 113 = .ok (.iand, 1) := dk_126 (dk_at dksX4_cast_4 18 rfl rfl)
theorem dX4_cast_114 : decode cX4_cast 114 = .ok (.iconst 1, 1) := dk_4 (dk_at dksX4_cast_4 19 rfl rfl)
theorem dX4_cast_115 : decode cX4_cast 115 = .ok (.if_icmp .ne 30, 3) := dk_160 0 30 (dk_at dksX4_cast_4 20 rfl rfl)
theorem dX4_cast_118 : decode cX4_cast 118 = .ok (.iload 9, 2) := dk_21 9 (dk_at dksX4_cast_5 0 rfl rfl)
theorem dX4_cast_120 : decode cX4_cast 120 = .ok (.iconst (-1), 1) := dk_2 (dk_at dksX4_cast_5 2 rfl rfl)
theorem dX4_cast_121 : decode cX4_cast 121 = .ok (.if_icmp .eq 20, 3) := dk_159 0 20 (dk_at dksX4_cast_5 3 rfl rfl)
theorem dX4_cast_124 : decode cX4_cast 124 = .ok (.aload_n 0, 1) := dk_42 (dk_at dksX4_cast_5 6 rfl rfl)
theorem dX4_cast_125 : decode cX4_cast 125 = .ok (.getfield 26, 3) := dk_180 0 26 (dk_at dksX4_cast_5 7 rfl rfl)
theorem dX4_cast_128 : decode cX4_cast 128 = .ok (.iload 10, 2) := dk_21 10 (dk_at dksX4_cast_5 10 rfl rfl)
theorem dX4_cast_130 : decode cX4_cast 130 = .ok (.iaload, 1) := dk_46 (dk_at dksX4_cast_5 12 rfl rfl)
theorem dX4_cast_131 : decode cX4_cast 131 = .ok (.aload_n 0, 1) := dk_42 (dk_at dksX4_cast_5 13 rfl rfl)
theorem dX4_cast_132 : decode cX4_cast 132 = .ok (.getfield 26, 3) := dk_180 0 26 (dk_at dksX4_cast_5 14 rfl rfl)
theorem dX4_cast_135 : decode cX4_cast 135 = .ok (.iload 9, 2) := dk_21 9 (dk_at dksX4_cast_5 17 rfl rfl)
theorem dX4_cast_137 : decode cX4_cast 137 = .ok (.iaload, 1) := dk_46 (dk_at dksX4_cast_5 19 rfl rfl)
theorem dX4_cast_138 : decode cX4_cast 138 = .ok (.if_icmp .le 7, 3) := dk_164 0 7 (dk_at dksX4_cast_5 20 rfl rfl)
theorem dX4_cast_141 : decode cX4_cast 141 = .ok (.iload 10, 2) := dk_21 10 (dk_at dksX4_cast_6 0 rfl rfl)
theorem dX4_cast_143 : decode cX4_cast 143 = .ok (.istore 9, 2) := dk_54 9 (dk_at dksX4_cast_6 2 rfl rfl)
theorem dX4_cast_145 : decode cX4_cast 145 = .ok (.iinc 10 1, 3) := dk_132 10 1 (dk_at dksX4_cast_6 4 rfl rfl)
theorem dX4_cast_148 : decode cX4_cast 148 = .ok (.goto (-50), 3) := dk_167 255 206 (dk_at dksX4_cast_6 7 rfl rfl)
theorem dX4_cast_151 : decode cX4_cast 151 = .ok (.iload 7, 2) := dk_21 7 (dk_at dksX4_cast_6 10 rfl rfl)
theorem dX4_cast_153 : decode cX4_cast 153 = .ok (.iconst 1, 1) := dk_4 (dk_at dksX4_cast_6 12 rfl rfl)
theorem dX4_cast_154 : decode cX4_cast 154 = .ok (.iload 9, 2) := dk_21 9 (dk_at dksX4_cast_6 13 rfl rfl)
theorem dX4_cast_156 : decode cX4_cast 156 = .ok (.ishl, 1) := dk_120 (dk_at dksX4_cast_6 15 rfl rfl)
theorem dX4_cast_157 : decode cX4_cast 157 = .ok (.iconst (-1), 1) := dk_2 (dk_at dksX4_cast_6 16 rfl rfl)
theorem dX4_cast_158 : decode cX4_cast 158 = .ok (.ixor, 1) := dk_130 (dk_at dksX4_cast_6 17 rfl rfl)
theorem dX4_cast_159 : decode cX4_cast 159 = .ok (.iand, 1) := dk_126 (dk_at dksX4_cast_6 18 rfl rfl)
theorem dX4_cast_160 : decode cX4_cast 160 = .ok (.istore 7, 2) := dk_54 7 (dk_at dksX4_cast_6 19 rfl rfl)
theorem dX4_cast_162 : decode cX4_cast 162 = .ok (.iload 4, 2) := dk_21 4 (dk_at dksX4_cast_6 21 rfl rfl)
theorem dX4_cast_164 : decode cX4_cast 164 = .ok (.iconst 1, 1) := dk_4 (dk_at dksX4_cast_6 23 rfl rfl)
theorem dX4_cast_165 : decode cX4_cast 165 = .ok (.iload 9, 2) := dk_21 9 (dk_at dksX4_cast_7 0 rfl rfl)
theorem dX4_cast_167 : decode cX4_cast 167 = .ok (.ishl, 1) := dk_120 (dk_at dksX4_cast_7 2 rfl rfl)
theorem dX4_cast_168 : decode cX4_cast 168 = .ok (.ior, 1) := dk_128 (dk_at dksX4_cast_7 3 rfl rfl)
theorem dX4_cast_169 : decode cX4_cast 169 = .ok (.istore 4, 2) := dk_54 4 (dk_at dksX4_cast_7 4 rfl rfl)
theorem dX4_cast_171 : decode cX4_cast 171 = .ok (.iload 5, 2) := dk_21 5 (dk_at dksX4_cast_7 6 rfl rfl)
theorem dX4_cast_173 : decode cX4_cast 173 = .ok (.aload_n 0, 1) := dk_42 (dk_at dksX4_cast_7 8 rfl rfl)
theorem dX4_cast_174 : decode cX4_cast 174 = .ok (.getfield 26, 3) := dk_180 0 26 (dk_at dksX4_cast_7 9 rfl rfl)
theorem dX4_cast_177 : decode cX4_cast 177 = .ok (.iload 9, 2) := dk_21 9 (dk_at dksX4_cast_7 12 rfl rfl)
theorem dX4_cast_179 : decode cX4_cast 179 = .ok (.iaload, 1) := dk_46 (dk_at dksX4_cast_7 14 rfl rfl)
theorem dX4_cast_180 : decode cX4_cast 180 = .ok (.iadd, 1) := dk_96 (dk_at dksX4_cast_7 15 rfl rfl)
theorem dX4_cast_181 : decode cX4_cast 181 = .ok (.istore 5, 2) := dk_54 5 (dk_at dksX4_cast_7 16 rfl rfl)
theorem dX4_cast_183 : decode cX4_cast 183 = .ok (.iinc 8 1, 3) := dk_132 8 1 (dk_at dksX4_cast_7 18 rfl rfl)
theorem dX4_cast_186 : decode cX4_cast 186 = .ok (.goto (-106), 3) := dk_167 255 150 (dk_at dksX4_cast_7 21 rfl rfl)
theorem dX4_cast_189 : decode cX4_cast 189 = .ok (.iinc 6 1, 3) := dk_132 6 1 (dk_at dksX4_cast_8 0 rfl rfl)
theorem dX4_cast_192 : decode cX4_cast 192 = .ok (.goto (-135), 3) := dk_167 255 121 (dk_at dksX4_cast_8 3 rfl rfl)
theorem dX4_cast_195 : decode cX4_cast 195 = .ok (.iload_n 2, 1) := dk_28 (dk_at dksX4_cast_8 6 rfl rfl)
theorem dX4_cast_196 : decode cX4_cast 196 = .ok (.ifCond .ne 8, 3) := dk_154 0 8 (dk_at dksX4_cast_8 7 rfl rfl)
theorem dX4_cast_199 : decode cX4_cast 199 = .ok (.iload 4, 2) := dk_21 4 (dk_at dksX4_cast_8 10 rfl rfl)
theorem dX4_cast_201 : decode cX4_cast 201 = .ok (.goto 5, 3) := dk_167 0 5 (dk_at dksX4_cast_8 12 rfl rfl)
theorem dX4_cast_204 : decode cX4_cast 204 = .ok (.iload 5, 2) := dk_21 5 (dk_at dksX4_cast_8 15 rfl rfl)
theorem dX4_cast_206 : decode cX4_cast 206 = .ok (.ireturn, 1) := dk_172 (dk_at dksX4_cast_8 17 rfl rfl)
abbrev cX4_transposed : ByteArray := prog_14_method_82_code
def yX4_transposed : MethodName := ⟨RX4, "transposed", "(I)I"⟩
def dkwX4_transposed_3 : List UInt8 := [29, 172, 132, 2, 1, 167, 255, 197, 16, 157, 172]
abbrev dktX4_transposed_3 : List UInt8 := dkwX4_transposed_3 ++ []
def dkwX4_transposed_2 : List UInt8 := [182, 1, 123, 153, 0, 23, 42, 42, 42, 180, 0, 90, 3, 182, 1, 61, 27, 29, 182, 1, 58, 153, 0, 5]
abbrev dktX4_transposed_2 : List UInt8 := dkwX4_transposed_2 ++ dktX4_transposed_3
def dkwX4_transposed_1 : List UInt8 := [5, 112, 4, 160, 0, 13, 3, 28, 4, 96, 5, 108, 100, 167, 0, 6, 28, 5, 108, 62, 42, 27, 29]
abbrev dktX4_transposed_1 : List UInt8 := dkwX4_transposed_1 ++ dktX4_transposed_2
def dkwX4_transposed_0 : List UInt8 := [42, 3, 181, 0, 120, 42, 27, 182, 1, 75, 154, 0, 5, 3, 172, 3, 61, 28, 16, 24, 163, 0, 59, 28]
abbrev dktX4_transposed_0 : List UInt8 := dkwX4_transposed_0 ++ dktX4_transposed_1
theorem dksX4_transposed_0 : cX4_transposed.data.toList.drop 0 = dktX4_transposed_0 := by decide +kernel
theorem dksX4_transposed_1 : cX4_transposed.data.toList.drop 24 = dktX4_transposed_1 := dk_seg dksX4_transposed_0 24 rfl rfl
theorem dksX4_transposed_2 : cX4_transposed.data.toList.drop 47 = dktX4_transposed_2 := dk_seg dksX4_transposed_1 23 rfl rfl
theorem dksX4_transposed_3 : cX4_transposed.data.toList.drop 71 = dktX4_transposed_3 := dk_seg dksX4_transposed_2 24 rfl rfl
theorem dX4_transposed_0 : decode cX4_transposed 0 = .ok (.aload_n 0, 1) := dk_42 (dk_at dksX4_transposed_0 0 rfl rfl)
theorem dX4_transposed_1 : decode cX4_transposed 1 = .ok (.iconst 0, 1) := dk_3 (dk_at dksX4_transposed_0 1 rfl rfl)
theorem dX4_transposed_2 : decode cX4_transposed 2 = .ok (.putfield 120, 3) := dk_181 0 120 (dk_at dksX4_transposed_0 2 rfl rfl)
theorem dX4_transposed_5 : decode cX4_transposed 5 = .ok (.aload_n 0, 1) := dk_42 (dk_at dksX4_transposed_0 5 rfl rfl)
theorem dX4_transposed_6 : decode cX4_transposed 6 = .ok (.iload_n 1, 1) := dk_27 (dk_at dksX4_transposed_0 6 rfl rfl)
theorem dX4_transposed_7 : decode cX4_transposed 7 = .ok (.invokevirtual 331, 3) := dk_182 1 75 (dk_at dksX4_transposed_0 7 rfl rfl)
theorem dX4_transposed_10 : decode cX4_transposed 10 = .ok (.ifCond .ne 5, 3) := dk_154 0 5 (dk_at dksX4_transposed_0 10 rfl rfl)
theorem dX4_transposed_13 : decode cX4_transposed 13 = .ok (.iconst 0, 1) := dk_3 (dk_at dksX4_transposed_0 13 rfl rfl)
theorem dX4_transposed_14 : decode cX4_transposed 14 = .ok (.ireturn, 1) := dk_172 (dk_at dksX4_transposed_0 14 rfl rfl)
theorem dX4_transposed_15 : decode cX4_transposed 15 = .ok (.iconst 0, 1) := dk_3 (dk_at dksX4_transposed_0 15 rfl rfl)
theorem dX4_transposed_16 : decode cX4_transposed 16 = .ok (.istore_n 2, 1) := dk_61 (dk_at dksX4_transposed_0 16 rfl rfl)
theorem dX4_transposed_17 : decode cX4_transposed 17 = .ok (.iload_n 2, 1) := dk_28 (dk_at dksX4_transposed_0 17 rfl rfl)
theorem dX4_transposed_18 : decode cX4_transposed 18 = .ok (.bipush 24, 2) := dk_16 24 (dk_at dksX4_transposed_0 18 rfl rfl)
theorem dX4_transposed_20 : decode cX4_transposed 20 = .ok (.if_icmp .gt 59, 3) := dk_163 0 59 (dk_at dksX4_transposed_0 20 rfl rfl)
theorem dX4_transposed_23 : decode cX4_transposed 23 = .ok (.iload_n 2, 1) := dk_28 (dk_at dksX4_transposed_0 23 rfl rfl)
theorem dX4_transposed_24 : decode cX4_transposed 24 = .ok (.iconst 2, 1) := dk_5 (dk_at dksX4_transposed_1 0 rfl rfl)
theorem dX4_transposed_25 : decode cX4_transposed 25 = .ok (.irem, 1) := dk_112 (dk_at dksX4_transposed_1 1 rfl rfl)
theorem dX4_transposed_26 : decode cX4_transposed 26 = .ok (.iconst 1, 1) := dk_4 (dk_at dksX4_transposed_1 2 rfl rfl)
theorem dX4_transposed_27 : decode cX4_transposed 27 = .ok (.if_icmp .ne 13, 3) := dk_160 0 13 (dk_at dksX4_transposed_1 3 rfl rfl)
theorem dX4_transposed_30 : decode cX4_transposed 30 = .ok (.iconst 0, 1) := dk_3 (dk_at dksX4_transposed_1 6 rfl rfl)
theorem dX4_transposed_31 : decode cX4_transposed 31 = .ok (.iload_n 2, 1) := dk_28 (dk_at dksX4_transposed_1 7 rfl rfl)
theorem dX4_transposed_32 : decode cX4_transposed 32 = .ok (.iconst 1, 1) := dk_4 (dk_at dksX4_transposed_1 8 rfl rfl)
theorem dX4_transposed_33 : decode cX4_transposed 33 = .ok (.iadd, 1) := dk_96 (dk_at dksX4_transposed_1 9 rfl rfl)
theorem dX4_transposed_34 : decode cX4_transposed 34 = .ok (.iconst 2, 1) := dk_5 (dk_at dksX4_transposed_1 10 rfl rfl)
theorem dX4_transposed_35 : decode cX4_transposed 35 = .ok (.idiv, 1) := dk_108 (dk_at dksX4_transposed_1 11 rfl rfl)
theorem dX4_transposed_36 : decode cX4_transposed 36 = .ok (.isub, 1) := dk_100 (dk_at dksX4_transposed_1 12 rfl rfl)
theorem dX4_transposed_37 : decode cX4_transposed 37 = .ok (.goto 6, 3) := dk_167 0 6 (dk_at dksX4_transposed_1 13 rfl rfl)
theorem dX4_transposed_40 : decode cX4_transposed 40 = .ok (.iload_n 2, 1) := dk_28 (dk_at dksX4_transposed_1 16 rfl rfl)
theorem dX4_transposed_41 : decode cX4_transposed 41 = .ok (.iconst 2, 1) := dk_5 (dk_at dksX4_transposed_1 17 rfl rfl)
theorem dX4_transposed_42 : decode cX4_transposed 42 = .ok (.idiv, 1) := dk_108 (dk_at dksX4_transposed_1 18 rfl rfl)
theorem dX4_transposed_43 : decode cX4_transposed 43 = .ok (.istore_n 3, 1) := dk_62 (dk_at dksX4_transposed_1 19 rfl rfl)
theorem dX4_transposed_44 : decode cX4_transposed 44 = .ok (.aload_n 0, 1) := dk_42 (dk_at dksX4_transposed_1 20 rfl rfl)
theorem dX4_transposed_45 : decode cX4_transposed 45 = .ok (.iload_n 1, 1) := dk_27 (dk_at dksX4_transposed_1 21 rfl rfl)
theorem dX4_transposed_46 : decode cX4_transposed 46 = .ok (.iload_n 3, 1) := dk_29 (dk_at dksX4_transposed_1 22 rfl rfl)
theorem dX4_transposed_47 : decode cX4_transposed 47 = .ok (.invokevirtual 379, 3) := dk_182 1 123 (dk_at dksX4_transposed_2 0 rfl rfl)
theorem dX4_transposed_50 : decode cX4_transposed 50 = .ok (.ifCond .eq 23, 3) := dk_153 0 23 (dk_at dksX4_transposed_2 3 rfl rfl)
theorem dX4_transposed_53 : decode cX4_transposed 53 = .ok (.aload_n 0, 1) := dk_42 (dk_at dksX4_transposed_2 6 rfl rfl)
theorem dX4_transposed_54 : decode cX4_transposed 54 = .ok (.aload_n 0, 1) := dk_42 (dk_at dksX4_transposed_2 7 rfl rfl)
theorem dX4_transposed_55 : decode cX4_transposed 55 = .ok (.aload_n 0, 1) := dk_42 (dk_at dksX4_transposed_2 8 rfl rfl)
theorem dX4_transposed_56 : decode cX4_transposed 56 = .ok (.getfield 90, 3) := dk_180 0 90 (dk_at dksX4_transposed_2 9 rfl rfl)
theorem dX4_transposed_59 : decode cX4_transposed 59 = .ok (.iconst 0, 1) := dk_3 (dk_at dksX4_transposed_2 12 rfl rfl)
theorem dX4_transposed_60 : decode cX4_transposed 60 = .ok (.invokevirtual 317, 3) := dk_182 1 61 (dk_at dksX4_transposed_2 13 rfl rfl)
theorem dX4_transposed_63 : decode cX4_transposed 63 = .ok (.iload_n 1, 1) := dk_27 (dk_at dksX4_transposed_2 16 rfl rfl)
theorem dX4_transposed_64 : decode cX4_transposed 64 = .ok (.iload_n 3, 1) := dk_29 (dk_at dksX4_transposed_2 17 rfl rfl)
theorem dX4_transposed_65 : decode cX4_transposed 65 = .ok (.invokevirtual 314, 3) := dk_182 1 58 (dk_at dksX4_transposed_2 18 rfl rfl)
theorem dX4_transposed_68 : decode cX4_transposed 68 = .ok (.ifCond .eq 5, 3) := dk_153 0 5 (dk_at dksX4_transposed_2 21 rfl rfl)
theorem dX4_transposed_71 : decode cX4_transposed 71 = .ok (.iload_n 3, 1) := dk_29 (dk_at dksX4_transposed_3 0 rfl rfl)
theorem dX4_transposed_72 : decode cX4_transposed 72 = .ok (.ireturn, 1) := dk_172 (dk_at dksX4_transposed_3 1 rfl rfl)
theorem dX4_transposed_73 : decode cX4_transposed 73 = .ok (.iinc 2 1, 3) := dk_132 2 1 (dk_at dksX4_transposed_3 2 rfl rfl)
theorem dX4_transposed_76 : decode cX4_transposed 76 = .ok (.goto (-59), 3) := dk_167 255 197 (dk_at dksX4_transposed_3 5 rfl rfl)
theorem dX4_transposed_79 : decode cX4_transposed 79 = .ok (.bipush (-99), 2) := dk_16 157 (dk_at dksX4_transposed_3 8 rfl rfl)
theorem dX4_transposed_81 : decode cX4_transposed 81 = .ok (.ireturn, 1) := dk_172 (dk_at dksX4_transposed_3 10 rfl rfl)
abbrev cX4_isOnScale : ByteArray := prog_14_method_81_code
def yX4_isOnScale : MethodName := ⟨RX4, "isOnScale", "(II)Z"⟩
def dkwX4_isOnScale_2 : List UInt8 := [154, 0, 5, 3, 172, 132, 4, 1, 167, 255, 218, 132, 3, 1, 167, 255, 200, 4, 172]
abbrev dktX4_isOnScale_2 : List UInt8 := dkwX4_isOnScale_2 ++ []
def dkwX4_isOnScale_1 : List UInt8 := [162, 0, 34, 42, 180, 0, 35, 16, 12, 29, 104, 21, 4, 96, 46, 28, 96, 3, 16, 48, 184, 1, 41]
abbrev dktX4_isOnScale_1 : List UInt8 := dkwX4_isOnScale_1 ++ dktX4_isOnScale_2
def dkwX4_isOnScale_0 : List UInt8 := [7, 27, 104, 62, 29, 7, 27, 104, 7, 96, 162, 0, 53, 3, 54, 4, 21, 4, 42, 29, 182, 1, 78]
abbrev dktX4_isOnScale_0 : List UInt8 := dkwX4_isOnScale_0 ++ dktX4_isOnScale_1
theorem dksX4_isOnScale_0 : cX4_isOnScale.data.toList.drop 0 = dktX4_isOnScale_0 := by decide +kernel
theorem dksX4_isOnScale_1 : cX4_isOnScale.data.toList.drop 23 = dktX4_isOnScale_1 := dk_seg dksX4_isOnScale_0 23 rfl rfl
theorem dksX4_isOnScale_2 : cX4_isOnScale.data.toList.drop 46 = dktX4_isOnScale_2 := dk_seg dksX4_isOnScale_1 23 rfl rfl
theorem dX4_isOnScale_0 : decode cX4_isOnScale 0 = .ok (.iconst 4, 1) := dk_7 (dk_at dksX4_isOnScale_0 0 rfl rfl)
theorem dX4_isOnScale_1 : decode cX4_isOnScale 1 = .ok (.iload_n 1, 1) := dk_27 (dk_at dksX4_isOnScale_0 1 rfl rfl)
theorem dX4_isOnScale_2 : decode cX4_isOnScale 2 = .ok (.imul, 1) := dk_104 (dk_at dksX4_isOnScale_0 2 rfl rfl)
theorem dX4_isOnScale_3 : decode cX4_isOnScale 3 = .ok (.istore_n 3, 1) := dk_62 (dk_at dksX4_isOnScale_0 3 rfl rfl)
theorem dX4_isOnScale_4 : decode cX4_isOnScale 4 = .ok (.iload_n 3, 1) := dk_29 (dk_at dksX4_isOnScale_0 4 rfl rfl)
theorem dX4_isOnScale_5 : decode cX4_isOnScale 5 = .ok (.iconst 4, 1) := dk_7 (dk_at dksX4_isOnScale_0 5 rfl rfl)
theorem dX4_isOnScale_6 : decode cX4_isOnScale 6 = .ok (.iload_n 1, 1) := dk_27 (dk_at dksX4_isOnScale_0 6 rfl rfl)
theorem dX4_isOnScale_7 : decode cX4_isOnScale 7 = .ok (.imul, 1) := dk_104 (dk_at dksX4_isOnScale_0 7 rfl rfl)
theorem dX4_isOnScale_8 : decode cX4_isOnScale 8 = .ok (.iconst 4, 1) := dk_7 (dk_at dksX4_isOnScale_0 8 rfl rfl)
theorem dX4_isOnScale_9 : decode cX4_isOnScale 9 = .ok (.iadd, 1) := dk_96 (dk_at dksX4_isOnScale_0 9 rfl rfl)
theorem dX4_isOnScale_10 : decode cX4_isOnScale 10 = .ok (.if_icmp .ge 53, 3) := dk_162 0 53 (dk_at dksX4_isOnScale_0 10 rfl rfl)
theorem dX4_isOnScale_13 : decode cX4_isOnScale 13 = .ok (.iconst 0, 1) := dk_3 (dk_at dksX4_isOnScale_0 13 rfl rfl)
theorem dX4_isOnScale_14 : decode cX4_isOnScale 14 = .ok (.istore 4, 2) := dk_54 4 (dk_at dksX4_isOnScale_0 14 rfl rfl)
theorem dX4_isOnScale_16 : decode cX4_isOnScale 16 = .ok (.iload 4, 2) := dk_21 4 (dk_at dksX4_isOnScale_0 16 rfl rfl)
theorem dX4_isOnScale_18 : decode cX4_isOnScale 18 = .ok (.aload_n 0, 1) := dk_42 (dk_at dksX4_isOnScale_0 18 rfl rfl)
theorem dX4_isOnScale_19 : decode cX4_isOnScale 19 = .ok (.iload_n 3, 1) := dk_29 (dk_at dksX4_isOnScale_0 19 rfl rfl)
theorem dX4_isOnScale_20 : decode cX4_isOnScale 20 = .ok (.invokevirtual 334, 3) := dk_182 1 78 (dk_at dksX4_isOnScale_0 20 rfl rfl)
theorem dX4_isOnScale_23 : decode cX4_isOnScale 23 = .ok (.if_icmp .ge 34, 3) := dk_162 0 34 (dk_at dksX4_isOnScale_1 0 rfl rfl)
theorem dX4_isOnScale_26 : decode cX4_isOnScale 26 = .ok (.aload_n 0, 1) := dk_42 (dk_at dksX4_isOnScale_1 3 rfl rfl)
theorem dX4_isOnScale_27 : decode cX4_isOnScale 27 = .ok (.getfield 35, 3) := dk_180 0 35 (dk_at dksX4_isOnScale_1 4 rfl rfl)
theorem dX4_isOnScale_30 : decode cX4_isOnScale 30 = .ok (.bipush 12, 2) := dk_16 12 (dk_at dksX4_isOnScale_1 7 rfl rfl)
theorem dX4_isOnScale_32 : decode cX4_isOnScale 32 = .ok (.iload_n 3, 1) := dk_29 (dk_at dksX4_isOnScale_1 9 rfl rfl)
theorem dX4_isOnScale_33 : decode cX4_isOnScale 33 = .ok (.imul, 1) := dk_104 (dk_at dksX4_isOnScale_1 10 rfl rfl)
theorem dX4_isOnScale_34 : decode cX4_isOnScale 34 = .ok (.iload 4, 2) := dk_21 4 (dk_at dksX4_isOnScale_1 11 rfl rfl)
theorem dX4_isOnScale_36 : decode cX4_isOnScale 36 = .ok (.iadd, 1) := dk_96 (dk_at dksX4_isOnScale_1 13 rfl rfl)
theorem dX4_isOnScale_37 : decode cX4_isOnScale 37 = .ok (.iaload, 1) := dk_46 (dk_at dksX4_isOnScale_1 14 rfl rfl)
theorem dX4_isOnScale_38 : decode cX4_isOnScale 38 = .ok (.iload_n 2, 1) := dk_28 (dk_at dksX4_isOnScale_1 15 rfl rfl)
theorem dX4_isOnScale_39 : decode cX4_isOnScale 39 = .ok (.iadd, 1) := dk_96 (dk_at dksX4_isOnScale_1 16 rfl rfl)
theorem dX4_isOnScale_40 : decode cX4_isOnScale 40 = .ok (.iconst 0, 1) := dk_3 (dk_at dksX4_isOnScale_1 17 rfl rfl)
theorem dX4_isOnScale_41 : decode cX4_isOnScale 41 = .ok (.bipush 48, 2) := dk_16 48 (dk_at dksX4_isOnScale_1 18 rfl rfl)
theorem dX4_isOnScale_43 : decode cX4_isOnScale 43 = .ok (.invokestatic 297, 3) := dk_184 1 41 (dk_at dksX4_isOnScale_1 20 rfl rfl)
theorem dX4_isOnScale_46 : decode cX4_isOnScale 46 = .ok (.ifCond .ne 5, 3) := dk_154 0 5 (dk_at dksX4_isOnScale_2 0 rfl rfl)
theorem dX4_isOnScale_49 : decode cX4_isOnScale 49 = .ok (.iconst 0, 1) := dk_3 (dk_at dksX4_isOnScale_2 3 rfl rfl)
theorem dX4_isOnScale_50 : decode cX4_isOnScale 50 = .ok (.ireturn, 1) := dk_172 (dk_at dksX4_isOnScale_2 4 rfl rfl)
theorem dX4_isOnScale_51 : decode cX4_isOnScale 51 = .ok (.iinc 4 1, 3) := dk_132 4 1 (dk_at dksX4_isOnScale_2 5 rfl rfl)
theorem dX4_isOnScale_54 : decode cX4_isOnScale 54 = .ok (.goto (-38), 3) := dk_167 255 218 (dk_at dksX4_isOnScale_2 8 rfl rfl)
theorem dX4_isOnScale_57 : decode cX4_isOnScale 57 = .ok (.iinc 3 1, 3) := dk_132 3 1 (dk_at dksX4_isOnScale_2 11 rfl rfl)
theorem dX4_isOnScale_60 : decode cX4_isOnScale 60 = .ok (.goto (-56), 3) := dk_167 255 200 (dk_at dksX4_isOnScale_2 14 rfl rfl)
theorem dX4_isOnScale_63 : decode cX4_isOnScale 63 = .ok (.iconst 1, 1) := dk_4 (dk_at dksX4_isOnScale_2 17 rfl rfl)
theorem dX4_isOnScale_64 : decode cX4_isOnScale 64 = .ok (.ireturn, 1) := dk_172 (dk_at dksX4_isOnScale_2 18 rfl rfl)
abbrev cX4_standIns : ByteArray := prog_14_method_83_code
def yX4_standIns : MethodName := ⟨RX4, "standIns", "(I)I"⟩
def dkwX4_standIns_4 : List UInt8 := [172]
abbrev dktX4_standIns_4 : List UInt8 := dkwX4_standIns_4 ++ []
def dkwX4_standIns_3 : List UInt8 := [180, 0, 23, 27, 46, 161, 0, 9, 4, 29, 120, 167, 0, 4, 3, 128, 61, 132, 3, 1, 167, 255, 185, 28]
abbrev dktX4_standIns_3 : List UInt8 := dkwX4_standIns_3 ++ dktX4_standIns_4
def dkwX4_standIns_2 : List UInt8 := [42, 180, 0, 20, 29, 46, 42, 180, 0, 20, 27, 46, 163, 0, 24, 42, 180, 0, 23, 29, 46, 42]
abbrev dktX4_standIns_2 : List UInt8 := dkwX4_standIns_2 ++ dktX4_standIns_3
def dkwX4_standIns_1 : List UInt8 := [162, 0, 69, 28, 29, 27, 159, 0, 54, 42, 180, 0, 17, 29, 46, 42, 180, 0, 17, 27, 46, 160, 0, 39]
abbrev dktX4_standIns_1 : List UInt8 := dkwX4_standIns_1 ++ dktX4_standIns_2
def dkwX4_standIns_0 : List UInt8 := [42, 3, 181, 0, 120, 42, 27, 182, 1, 68, 154, 0, 5, 3, 172, 3, 61, 3, 62, 29, 42, 180, 1, 21]
abbrev dktX4_standIns_0 : List UInt8 := dkwX4_standIns_0 ++ dktX4_standIns_1
theorem dksX4_standIns_0 : cX4_standIns.data.toList.drop 0 = dktX4_standIns_0 := by decide +kernel
theorem dksX4_standIns_1 : cX4_standIns.data.toList.drop 24 = dktX4_standIns_1 := dk_seg dksX4_standIns_0 24 rfl rfl
theorem dksX4_standIns_2 : cX4_standIns.data.toList.drop 48 = dktX4_standIns_2 := dk_seg dksX4_standIns_1 24 rfl rfl
theorem dksX4_standIns_3 : cX4_standIns.data.toList.drop 70 = dktX4_standIns_3 := dk_seg dksX4_standIns_2 22 rfl rfl
theorem dksX4_standIns_4 : cX4_standIns.data.toList.drop 94 = dktX4_standIns_4 := dk_seg dksX4_standIns_3 24 rfl rfl
theorem dX4_standIns_0 : decode cX4_standIns 0 = .ok (.aload_n 0, 1) := dk_42 (dk_at dksX4_standIns_0 0 rfl rfl)
theorem dX4_standIns_1 : decode cX4_standIns 1 = .ok (.iconst 0, 1) := dk_3 (dk_at dksX4_standIns_0 1 rfl rfl)
theorem dX4_standIns_2 : decode cX4_standIns 2 = .ok (.putfield 120, 3) := dk_181 0 120 (dk_at dksX4_standIns_0 2 rfl rfl)
theorem dX4_standIns_5 : decode cX4_standIns 5 = .ok (.aload_n 0, 1) := dk_42 (dk_at dksX4_standIns_0 5 rfl rfl)
theorem dX4_standIns_6 : decode cX4_standIns 6 = .ok (.iload_n 1, 1) := dk_27 (dk_at dksX4_standIns_0 6 rfl rfl)
theorem dX4_standIns_7 : decode cX4_standIns 7 = .ok (.invokevirtual 324, 3) := dk_182 1 68 (dk_at dksX4_standIns_0 7 rfl rfl)
theorem dX4_standIns_10 : decode cX4_standIns 10 = .ok (.ifCond .ne 5, 3) := dk_154 0 5 (dk_at dksX4_standIns_0 10 rfl rfl)
theorem dX4_standIns_13 : decode cX4_standIns 13 = .ok (.iconst 0, 1) := dk_3 (dk_at dksX4_standIns_0 13 rfl rfl)
theorem dX4_standIns_14 : decode cX4_standIns 14 = .ok (.ireturn, 1) := dk_172 (dk_at dksX4_standIns_0 14 rfl rfl)
theorem dX4_standIns_15 : decode cX4_standIns 15 = .ok (.iconst 0, 1) := dk_3 (dk_at dksX4_standIns_0 15 rfl rfl)
theorem dX4_standIns_16 : decode cX4_standIns 16 = .ok (.istore_n 2, 1) := dk_61 (dk_at dksX4_standIns_0 16 rfl rfl)
theorem dX4_standIns_17 : decode cX4_standIns 17 = .ok (.iconst 0, 1) := dk_3 (dk_at dksX4_standIns_0 17 rfl rfl)
theorem dX4_standIns_18 : decode cX4_standIns 18 = .ok (.istore_n 3, 1) := dk_62 (dk_at dksX4_standIns_0 18 rfl rfl)
theorem dX4_standIns_19 : decode cX4_standIns 19 = .ok (.iload_n 3, 1) := dk_29 (dk_at dksX4_standIns_0 19 rfl rfl)
theorem dX4_standIns_20 : decode cX4_standIns 20 = .ok (.aload_n 0, 1) := dk_42 (dk_at dksX4_standIns_0 20 rfl rfl)
theorem dX4_standIns_21 : decode cX4_standIns 21 = .ok (.getfield 277, 3) := dk_180 1 21 (dk_at dksX4_standIns_0 21 rfl rfl)
theorem dX4_standIns_24 : decode cX4_standIns 24 = .ok (.if_icmp .ge 69, 3) := dk_162 0 69 (dk_at dksX4_standIns_1 0 rfl rfl)
theorem dX4_standIns_27 : decode cX4_standIns 27 = .ok (.iload_n 2, 1) := dk_28 (dk_at dksX4_standIns_1 3 rfl rfl)
theorem dX4_standIns_28 : decode cX4_standIns 28 = .ok (.iload_n 3, 1) := dk_29 (dk_at dksX4_standIns_1 4 rfl rfl)
theorem dX4_standIns_29 : decode cX4_standIns 29 = .ok (.iload_n 1, 1) := dk_27 (dk_at dksX4_standIns_1 5 rfl rfl)
theorem dX4_standIns_30 : decode cX4_standIns 30 = .ok (.if_icmp .eq 54, 3) := dk_159 0 54 (dk_at dksX4_standIns_1 6 rfl rfl)
theorem dX4_standIns_33 : decode cX4_standIns 33 = .ok (.aload_n 0, 1) := dk_42 (dk_at dksX4_standIns_1 9 rfl rfl)
theorem dX4_standIns_34 : decode cX4_standIns 34 = .ok (.getfield 17, 3) := dk_180 0 17 (dk_at dksX4_standIns_1 10 rfl rfl)
theorem dX4_standIns_37 : decode cX4_standIns 37 = .ok (.iload_n 3, 1) := dk_29 (dk_at dksX4_standIns_1 13 rfl rfl)
theorem dX4_standIns_38 : decode cX4_standIns 38 = .ok (.iaload, 1) := dk_46 (dk_at dksX4_standIns_1 14 rfl rfl)
theorem dX4_standIns_39 : decode cX4_standIns 39 = .ok (.aload_n 0, 1) := dk_42 (dk_at dksX4_standIns_1 15 rfl rfl)
theorem dX4_standIns_40 : decode cX4_standIns 40 = .ok (.getfield 17, 3) := dk_180 0 17 (dk_at dksX4_standIns_1 16 rfl rfl)
theorem dX4_standIns_43 : decode cX4_standIns 43 = .ok (.iload_n 1, 1) := dk_27 (dk_at dksX4_standIns_1 19 rfl rfl)
theorem dX4_standIns_44 : decode cX4_standIns 44 = .ok (.iaload, 1) := dk_46 (dk_at dksX4_standIns_1 20 rfl rfl)
theorem dX4_standIns_45 : decode cX4_standIns 45 = .ok (.if_icmp .ne 39, 3) := dk_160 0 39 (dk_at dksX4_standIns_1 21 rfl rfl)
theorem dX4_standIns_48 : decode cX4_standIns 48 = .ok (.aload_n 0, 1) := dk_42 (dk_at dksX4_standIns_2 0 rfl rfl)
theorem dX4_standIns_49 : decode cX4_standIns 49 = .ok (.getfield 20, 3) := dk_180 0 20 (dk_at dksX4_standIns_2 1 rfl rfl)
theorem dX4_standIns_52 : decode cX4_standIns 52 = .ok (.iload_n 3, 1) := dk_29 (dk_at dksX4_standIns_2 4 rfl rfl)
theorem dX4_standIns_53 : decode cX4_standIns 53 = .ok (.iaload, 1) := dk_46 (dk_at dksX4_standIns_2 5 rfl rfl)
theorem dX4_standIns_54 : decode cX4_standIns 54 = .ok (.aload_n 0, 1) := dk_42 (dk_at dksX4_standIns_2 6 rfl rfl)
theorem dX4_standIns_55 : decode cX4_standIns 55 = .ok (.getfield 20, 3) := dk_180 0 20 (dk_at dksX4_standIns_2 7 rfl rfl)
theorem dX4_standIns_58 : decode cX4_standIns 58 = .ok (.iload_n 1, 1) := dk_27 (dk_at dksX4_standIns_2 10 rfl rfl)
theorem dX4_standIns_59 : decode cX4_standIns 59 = .ok (.iaload, 1) := dk_46 (dk_at dksX4_standIns_2 11 rfl rfl)
theorem dX4_standIns_60 : decode cX4_standIns 60 = .ok (.if_icmp .gt 24, 3) := dk_163 0 24 (dk_at dksX4_standIns_2 12 rfl rfl)
theorem dX4_standIns_63 : decode cX4_standIns 63 = .ok (.aload_n 0, 1) := dk_42 (dk_at dksX4_standIns_2 15 rfl rfl)
theorem dX4_standIns_64 : decode cX4_standIns 64 = .ok (.getfield 23, 3) := dk_180 0 23 (dk_at dksX4_standIns_2 16 rfl rfl)
theorem dX4_standIns_67 : decode cX4_standIns 67 = .ok (.iload_n 3, 1) := dk_29 (dk_at dksX4_standIns_2 19 rfl rfl)
theorem dX4_standIns_68 : decode cX4_standIns 68 = .ok (.iaload, 1) := dk_46 (dk_at dksX4_standIns_2 20 rfl rfl)
theorem dX4_standIns_69 : decode cX4_standIns 69 = .ok (.aload_n 0, 1) := dk_42 (dk_at dksX4_standIns_2 21 rfl rfl)
theorem dX4_standIns_70 : decode cX4_standIns 70 = .ok (.getfield 23, 3) := dk_180 0 23 (dk_at dksX4_standIns_3 0 rfl rfl)
theorem dX4_standIns_73 : decode cX4_standIns 73 = .ok (.iload_n 1, 1) := dk_27 (dk_at dksX4_standIns_3 3 rfl rfl)
theorem dX4_standIns_74 : decode cX4_standIns 74 = .ok (.iaload, 1) := dk_46 (dk_at dksX4_standIns_3 4 rfl rfl)
theorem dX4_standIns_75 : decode cX4_standIns 75 = .ok (.if_icmp .lt 9, 3) := dk_161 0 9 (dk_at dksX4_standIns_3 5 rfl rfl)
theorem dX4_standIns_78 : decode cX4_standIns 78 = .ok (.iconst 1, 1) := dk_4 (dk_at dksX4_standIns_3 8 rfl rfl)
theorem dX4_standIns_79 : decode cX4_standIns 79 = .ok (.iload_n 3, 1) := dk_29 (dk_at dksX4_standIns_3 9 rfl rfl)
theorem dX4_standIns_80 : decode cX4_standIns 80 = .ok (.ishl, 1) := dk_120 (dk_at dksX4_standIns_3 10 rfl rfl)
theorem dX4_standIns_81 : decode cX4_standIns 81 = .ok (.goto 4, 3) := dk_167 0 4 (dk_at dksX4_standIns_3 11 rfl rfl)
theorem dX4_standIns_84 : decode cX4_standIns 84 = .ok (.iconst 0, 1) := dk_3 (dk_at dksX4_standIns_3 14 rfl rfl)
theorem dX4_standIns_85 : decode cX4_standIns 85 = .ok (.ior, 1) := dk_128 (dk_at dksX4_standIns_3 15 rfl rfl)
theorem dX4_standIns_86 : decode cX4_standIns 86 = .ok (.istore_n 2, 1) := dk_61 (dk_at dksX4_standIns_3 16 rfl rfl)
theorem dX4_standIns_87 : decode cX4_standIns 87 = .ok (.iinc 3 1, 3) := dk_132 3 1 (dk_at dksX4_standIns_3 17 rfl rfl)
theorem dX4_standIns_90 : decode cX4_standIns 90 = .ok (.goto (-71), 3) := dk_167 255 185 (dk_at dksX4_standIns_3 20 rfl rfl)
theorem dX4_standIns_93 : decode cX4_standIns 93 = .ok (.iload_n 2, 1) := dk_28 (dk_at dksX4_standIns_3 23 rfl rfl)
theorem dX4_standIns_94 : decode cX4_standIns 94 = .ok (.ireturn, 1) := dk_172 (dk_at dksX4_standIns_4 0 rfl rfl)
abbrev cX4_voices : ByteArray := prog_14_method_84_code
def yX4_voices : MethodName := ⟨RX4, "voices", "(II)I"⟩
def dkwX4_voices_3 : List UInt8 := [160, 0, 7, 4, 167, 0, 4, 3, 96, 62, 132, 4, 1, 167, 255, 204, 29, 172]
abbrev dktX4_voices_3 : List UInt8 := dkwX4_voices_3 ++ []
def dkwX4_voices_2 : List UInt8 := [154, 0, 29, 42, 180, 0, 13, 21, 4, 46, 27, 160, 0, 18, 42, 180, 0, 17, 21, 4, 46, 28]
abbrev dktX4_voices_2 : List UInt8 := dkwX4_voices_2 ++ dktX4_voices_3
def dkwX4_voices_1 : List UInt8 := [172, 3, 62, 3, 54, 4, 21, 4, 42, 180, 1, 21, 162, 0, 49, 29, 42, 180, 0, 90, 21, 4, 46]
abbrev dktX4_voices_1 : List UInt8 := dkwX4_voices_1 ++ dktX4_voices_2
def dkwX4_voices_0 : List UInt8 := [42, 3, 181, 0, 120, 42, 27, 5, 182, 1, 71, 153, 0, 12, 42, 28, 6, 182, 1, 71, 154, 0, 5, 3]
abbrev dktX4_voices_0 : List UInt8 := dkwX4_voices_0 ++ dktX4_voices_1
theorem dksX4_voices_0 : cX4_voices.data.toList.drop 0 = dktX4_voices_0 := by decide +kernel
theorem dksX4_voices_1 : cX4_voices.data.toList.drop 24 = dktX4_voices_1 := dk_seg dksX4_voices_0 24 rfl rfl
theorem dksX4_voices_2 : cX4_voices.data.toList.drop 47 = dktX4_voices_2 := dk_seg dksX4_voices_1 23 rfl rfl
theorem dksX4_voices_3 : cX4_voices.data.toList.drop 69 = dktX4_voices_3 := dk_seg dksX4_voices_2 22 rfl rfl
theorem dX4_voices_0 : decode cX4_voices 0 = .ok (.aload_n 0, 1) := dk_42 (dk_at dksX4_voices_0 0 rfl rfl)
theorem dX4_voices_1 : decode cX4_voices 1 = .ok (.iconst 0, 1) := dk_3 (dk_at dksX4_voices_0 1 rfl rfl)
theorem dX4_voices_2 : decode cX4_voices 2 = .ok (.putfield 120, 3) := dk_181 0 120 (dk_at dksX4_voices_0 2 rfl rfl)
theorem dX4_voices_5 : decode cX4_voices 5 = .ok (.aload_n 0, 1) := dk_42 (dk_at dksX4_voices_0 5 rfl rfl)
theorem dX4_voices_6 : decode cX4_voices 6 = .ok (.iload_n 1, 1) := dk_27 (dk_at dksX4_voices_0 6 rfl rfl)
theorem dX4_voices_7 : decode cX4_voices 7 = .ok (.iconst 2, 1) := dk_5 (dk_at dksX4_voices_0 7 rfl rfl)
theorem dX4_voices_8 : decode cX4_voices 8 = .ok (.invokevirtual 327, 3) := dk_182 1 71 (dk_at dksX4_voices_0 8 rfl rfl)
theorem dX4_voices_11 : decode cX4_voices 11 = .ok (.ifCond .eq 12, 3) := dk_153 0 12 (dk_at dksX4_voices_0 11 rfl rfl)
theorem dX4_voices_14 : decode cX4_voices 14 = .ok (.aload_n 0, 1) := dk_42 (dk_at dksX4_voices_0 14 rfl rfl)
theorem dX4_voices_15 : decode cX4_voices 15 = .ok (.iload_n 2, 1) := dk_28 (dk_at dksX4_voices_0 15 rfl rfl)
theorem dX4_voices_16 : decode cX4_voices 16 = .ok (.iconst 3, 1) := dk_6 (dk_at dksX4_voices_0 16 rfl rfl)
theorem dX4_voices_17 : decode cX4_voices 17 = .ok (.invokevirtual 327, 3) := dk_182 1 71 (dk_at dksX4_voices_0 17 rfl rfl)
theorem dX4_voices_20 : decode cX4_voices 20 = .ok (.ifCond .ne 5, 3) := dk_154 0 5 (dk_at dksX4_voices_0 20 rfl rfl)
theorem dX4_voices_23 : decode cX4_voices 23 = .ok (.iconst 0, 1) := dk_3 (dk_at dksX4_voices_0 23 rfl rfl)
theorem dX4_voices_24 : decode cX4_voices 24 = .ok (.ireturn, 1) := dk_172 (dk_at dksX4_voices_1 0 rfl rfl)
theorem dX4_voices_25 : decode cX4_voices 25 = .ok (.iconst 0, 1) := dk_3 (dk_at dksX4_voices_1 1 rfl rfl)
theorem dX4_voices_26 : decode cX4_voices 26 = .ok (.istore_n 3, 1) := dk_62 (dk_at dksX4_voices_1 2 rfl rfl)
theorem dX4_voices_27 : decode cX4_voices 27 = .ok (.iconst 0, 1) := dk_3 (dk_at dksX4_voices_1 3 rfl rfl)
theorem dX4_voices_28 : decode cX4_voices 28 = .ok (.istore 4, 2) := dk_54 4 (dk_at dksX4_voices_1 4 rfl rfl)
theorem dX4_voices_30 : decode cX4_voices 30 = .ok (.iload 4, 2) := dk_21 4 (dk_at dksX4_voices_1 6 rfl rfl)
theorem dX4_voices_32 : decode cX4_voices 32 = .ok (.aload_n 0, 1) := dk_42 (dk_at dksX4_voices_1 8 rfl rfl)
theorem dX4_voices_33 : decode cX4_voices 33 = .ok (.getfield 277, 3) := dk_180 1 21 (dk_at dksX4_voices_1 9 rfl rfl)
theorem dX4_voices_36 : decode cX4_voices 36 = .ok (.if_icmp .ge 49, 3) := dk_162 0 49 (dk_at dksX4_voices_1 12 rfl rfl)
theorem dX4_voices_39 : decode cX4_voices 39 = .ok (.iload_n 3, 1) := dk_29 (dk_at dksX4_voices_1 15 rfl rfl)
theorem dX4_voices_40 : decode cX4_voices 40 = .ok (.aload_n 0, 1) := dk_42 (dk_at dksX4_voices_1 16 rfl rfl)
theorem dX4_voices_41 : decode cX4_voices 41 = .ok (.getfield 90, 3) := dk_180 0 90 (dk_at dksX4_voices_1 17 rfl rfl)
theorem dX4_voices_44 : decode cX4_voices 44 = .ok (.iload 4, 2) := dk_21 4 (dk_at dksX4_voices_1 20 rfl rfl)
theorem dX4_voices_46 : decode cX4_voices 46 = .ok (.iaload, 1) := dk_46 (dk_at dksX4_voices_1 22 rfl rfl)
theorem dX4_voices_47 : decode cX4_voices 47 = .ok (.ifCond .ne 29, 3) := dk_154 0 29 (dk_at dksX4_voices_2 0 rfl rfl)
theorem dX4_voices_50 : decode cX4_voices 50 = .ok (.aload_n 0, 1) := dk_42 (dk_at dksX4_voices_2 3 rfl rfl)
theorem dX4_voices_51 : decode cX4_voices 51 = .ok (.getfield 13, 3) := dk_180 0 13 (dk_at dksX4_voices_2 4 rfl rfl)
theorem dX4_voices_54 : decode cX4_voices 54 = .ok (.iload 4, 2) := dk_21 4 (dk_at dksX4_voices_2 7 rfl rfl)
theorem dX4_voices_56 : decode cX4_voices 56 = .ok (.iaload, 1) := dk_46 (dk_at dksX4_voices_2 9 rfl rfl)
theorem dX4_voices_57 : decode cX4_voices 57 = .ok (.iload_n 1, 1) := dk_27 (dk_at dksX4_voices_2 10 rfl rfl)
theorem dX4_voices_58 : decode cX4_voices 58 = .ok (.if_icmp .ne 18, 3) := dk_160 0 18 (dk_at dksX4_voices_2 11 rfl rfl)
theorem dX4_voices_61 : decode cX4_voices 61 = .ok (.aload_n 0, 1) := dk_42 (dk_at dksX4_voices_2 14 rfl rfl)
theorem dX4_voices_62 : decode cX4_voices 62 = .ok (.getfield 17, 3) := dk_180 0 17 (dk_at dksX4_voices_2 15 rfl rfl)
theorem dX4_voices_65 : decode cX4_voices 65 = .ok (.iload 4, 2) := dk_21 4 (dk_at dksX4_voices_2 18 rfl rfl)
theorem dX4_voices_67 : decode cX4_voices 67 = .ok (.iaload, 1) := dk_46 (dk_at dksX4_voices_2 20 rfl rfl)
theorem dX4_voices_68 : decode cX4_voices 68 = .ok (.iload_n 2, 1) := dk_28 (dk_at dksX4_voices_2 21 rfl rfl)
theorem dX4_voices_69 : decode cX4_voices 69 = .ok (.if_icmp .ne 7, 3) := dk_160 0 7 (dk_at dksX4_voices_3 0 rfl rfl)
theorem dX4_voices_72 : decode cX4_voices 72 = .ok (.iconst 1, 1) := dk_4 (dk_at dksX4_voices_3 3 rfl rfl)
theorem dX4_voices_73 : decode cX4_voices 73 = .ok (.goto 4, 3) := dk_167 0 4 (dk_at dksX4_voices_3 4 rfl rfl)
theorem dX4_voices_76 : decode cX4_voices 76 = .ok (.iconst 0, 1) := dk_3 (dk_at dksX4_voices_3 7 rfl rfl)
theorem dX4_voices_77 : decode cX4_voices 77 = .ok (.iadd, 1) := dk_96 (dk_at dksX4_voices_3 8 rfl rfl)
theorem dX4_voices_78 : decode cX4_voices 78 = .ok (.istore_n 3, 1) := dk_62 (dk_at dksX4_voices_3 9 rfl rfl)
theorem dX4_voices_79 : decode cX4_voices 79 = .ok (.iinc 4 1, 3) := dk_132 4 1 (dk_at dksX4_voices_3 10 rfl rfl)
theorem dX4_voices_82 : decode cX4_voices 82 = .ok (.goto (-52), 3) := dk_167 255 204 (dk_at dksX4_voices_3 13 rfl rfl)
theorem dX4_voices_85 : decode cX4_voices 85 = .ok (.iload_n 3, 1) := dk_29 (dk_at dksX4_voices_3 16 rfl rfl)
theorem dX4_voices_86 : decode cX4_voices 86 = .ok (.ireturn, 1) := dk_172 (dk_at dksX4_voices_3 17 rfl rfl)
abbrev cX4_lacking : ByteArray := prog_14_method_86_code
def yX4_lacking : MethodName := ⟨RX4, "lacking", "(II)I"⟩
def dkwX4_lacking_2 : List UInt8 := [42, 7, 27, 104, 28, 96, 182, 1, 126, 167, 0, 4, 3, 172]
abbrev dktX4_lacking_2 : List UInt8 := dkwX4_lacking_2 ++ []
def dkwX4_lacking_1 : List UInt8 := [180, 0, 29, 7, 27, 104, 28, 96, 46, 158, 0, 7, 4, 167, 0, 4, 3, 4, 182, 1, 14, 153, 0, 15]
abbrev dktX4_lacking_1 : List UInt8 := dkwX4_lacking_1 ++ dktX4_lacking_2
def dkwX4_lacking_0 : List UInt8 := [42, 3, 181, 0, 120, 42, 27, 182, 1, 75, 153, 0, 50, 42, 28, 6, 182, 1, 71, 153, 0, 41, 42, 42]
abbrev dktX4_lacking_0 : List UInt8 := dkwX4_lacking_0 ++ dktX4_lacking_1
theorem dksX4_lacking_0 : cX4_lacking.data.toList.drop 0 = dktX4_lacking_0 := by decide +kernel
theorem dksX4_lacking_1 : cX4_lacking.data.toList.drop 24 = dktX4_lacking_1 := dk_seg dksX4_lacking_0 24 rfl rfl
theorem dksX4_lacking_2 : cX4_lacking.data.toList.drop 48 = dktX4_lacking_2 := dk_seg dksX4_lacking_1 24 rfl rfl
theorem dX4_lacking_0 : decode cX4_lacking 0 = .ok (.aload_n 0, 1) := dk_42 (dk_at dksX4_lacking_0 0 rfl rfl)
theorem dX4_lacking_1 : decode cX4_lacking 1 = .ok (.iconst 0, 1) := dk_3 (dk_at dksX4_lacking_0 1 rfl rfl)
theorem dX4_lacking_2 : decode cX4_lacking 2 = .ok (.putfield 120, 3) := dk_181 0 120 (dk_at dksX4_lacking_0 2 rfl rfl)
theorem dX4_lacking_5 : decode cX4_lacking 5 = .ok (.aload_n 0, 1) := dk_42 (dk_at dksX4_lacking_0 5 rfl rfl)
theorem dX4_lacking_6 : decode cX4_lacking 6 = .ok (.iload_n 1, 1) := dk_27 (dk_at dksX4_lacking_0 6 rfl rfl)
theorem dX4_lacking_7 : decode cX4_lacking 7 = .ok (.invokevirtual 331, 3) := dk_182 1 75 (dk_at dksX4_lacking_0 7 rfl rfl)
theorem dX4_lacking_10 : decode cX4_lacking 10 = .ok (.ifCond .eq 50, 3) := dk_153 0 50 (dk_at dksX4_lacking_0 10 rfl rfl)
theorem dX4_lacking_13 : decode cX4_lacking 13 = .ok (.aload_n 0, 1) := dk_42 (dk_at dksX4_lacking_0 13 rfl rfl)
theorem dX4_lacking_14 : decode cX4_lacking 14 = .ok (.iload_n 2, 1) := dk_28 (dk_at dksX4_lacking_0 14 rfl rfl)
theorem dX4_lacking_15 : decode cX4_lacking 15 = .ok (.iconst 3, 1) := dk_6 (dk_at dksX4_lacking_0 15 rfl rfl)
theorem dX4_lacking_16 : decode cX4_lacking 16 = .ok (.invokevirtual 327, 3) := dk_182 1 71 (dk_at dksX4_lacking_0 16 rfl rfl)
theorem dX4_lacking_19 : decode cX4_lacking 19 = .ok (.ifCond .eq 41, 3) := dk_153 0 41 (dk_at dksX4_lacking_0 19 rfl rfl)
theorem dX4_lacking_22 : decode cX4_lacking 22 = .ok (.aload_n 0, 1) := dk_42 (dk_at dksX4_lacking_0 22 rfl rfl)
theorem dX4_lacking_23 : decode cX4_lacking 23 = .ok (.aload_n 0, 1) := dk_42 (dk_at dksX4_lacking_0 23 rfl rfl)
theorem dX4_lacking_24 : decode cX4_lacking 24 = .ok (.getfield 29, 3) := dk_180 0 29 (dk_at dksX4_lacking_1 0 rfl rfl)
theorem dX4_lacking_27 : decode cX4_lacking 27 = .ok (.iconst 4, 1) := dk_7 (dk_at dksX4_lacking_1 3 rfl rfl)
theorem dX4_lacking_28 : decode cX4_lacking 28 = .ok (.iload_n 1, 1) := dk_27 (dk_at dksX4_lacking_1 4 rfl rfl)
theorem dX4_lacking_29 : decode cX4_lacking 29 = .ok (.imul, 1) := dk_104 (dk_at dksX4_lacking_1 5 rfl rfl)
theorem dX4_lacking_30 : decode cX4_lacking 30 = .ok (.iload_n 2, 1) := dk_28 (dk_at dksX4_lacking_1 6 rfl rfl)
theorem dX4_lacking_31 : decode cX4_lacking 31 = .ok (.iadd, 1) := dk_96 (dk_at dksX4_lacking_1 7 rfl rfl)
theorem dX4_lacking_32 : decode cX4_lacking 32 = .ok (.iaload, 1) := dk_46 (dk_at dksX4_lacking_1 8 rfl rfl)
theorem dX4_lacking_33 : decode cX4_lacking 33 = .ok (.ifCond .le 7, 3) := dk_158 0 7 (dk_at dksX4_lacking_1 9 rfl rfl)
theorem dX4_lacking_36 : decode cX4_lacking 36 = .ok (.iconst 1, 1) := dk_4 (dk_at dksX4_lacking_1 12 rfl rfl)
theorem dX4_lacking_37 : decode cX4_lacking 37 = .ok (.goto 4, 3) := dk_167 0 4 (dk_at dksX4_lacking_1 13 rfl rfl)
theorem dX4_lacking_40 : decode cX4_lacking 40 = .ok (.iconst 0, 1) := dk_3 (dk_at dksX4_lacking_1 16 rfl rfl)
theorem dX4_lacking_41 : decode cX4_lacking 41 = .ok (.iconst 1, 1) := dk_4 (dk_at dksX4_lacking_1 17 rfl rfl)
theorem dX4_lacking_42 : decode cX4_lacking 42 = .ok (.invokevirtual 270, 3) := dk_182 1 14 (dk_at dksX4_lacking_1 18 rfl rfl)
theorem dX4_lacking_45 : decode cX4_lacking 45 = .ok (.ifCond .eq 15, 3) := dk_153 0 15 (dk_at dksX4_lacking_1 21 rfl rfl)
theorem dX4_lacking_48 : decode cX4_lacking 48 = .ok (.aload_n 0, 1) := dk_42 (dk_at dksX4_lacking_2 0 rfl rfl)
theorem dX4_lacking_49 : decode cX4_lacking 49 = .ok (.iconst 4, 1) := dk_7 (dk_at dksX4_lacking_2 1 rfl rfl)
theorem dX4_lacking_50 : decode cX4_lacking 50 = .ok (.iload_n 1, 1) := dk_27 (dk_at dksX4_lacking_2 2 rfl rfl)
theorem dX4_lacking_51 : decode cX4_lacking 51 = .ok (.imul, 1) := dk_104 (dk_at dksX4_lacking_2 3 rfl rfl)
theorem dX4_lacking_52 : decode cX4_lacking 52 = .ok (.iload_n 2, 1) := dk_28 (dk_at dksX4_lacking_2 4 rfl rfl)
theorem dX4_lacking_53 : decode cX4_lacking 53 = .ok (.iadd, 1) := dk_96 (dk_at dksX4_lacking_2 5 rfl rfl)
theorem dX4_lacking_54 : decode cX4_lacking 54 = .ok (.invokevirtual 382, 3) := dk_182 1 126 (dk_at dksX4_lacking_2 6 rfl rfl)
theorem dX4_lacking_57 : decode cX4_lacking 57 = .ok (.goto 4, 3) := dk_167 0 4 (dk_at dksX4_lacking_2 9 rfl rfl)
theorem dX4_lacking_60 : decode cX4_lacking 60 = .ok (.iconst 0, 1) := dk_3 (dk_at dksX4_lacking_2 12 rfl rfl)
theorem dX4_lacking_61 : decode cX4_lacking 61 = .ok (.ireturn, 1) := dk_172 (dk_at dksX4_lacking_2 13 rfl rfl)
abbrev cX4_lackingIn : ByteArray := prog_14_method_85_code
def yX4_lackingIn : MethodName := ⟨RX4, "lackingIn", "(I)I"⟩
def dkwX4_lackingIn_1 : List UInt8 := [100, 61, 28, 158, 0, 7, 28, 167, 0, 4, 3, 172]
abbrev dktX4_lackingIn_1 : List UInt8 := dkwX4_lackingIn_1 ++ []
def dkwX4_lackingIn_0 : List UInt8 := [42, 180, 0, 29, 27, 46, 42, 42, 42, 180, 0, 90, 3, 182, 1, 61, 27, 3, 182, 1, 51, 184, 1, 55]
abbrev dktX4_lackingIn_0 : List UInt8 := dkwX4_lackingIn_0 ++ dktX4_lackingIn_1
theorem dksX4_lackingIn_0 : cX4_lackingIn.data.toList.drop 0 = dktX4_lackingIn_0 := by decide +kernel
theorem dksX4_lackingIn_1 : cX4_lackingIn.data.toList.drop 24 = dktX4_lackingIn_1 := dk_seg dksX4_lackingIn_0 24 rfl rfl
theorem dX4_lackingIn_0 : decode cX4_lackingIn 0 = .ok (.aload_n 0, 1) := dk_42 (dk_at dksX4_lackingIn_0 0 rfl rfl)
theorem dX4_lackingIn_1 : decode cX4_lackingIn 1 = .ok (.getfield 29, 3) := dk_180 0 29 (dk_at dksX4_lackingIn_0 1 rfl rfl)
theorem dX4_lackingIn_4 : decode cX4_lackingIn 4 = .ok (.iload_n 1, 1) := dk_27 (dk_at dksX4_lackingIn_0 4 rfl rfl)
theorem dX4_lackingIn_5 : decode cX4_lackingIn 5 = .ok (.iaload, 1) := dk_46 (dk_at dksX4_lackingIn_0 5 rfl rfl)
theorem dX4_lackingIn_6 : decode cX4_lackingIn 6 = .ok (.aload_n 0, 1) := dk_42 (dk_at dksX4_lackingIn_0 6 rfl rfl)
theorem dX4_lackingIn_7 : decode cX4_lackingIn 7 = .ok (.aload_n 0, 1) := dk_42 (dk_at dksX4_lackingIn_0 7 rfl rfl)
theorem dX4_lackingIn_8 : decode cX4_lackingIn 8 = .ok (.aload_n 0, 1) := dk_42 (dk_at dksX4_lackingIn_0 8 rfl rfl)
theorem dX4_lackingIn_9 : decode cX4_lackingIn 9 = .ok (.getfield 90, 3) := dk_180 0 90 (dk_at dksX4_lackingIn_0 9 rfl rfl)
theorem dX4_lackingIn_12 : decode cX4_lackingIn 12 = .ok (.iconst 0, 1) := dk_3 (dk_at dksX4_lackingIn_0 12 rfl rfl)
theorem dX4_lackingIn_13 : decode cX4_lackingIn 13 = .ok (.invokevirtual 317, 3) := dk_182 1 61 (dk_at dksX4_lackingIn_0 13 rfl rfl)
theorem dX4_lackingIn_16 : decode cX4_lackingIn 16 = .ok (.iload_n 1, 1) := dk_27 (dk_at dksX4_lackingIn_0 16 rfl rfl)
theorem dX4_lackingIn_17 : decode cX4_lackingIn 17 = .ok (.iconst 0, 1) := dk_3 (dk_at dksX4_lackingIn_0 17 rfl rfl)
theorem dX4_lackingIn_18 : decode cX4_lackingIn 18 = .ok (.invokevirtual 307, 3) := dk_182 1 51 (dk_at dksX4_lackingIn_0 18 rfl rfl)
theorem dX4_lackingIn_21 : decode cX4_lackingIn 21 = .ok (.invokestatic 311, 3) := dk_184 1 55 (dk_at dksX4_lackingIn_0 21 rfl rfl)
theorem dX4_lackingIn_24 : decode cX4_lackingIn 24 = .ok (.isub, 1) := dk_100 (dk_at dksX4_lackingIn_1 0 rfl rfl)
theorem dX4_lackingIn_25 : decode cX4_lackingIn 25 = .ok (.istore_n 2, 1) := dk_61 (dk_at dksX4_lackingIn_1 1 rfl rfl)
theorem dX4_lackingIn_26 : decode cX4_lackingIn 26 = .ok (.iload_n 2, 1) := dk_28 (dk_at dksX4_lackingIn_1 2 rfl rfl)
theorem dX4_lackingIn_27 : decode cX4_lackingIn 27 = .ok (.ifCond .le 7, 3) := dk_158 0 7 (dk_at dksX4_lackingIn_1 3 rfl rfl)
theorem dX4_lackingIn_30 : decode cX4_lackingIn 30 = .ok (.iload_n 2, 1) := dk_28 (dk_at dksX4_lackingIn_1 6 rfl rfl)
theorem dX4_lackingIn_31 : decode cX4_lackingIn 31 = .ok (.goto 4, 3) := dk_167 0 4 (dk_at dksX4_lackingIn_1 7 rfl rfl)
theorem dX4_lackingIn_34 : decode cX4_lackingIn 34 = .ok (.iconst 0, 1) := dk_3 (dk_at dksX4_lackingIn_1 10 rfl rfl)
theorem dX4_lackingIn_35 : decode cX4_lackingIn 35 = .ok (.ireturn, 1) := dk_172 (dk_at dksX4_lackingIn_1 11 rfl rfl)
abbrev cX4_widen : ByteArray := prog_14_method_88_code
def yX4_widen : MethodName := ⟨RX4, "widen", "(II)I"⟩
def dkwX4_widen_10 : List UInt8 := [159, 0, 9, 21, 6, 2, 160, 0, 8, 21, 6, 167, 0, 11, 42, 21, 6, 21, 5, 182, 1, 129, 172]
abbrev dktX4_widen_10 : List UInt8 := dkwX4_widen_10 ++ []
def dkwX4_widen_9 : List UInt8 := [21, 6, 21, 5, 182, 1, 129, 162, 0, 7, 21, 7, 54, 6, 132, 7, 1, 167, 255, 177, 28, 4]
abbrev dktX4_widen_9 : List UInt8 := dkwX4_widen_9 ++ dktX4_widen_10
def dkwX4_widen_8 : List UInt8 := [182, 1, 45, 153, 0, 6, 167, 0, 32, 21, 6, 2, 159, 0, 22, 42, 21, 7, 21, 5, 182, 1, 129, 42]
abbrev dktX4_widen_8 : List UInt8 := dkwX4_widen_8 ++ dktX4_widen_9
def dkwX4_widen_7 : List UInt8 := [153, 0, 61, 42, 180, 0, 17, 21, 7, 46, 21, 5, 7, 112, 160, 0, 47, 42, 21, 7, 21, 5, 3]
abbrev dktX4_widen_7 : List UInt8 := dkwX4_widen_7 ++ dktX4_widen_8
def dkwX4_widen_6 : List UInt8 := [2, 172, 2, 54, 6, 3, 54, 7, 21, 7, 42, 180, 1, 21, 162, 0, 76, 29, 21, 7, 122, 4, 126]
abbrev dktX4_widen_6 : List UInt8 := dkwX4_widen_6 ++ dktX4_widen_7
def dkwX4_widen_5 : List UInt8 := [158, 0, 8, 21, 6, 167, 0, 5, 21, 5, 54, 5, 132, 6, 1, 167, 255, 190, 21, 4, 4, 159, 0, 5]
abbrev dktX4_widen_5 : List UInt8 := dkwX4_widen_5 ++ dktX4_widen_6
def dkwX4_widen_4 : List UInt8 := [182, 1, 126, 96, 54, 4, 42, 180, 0, 29, 21, 6, 46, 158, 0, 17, 42, 21, 6, 182, 1, 126]
abbrev dktX4_widen_4 : List UInt8 := dkwX4_widen_4 ++ dktX4_widen_5
def dkwX4_widen_3 : List UInt8 := [162, 0, 62, 21, 4, 42, 180, 0, 29, 21, 6, 46, 154, 0, 7, 3, 167, 0, 9, 42, 21, 6]
abbrev dktX4_widen_3 : List UInt8 := dkwX4_widen_3 ++ dktX4_widen_4
def dkwX4_widen_2 : List UInt8 := [3, 167, 0, 4, 2, 172, 3, 54, 4, 2, 54, 5, 7, 27, 104, 54, 6, 21, 6, 7, 27, 104, 7, 96]
abbrev dktX4_widen_2 : List UInt8 := dkwX4_widen_2 ++ dktX4_widen_3
def dkwX4_widen_1 : List UInt8 := [42, 42, 180, 0, 90, 3, 182, 1, 61, 62, 42, 29, 27, 3, 182, 1, 58, 153, 0, 13, 28, 154, 0, 7]
abbrev dktX4_widen_1 : List UInt8 := dkwX4_widen_1 ++ dktX4_widen_2
def dkwX4_widen_0 : List UInt8 := [42, 3, 181, 0, 120, 42, 27, 182, 1, 75, 153, 0, 12, 42, 28, 4, 182, 1, 71, 154, 0, 5, 3, 172]
abbrev dktX4_widen_0 : List UInt8 := dkwX4_widen_0 ++ dktX4_widen_1
theorem dksX4_widen_0 : cX4_widen.data.toList.drop 0 = dktX4_widen_0 := by decide +kernel
theorem dksX4_widen_1 : cX4_widen.data.toList.drop 24 = dktX4_widen_1 := dk_seg dksX4_widen_0 24 rfl rfl
theorem dksX4_widen_2 : cX4_widen.data.toList.drop 48 = dktX4_widen_2 := dk_seg dksX4_widen_1 24 rfl rfl
theorem dksX4_widen_3 : cX4_widen.data.toList.drop 72 = dktX4_widen_3 := dk_seg dksX4_widen_2 24 rfl rfl
theorem dksX4_widen_4 : cX4_widen.data.toList.drop 94 = dktX4_widen_4 := dk_seg dksX4_widen_3 22 rfl rfl
theorem dksX4_widen_5 : cX4_widen.data.toList.drop 116 = dktX4_widen_5 := dk_seg dksX4_widen_4 22 rfl rfl
theorem dksX4_widen_6 : cX4_widen.data.toList.drop 140 = dktX4_widen_6 := dk_seg dksX4_widen_5 24 rfl rfl
theorem dksX4_widen_7 : cX4_widen.data.toList.drop 163 = dktX4_widen_7 := dk_seg dksX4_widen_6 23 rfl rfl
theorem dksX4_widen_8 : cX4_widen.data.toList.drop 186 = dktX4_widen_8 := dk_seg dksX4_widen_7 23 rfl rfl
theorem dksX4_widen_9 : cX4_widen.data.toList.drop 210 = dktX4_widen_9 := dk_seg dksX4_widen_8 24 rfl rfl
theorem dksX4_widen_10 : cX4_widen.data.toList.drop 232 = dktX4_widen_10 := dk_seg dksX4_widen_9 22 rfl rfl
theorem dX4_widen_0 : decode cX4_widen 0 = .ok (.aload_n 0, 1) := dk_42 (dk_at dksX4_widen_0 0 rfl rfl)
theorem dX4_widen_1 : decode cX4_widen 1 = .ok (.iconst 0, 1) := dk_3 (dk_at dksX4_widen_0 1 rfl rfl)
theorem dX4_widen_2 : decode cX4_widen 2 = .ok (.putfield 120, 3) := dk_181 0 120 (dk_at dksX4_widen_0 2 rfl rfl)
theorem dX4_widen_5 : decode cX4_widen 5 = .ok (.aload_n 0, 1) := dk_42 (dk_at dksX4_widen_0 5 rfl rfl)
theorem dX4_widen_6 : decode cX4_widen 6 = .ok (.iload_n 1, 1) := dk_27 (dk_at dksX4_widen_0 6 rfl rfl)
theorem dX4_widen_7 : decode cX4_widen 7 = .ok (.invokevirtual 331, 3) := dk_182 1 75 (dk_at dksX4_widen_0 7 rfl rfl)
theorem dX4_widen_10 : decode cX4_widen 10 = .ok (.ifCond .eq 12, 3) := dk_153 0 12 (dk_at dksX4_widen_0 10 rfl rfl)
theorem dX4_widen_13 : decode cX4_widen 13 = .ok (.aload_n 0, 1) := dk_42 (dk_at dksX4_widen_0 13 rfl rfl)
theorem dX4_widen_14 : decode cX4_widen 14 = .ok (.iload_n 2, 1) := dk_28 (dk_at dksX4_widen_0 14 rfl rfl)
theorem dX4_widen_15 : decode cX4_widen 15 = .ok (.iconst 1, 1) := dk_4 (dk_at dksX4_widen_0 15 rfl rfl)
theorem dX4_widen_16 : decode cX4_widen 16 = .ok (.invokevirtual 327, 3) := dk_182 1 71 (dk_at dksX4_widen_0 16 rfl rfl)
theorem dX4_widen_19 : decode cX4_widen 19 = .ok (.ifCond .ne 5, 3) := dk_154 0 5 (dk_at dksX4_widen_0 19 rfl rfl)
theorem dX4_widen_22 : decode cX4_widen 22 = .ok (.iconst 0, 1) := dk_3 (dk_at dksX4_widen_0 22 rfl rfl)
theorem dX4_widen_23 : decode cX4_widen 23 = .ok (.ireturn, 1) := dk_172 (dk_at dksX4_widen_0 23 rfl rfl)
theorem dX4_widen_24 : decode cX4_widen 24 = .ok (.aload_n 0, 1) := dk_42 (dk_at dksX4_widen_1 0 rfl rfl)
theorem dX4_widen_25 : decode cX4_widen 25 = .ok (.aload_n 0, 1) := dk_42 (dk_at dksX4_widen_1 1 rfl rfl)
theorem dX4_widen_26 : decode cX4_widen 26 = .ok (.getfield 90, 3) := dk_180 0 90 (dk_at dksX4_widen_1 2 rfl rfl)
theorem dX4_widen_29 : decode cX4_widen 29 = .ok (.iconst 0, 1) := dk_3 (dk_at dksX4_widen_1 5 rfl rfl)
theorem dX4_widen_30 : decode cX4_widen 30 = .ok (.invokevirtual 317, 3) := dk_182 1 61 (dk_at dksX4_widen_1 6 rfl rfl)
theorem dX4_widen_33 : decode cX4_widen 33 = .ok (.istore_n 3, 1) := dk_62 (dk_at dksX4_widen_1 9 rfl rfl)
theorem dX4_widen_34 : decode cX4_widen 34 = .ok (.aload_n 0, 1) := dk_42 (dk_at dksX4_widen_1 10 rfl rfl)
theorem dX4_widen_35 : decode cX4_widen 35 = .ok (.iload_n 3, 1) := dk_29 (dk_at dksX4_widen_1 11 rfl rfl)
theorem dX4_widen_36 : decode cX4_widen 36 = .ok (.iload_n 1, 1) := dk_27 (dk_at dksX4_widen_1 12 rfl rfl)
theorem dX4_widen_37 : decode cX4_widen 37 = .ok (.iconst 0, 1) := dk_3 (dk_at dksX4_widen_1 13 rfl rfl)
theorem dX4_widen_38 : decode cX4_widen 38 = .ok (.invokevirtual 314, 3) := dk_182 1 58 (dk_at dksX4_widen_1 14 rfl rfl)
theorem dX4_widen_41 : decode cX4_widen 41 = .ok (.ifCond .eq 13, 3) := dk_153 0 13 (dk_at dksX4_widen_1 17 rfl rfl)
theorem dX4_widen_44 : decode cX4_widen 44 = .ok (.iload_n 2, 1) := dk_28 (dk_at dksX4_widen_1 20 rfl rfl)
theorem dX4_widen_45 : decode cX4_widen 45 = .ok (.ifCond .ne 7, 3) := dk_154 0 7 (dk_at dksX4_widen_1 21 rfl rfl)
theorem dX4_widen_48 : decode cX4_widen 48 = .ok (.iconst 0, 1) := dk_3 (dk_at dksX4_widen_2 0 rfl rfl)
theorem dX4_widen_49 : decode cX4_widen 49 = .ok (.goto 4, 3) := dk_167 0 4 (dk_at dksX4_widen_2 1 rfl rfl)
theorem dX4_widen_52 : decode cX4_widen 52 = .ok (.iconst (-1), 1) := dk_2 (dk_at dksX4_widen_2 4 rfl rfl)
theorem dX4_widen_53 : decode cX4_widen 53 = .ok (.ireturn, 1) := dk_172 (dk_at dksX4_widen_2 5 rfl rfl)
theorem dX4_widen_54 : decode cX4_widen 54 = .ok (.iconst 0, 1) := dk_3 (dk_at dksX4_widen_2 6 rfl rfl)
theorem dX4_widen_55 : decode cX4_widen 55 = .ok (.istore 4, 2) := dk_54 4 (dk_at dksX4_widen_2 7 rfl rfl)
theorem dX4_widen_57 : decode cX4_widen 57 = .ok (.iconst (-1), 1) := dk_2 (dk_at dksX4_widen_2 9 rfl rfl)
theorem dX4_widen_58 : decode cX4_widen 58 = .ok (.istore 5, 2) := dk_54 5 (dk_at dksX4_widen_2 10 rfl rfl)
theorem dX4_widen_60 : decode cX4_widen 60 = .ok (.iconst 4, 1) := dk_7 (dk_at dksX4_widen_2 12 rfl rfl)
theorem dX4_widen_61 : decode cX4_widen 61 = .ok (.iload_n 1, 1) := dk_27 (dk_at dksX4_widen_2 13 rfl rfl)
theorem dX4_widen_62 : decode cX4_widen 62 = .ok (.imul, 1) := dk_104 (dk_at dksX4_widen_2 14 rfl rfl)
theorem dX4_widen_63 : decode cX4_widen 63 = .ok (.istore 6, 2) := dk_54 6 (dk_at dksX4_widen_2 15 rfl rfl)
theorem dX4_widen_65 : decode cX4_widen 65 = .ok (.iload 6, 2) := dk_21 6 (dk_at dksX4_widen_2 17 rfl rfl)
theorem dX4_widen_67 : decode cX4_widen 67 = .ok (.iconst 4, 1) := dk_7 (dk_at dksX4_widen_2 19 rfl rfl)
theorem dX4_widen_68 : decode cX4_widen 68 = .ok (.iload_n 1, 1) := dk_27 (dk_at dksX4_widen_2 20 rfl rfl)
theorem dX4_widen_69 : decode cX4_widen 69 = .ok (.imul, 1) := dk_104 (dk_at dksX4_widen_2 21 rfl rfl)
theorem dX4_widen_70 : decode cX4_widen 70 = .ok (.iconst 4, 1) := dk_7 (dk_at dksX4_widen_2 22 rfl rfl)
theorem dX4_widen_71 : decode cX4_widen 71 = .ok (.iadd, 1) := dk_96 (dk_at dksX4_widen_2 23 rfl rfl)
theorem dX4_widen_72 : decode cX4_widen 72 = .ok (.if_icmp .ge 62, 3) := dk_162 0 62 (dk_at dksX4_widen_3 0 rfl rfl)
theorem dX4_widen_75 : decode cX4_widen 75 = .ok (.iload 4, 2) := dk_21 4 (dk_at dksX4_widen_3 3 rfl rfl)
theorem dX4_widen_77 : decode cX4_widen 77 = .ok (.aload_n 0, 1) := dk_42 (dk_at dksX4_widen_3 5 rfl rfl)
theorem dX4_widen_78 : decode cX4_widen 78 = .ok (.getfield 29, 3) := dk_180 0 29 (dk_at dksX4_widen_3 6 rfl rfl)
theorem dX4_widen_81 : decode cX4_widen 81 = .ok (.iload 6, 2) := dk_21 6 (dk_at dksX4_widen_3 9 rfl rfl)
theorem dX4_widen_83 : decode cX4_widen 83 = .ok (.iaload, 1) := dk_46 (dk_at dksX4_widen_3 11 rfl rfl)
theorem dX4_widen_84 : decode cX4_widen 84 = .ok (.ifCond .ne 7, 3) := dk_154 0 7 (dk_at dksX4_widen_3 12 rfl rfl)
theorem dX4_widen_87 : decode cX4_widen 87 = .ok (.iconst 0, 1) := dk_3 (dk_at dksX4_widen_3 15 rfl rfl)
theorem dX4_widen_88 : decode cX4_widen 88 = .ok (.goto 9, 3) := dk_167 0 9 (dk_at dksX4_widen_3 16 rfl rfl)
theorem dX4_widen_91 : decode cX4_widen 91 = .ok (.aload_n 0, 1) := dk_42 (dk_at dksX4_widen_3 19 rfl rfl)
theorem dX4_widen_92 : decode cX4_widen 92 = .ok (.iload 6, 2) := dk_21 6 (dk_at dksX4_widen_3 20 rfl rfl)
theorem dX4_widen_94 : decode cX4_widen 94 = .ok (.invokevirtual 382, 3) := dk_182 1 126 (dk_at dksX4_widen_4 0 rfl rfl)
theorem dX4_widen_97 : decode cX4_widen 97 = .ok (.iadd, 1) := dk_96 (dk_at dksX4_widen_4 3 rfl rfl)
theorem dX4_widen_98 : decode cX4_widen 98 = .ok (.istore 4, 2) := dk_54 4 (dk_at dksX4_widen_4 4 rfl rfl)
theorem dX4_widen_100 : decode cX4_widen 100 = .ok (.aload_n 0, 1) := dk_42 (dk_at dksX4_widen_4 6 rfl rfl)
theorem dX4_widen_101 : decode cX4_widen 101 = .ok (.getfield 29, 3) := dk_180 0 29 (dk_at dksX4_widen_4 7 rfl rfl)
theorem dX4_widen_104 : decode cX4_widen 104 = .ok (.iload 6, 2) := dk_21 6 (dk_at dksX4_widen_4 10 rfl rfl)
theorem dX4_widen_106 : decode cX4_widen 106 = .ok (.iaload, 1) := dk_46 (dk_at dksX4_widen_4 12 rfl rfl)
theorem dX4_widen_107 : decode cX4_widen 107 = .ok (.ifCond .le 17, 3) := dk_158 0 17 (dk_at dksX4_widen_4 13 rfl rfl)
theorem dX4_widen_110 : decode cX4_widen 110 = .ok (.aload_n 0, 1) := dk_42 (dk_at dksX4_widen_4 16 rfl rfl)
theorem dX4_widen_111 : decode cX4_widen 111 = .ok (.iload 6, 2) := dk_21 6 (dk_at dksX4_widen_4 17 rfl rfl)
theorem dX4_widen_113 : decode cX4_widen 113 = .ok (.invokevirtual 382, 3) := dk_182 1 126 (dk_at dksX4_widen_4 19 rfl rfl)
theorem dX4_widen_116 : decode cX4_widen 116 = .ok (.ifCond .le 8, 3) := dk_158 0 8 (dk_at dksX4_widen_5 0 rfl rfl)
theorem dX4_widen_119 : decode cX4_widen 119 = .ok (.iload 6, 2) := dk_21 6 (dk_at dksX4_widen_5 3 rfl rfl)
theorem dX4_widen_121 : decode cX4_widen 121 = .ok (.goto 5, 3) := dk_167 0 5 (dk_at dksX4_widen_5 5 rfl rfl)
theorem dX4_widen_124 : decode cX4_widen 124 = .ok (.iload 5, 2) := dk_21 5 (dk_at dksX4_widen_5 8 rfl rfl)
theorem dX4_widen_126 : decode cX4_widen 126 = .ok (.istore 5, 2) := dk_54 5 (dk_at dksX4_widen_5 10 rfl rfl)
theorem dX4_widen_128 : decode cX4_widen 128 = .ok (.iinc 6 1, 3) := dk_132 6 1 (dk_at dksX4_widen_5 12 rfl rfl)
theorem dX4_widen_131 : decode cX4_widen 131 = .ok (.goto (-66), 3) := dk_167 255 190 (dk_at dksX4_widen_5 15 rfl rfl)
theorem dX4_widen_134 : decode cX4_widen 134 = .ok (.iload 4, 2) := dk_21 4 (dk_at dksX4_widen_5 18 rfl rfl)
theorem dX4_widen_136 : decode cX4_widen 136 = .ok (.iconst 1, 1) := dk_4 (dk_at dksX4_widen_5 20 rfl rfl)
theorem dX4_widen_137 : decode cX4_widen 137 = .ok (.if_icmp .eq 5, 3) := dk_159 0 5 (dk_at dksX4_widen_5 21 rfl rfl)
theorem dX4_widen_140 : decode cX4_widen 140 = .ok (.iconst (-1), 1) := dk_2 (dk_at dksX4_widen_6 0 rfl rfl)
theorem dX4_widen_141 : decode cX4_widen 141 = .ok (.ireturn, 1) := dk_172 (dk_at dksX4_widen_6 1 rfl rfl)
theorem dX4_widen_142 : decode cX4_widen 142 = .ok (.iconst (-1), 1) := dk_2 (dk_at dksX4_widen_6 2 rfl rfl)
theorem dX4_widen_143 : decode cX4_widen 143 = .ok (.istore 6, 2) := dk_54 6 (dk_at dksX4_widen_6 3 rfl rfl)
theorem dX4_widen_145 : decode cX4_widen 145 = .ok (.iconst 0, 1) := dk_3 (dk_at dksX4_widen_6 5 rfl rfl)
theorem dX4_widen_146 : decode cX4_widen 146 = .ok (.istore 7, 2) := dk_54 7 (dk_at dksX4_widen_6 6 rfl rfl)
theorem dX4_widen_148 : decode cX4_widen 148 = .ok (.iload 7, 2) := dk_21 7 (dk_at dksX4_widen_6 8 rfl rfl)
theorem dX4_widen_150 : decode cX4_widen 150 = .ok (.aload_n 0, 1) := dk_42 (dk_at dksX4_widen_6 10 rfl rfl)
theorem dX4_widen_151 : decode cX4_widen 151 = .ok (.getfield 277, 3) := dk_180 1 21 (dk_at dksX4_widen_6 11 rfl rfl)
theorem dX4_widen_154 : decode cX4_widen 154 = .ok (.if_icmp .ge 76, 3) := dk_162 0 76 (dk_at dksX4_widen_6 14 rfl rfl)
theorem dX4_widen_157 : decode cX4_widen 157 = .ok (.iload_n 3, 1) := dk_29 (dk_at dksX4_widen_6 17 rfl rfl)
theorem dX4_widen_158 : decode cX4_widen 158 = .ok (.iload 7, 2) := dk_21 7 (dk_at dksX4_widen_6 18 rfl rfl)
theorem dX4_widen_160 : decode cX4_widen 160 = .ok (.ishr, 1) := dk_122 (dk_at dksX4_widen_6 20 rfl rfl)
theorem dX4_widen_161 : decode cX4_widen 161 = .ok (.iconst 1, 1) := dk_4 (dk_at dksX4_widen_6 21 rfl rfl)
theorem dX4_widen_162 : decode cX4_widen 162 = .ok (.iand, 1) := dk_126 (dk_at dksX4_widen_6 22 rfl rfl)
theorem dX4_widen_163 : decode cX4_widen 163 = .ok (.ifCond .eq 61, 3) := dk_153 0 61 (dk_at dksX4_widen_7 0 rfl rfl)
theorem dX4_widen_166 : decode cX4_widen 166 = .ok (.aload_n 0, 1) := dk_42 (dk_at dksX4_widen_7 3 rfl rfl)
theorem dX4_widen_167 : decode cX4_widen 167 = .ok (.getfield 17, 3) := dk_180 0 17 (dk_at dksX4_widen_7 4 rfl rfl)
theorem dX4_widen_170 : decode cX4_widen 170 = .ok (.iload 7, 2) := dk_21 7 (dk_at dksX4_widen_7 7 rfl rfl)
theorem dX4_widen_172 : decode cX4_widen 172 = .ok (.iaload, 1) := dk_46 (dk_at dksX4_widen_7 9 rfl rfl)
theorem dX4_widen_173 : decode cX4_widen 173 = .ok (.iload 5, 2) := dk_21 5 (dk_at dksX4_widen_7 10 rfl rfl)
theorem dX4_widen_175 : decode cX4_widen 175 = .ok (.iconst 4, 1) := dk_7 (dk_at dksX4_widen_7 12 rfl rfl)
theorem dX4_widen_176 : decode cX4_widen 176 = .ok (.irem, 1) := dk_112 (dk_at dksX4_widen_7 13 rfl rfl)
theorem dX4_widen_177 : decode cX4_widen 177 = .ok (.if_icmp .ne 47, 3) := dk_160 0 47 (dk_at dksX4_widen_7 14 rfl rfl)
theorem dX4_widen_180 : decode cX4_widen 180 = .ok (.aload_n 0, 1) := dk_42 (dk_at dksX4_widen_7 17 rfl rfl)
theorem dX4_widen_181 : decode cX4_widen 181 = .ok (.iload 7, 2) := dk_21 7 (dk_at dksX4_widen_7 18 rfl rfl)
theorem dX4_widen_183 : decode cX4_widen 183 = .ok (.iload 5, 2) := dk_21 5 (dk_at dksX4_widen_7 20 rfl rfl)
theorem dX4_widen_185 : decode cX4_widen 185 = .ok (.iconst 0, 1) := dk_3 (dk_at dksX4_widen_7 22 rfl rfl)
theorem dX4_widen_186 : decode cX4_widen 186 = .ok (.invokevirtual 301, 3) := dk_182 1 45 (dk_at dksX4_widen_8 0 rfl rfl)
theorem dX4_widen_189 : decode cX4_widen 189 = .ok (.ifCond .eq 6, 3) := dk_153 0 6 (dk_at dksX4_widen_8 3 rfl rfl)
theorem dX4_widen_192 : decode cX4_widen 192 = .ok (.goto 32, 3) := dk_167 0 32 (dk_at dksX4_widen_8 6 rfl rfl)
theorem dX4_widen_195 : decode cX4_widen 195 = .ok (.iload 6, 2) := dk_21 6 (dk_at dksX4_widen_8 9 rfl rfl)
theorem dX4_widen_197 : decode cX4_widen 197 = .ok (.iconst (-1), 1) := dk_2 (dk_at dksX4_widen_8 11 rfl rfl)
theorem dX4_widen_198 : decode cX4_widen 198 = .ok (.if_icmp .eq 22, 3) := dk_159 0 22 (dk_at dksX4_widen_8 12 rfl rfl)
theorem dX4_widen_201 : decode cX4_widen 201 = .ok (.aload_n 0, 1) := dk_42 (dk_at dksX4_widen_8 15 rfl rfl)
theorem dX4_widen_202 : decode cX4_widen 202 = .ok (.iload 7, 2) := dk_21 7 (dk_at dksX4_widen_8 16 rfl rfl)
theorem dX4_widen_204 : decode cX4_widen 204 = .ok (.iload 5, 2) := dk_21 5 (dk_at dksX4_widen_8 18 rfl rfl)
theorem dX4_widen_206 : decode cX4_widen 206 = .ok (.invokevirtual 385, 3) := dk_182 1 129 (dk_at dksX4_widen_8 20 rfl rfl)
theorem dX4_widen_209 : decode cX4_widen 209 = .ok (.aload_n 0, 1) := dk_42 (dk_at dksX4_widen_8 23 rfl rfl)
theorem dX4_widen_210 : decode cX4_widen 210 = .ok (.iload 6, 2) := dk_21 6 (dk_at dksX4_widen_9 0 rfl rfl)
theorem dX4_widen_212 : decode cX4_widen 212 = .ok (.iload 5, 2) := dk_21 5 (dk_at dksX4_widen_9 2 rfl rfl)
theorem dX4_widen_214 : decode cX4_widen 214 = .ok (.invokevirtual 385, 3) := dk_182 1 129 (dk_at dksX4_widen_9 4 rfl rfl)
theorem dX4_widen_217 : decode cX4_widen 217 = .ok (.if_icmp .ge 7, 3) := dk_162 0 7 (dk_at dksX4_widen_9 7 rfl rfl)
theorem dX4_widen_220 : decode cX4_widen 220 = .ok (.iload 7, 2) := dk_21 7 (dk_at dksX4_widen_9 10 rfl rfl)
theorem dX4_widen_222 : decode cX4_widen 222 = .ok (.istore 6, 2) := dk_54 6 (dk_at dksX4_widen_9 12 rfl rfl)
theorem dX4_widen_224 : decode cX4_widen 224 = .ok (.iinc 7 1, 3) := dk_132 7 1 (dk_at dksX4_widen_9 14 rfl rfl)
theorem dX4_widen_227 : decode cX4_widen 227 = .ok (.goto (-79), 3) := dk_167 255 177 (dk_at dksX4_widen_9 17 rfl rfl)
theorem dX4_widen_230 : decode cX4_widen 230 = .ok (.iload_n 2, 1) := dk_28 (dk_at dksX4_widen_9 20 rfl rfl)
theorem dX4_widen_231 : decode cX4_widen 231 = .ok (.iconst 1, 1) := dk_4 (dk_at dksX4_widen_9 21 rfl rfl)
theorem dX4_widen_232 : decode cX4_widen 232 = .ok (.if_icmp .eq 9, 3) := dk_159 0 9 (dk_at dksX4_widen_10 0 rfl rfl)
theorem dX4_widen_235 : decode cX4_widen 235 = .ok (.iload 6, 2) := dk_21 6 (dk_at dksX4_widen_10 3 rfl rfl)
theorem dX4_widen_237 : decode cX4_widen 237 = .ok (.iconst (-1), 1) := dk_2 (dk_at dksX4_widen_10 5 rfl rfl)
theorem dX4_widen_238 : decode cX4_widen 238 = .ok (.if_icmp .ne 8, 3) := dk_160 0 8 (dk_at dksX4_widen_10 6 rfl rfl)
theorem dX4_widen_241 : decode cX4_widen 241 = .ok (.iload 6, 2) := dk_21 6 (dk_at dksX4_widen_10 9 rfl rfl)
theorem dX4_widen_243 : decode cX4_widen 243 = .ok (.goto 11, 3) := dk_167 0 11 (dk_at dksX4_widen_10 11 rfl rfl)
theorem dX4_widen_246 : decode cX4_widen 246 = .ok (.aload_n 0, 1) := dk_42 (dk_at dksX4_widen_10 14 rfl rfl)
theorem dX4_widen_247 : decode cX4_widen 247 = .ok (.iload 6, 2) := dk_21 6 (dk_at dksX4_widen_10 15 rfl rfl)
theorem dX4_widen_249 : decode cX4_widen 249 = .ok (.iload 5, 2) := dk_21 5 (dk_at dksX4_widen_10 17 rfl rfl)
theorem dX4_widen_251 : decode cX4_widen 251 = .ok (.invokevirtual 385, 3) := dk_182 1 129 (dk_at dksX4_widen_10 19 rfl rfl)
theorem dX4_widen_254 : decode cX4_widen 254 = .ok (.ireturn, 1) := dk_172 (dk_at dksX4_widen_10 22 rfl rfl)
abbrev cX4_widerFor : ByteArray := prog_14_method_87_code
def yX4_widerFor : MethodName := ⟨RX4, "widerFor", "(II)I"⟩
def dkwX4_widerFor_4 : List UInt8 := [46, 100, 172]
abbrev dktX4_widerFor_4 : List UInt8 := dkwX4_widerFor_4 ++ []
def dkwX4_widerFor_3 : List UInt8 := [54, 4, 132, 5, 1, 167, 255, 199, 42, 180, 0, 20, 27, 46, 29, 100, 21, 4, 96, 42, 180, 0, 23, 27]
abbrev dktX4_widerFor_3 : List UInt8 := dkwX4_widerFor_3 ++ dktX4_widerFor_4
def dkwX4_widerFor_2 : List UInt8 := [162, 0, 8, 21, 6, 167, 0, 4, 29, 62, 21, 6, 21, 4, 164, 0, 8, 21, 6, 167, 0, 5, 21, 4]
abbrev dktX4_widerFor_2 : List UInt8 := dkwX4_widerFor_2 ++ dktX4_widerFor_3
def dkwX4_widerFor_1 : List UInt8 := [28, 46, 162, 0, 52, 42, 180, 0, 35, 16, 12, 28, 104, 21, 5, 96, 46, 54, 6, 21, 6, 29]
abbrev dktX4_widerFor_1 : List UInt8 := dkwX4_widerFor_1 ++ dktX4_widerFor_2
def dkwX4_widerFor_0 : List UInt8 := [42, 180, 0, 20, 27, 46, 62, 42, 180, 0, 23, 27, 46, 54, 4, 3, 54, 5, 21, 5, 42, 180, 0, 32]
abbrev dktX4_widerFor_0 : List UInt8 := dkwX4_widerFor_0 ++ dktX4_widerFor_1
theorem dksX4_widerFor_0 : cX4_widerFor.data.toList.drop 0 = dktX4_widerFor_0 := by decide +kernel
theorem dksX4_widerFor_1 : cX4_widerFor.data.toList.drop 24 = dktX4_widerFor_1 := dk_seg dksX4_widerFor_0 24 rfl rfl
theorem dksX4_widerFor_2 : cX4_widerFor.data.toList.drop 46 = dktX4_widerFor_2 := dk_seg dksX4_widerFor_1 22 rfl rfl
theorem dksX4_widerFor_3 : cX4_widerFor.data.toList.drop 70 = dktX4_widerFor_3 := dk_seg dksX4_widerFor_2 24 rfl rfl
theorem dksX4_widerFor_4 : cX4_widerFor.data.toList.drop 94 = dktX4_widerFor_4 := dk_seg dksX4_widerFor_3 24 rfl rfl
theorem dX4_widerFor_0 : decode cX4_widerFor 0 = .ok (.aload_n 0, 1) := dk_42 (dk_at dksX4_widerFor_0 0 rfl rfl)
theorem dX4_widerFor_1 : decode cX4_widerFor 1 = .ok (.getfield 20, 3) := dk_180 0 20 (dk_at dksX4_widerFor_0 1 rfl rfl)
theorem dX4_widerFor_4 : decode cX4_widerFor 4 = .ok (.iload_n 1, 1) := dk_27 (dk_at dksX4_widerFor_0 4 rfl rfl)
theorem dX4_widerFor_5 : decode cX4_widerFor 5 = .ok (.iaload, 1) := dk_46 (dk_at dksX4_widerFor_0 5 rfl rfl)
theorem dX4_widerFor_6 : decode cX4_widerFor 6 = .ok (.istore_n 3, 1) := dk_62 (dk_at dksX4_widerFor_0 6 rfl rfl)
theorem dX4_widerFor_7 : decode cX4_widerFor 7 = .ok (.aload_n 0, 1) := dk_42 (dk_at dksX4_widerFor_0 7 rfl rfl)
theorem dX4_widerFor_8 : decode cX4_widerFor 8 = .ok (.getfield 23, 3) := dk_180 0 23 (dk_at dksX4_widerFor_0 8 rfl rfl)
theorem dX4_widerFor_11 : decode cX4_widerFor 11 = .ok (.iload_n 1, 1) := dk_27 (dk_at dksX4_widerFor_0 11 rfl rfl)
theorem dX4_widerFor_12 : decode cX4_widerFor 12 = .ok (.iaload, 1) := dk_46 (dk_at dksX4_widerFor_0 12 rfl rfl)
theorem dX4_widerFor_13 : decode cX4_widerFor 13 = .ok (.istore 4, 2) := dk_54 4 (dk_at dksX4_widerFor_0 13 rfl rfl)
theorem dX4_widerFor_15 : decode cX4_widerFor 15 = .ok (.iconst 0, 1) := dk_3 (dk_at dksX4_widerFor_0 15 rfl rfl)
theorem dX4_widerFor_16 : decode cX4_widerFor 16 = .ok (.istore 5, 2) := dk_54 5 (dk_at dksX4_widerFor_0 16 rfl rfl)
theorem dX4_widerFor_18 : decode cX4_widerFor 18 = .ok (.iload 5, 2) := dk_21 5 (dk_at dksX4_widerFor_0 18 rfl rfl)
theorem dX4_widerFor_20 : decode cX4_widerFor 20 = .ok (.aload_n 0, 1) := dk_42 (dk_at dksX4_widerFor_0 20 rfl rfl)
theorem dX4_widerFor_21 : decode cX4_widerFor 21 = .ok (.getfield 32, 3) := dk_180 0 32 (dk_at dksX4_widerFor_0 21 rfl rfl)
theorem dX4_widerFor_24 : decode cX4_widerFor 24 = .ok (.iload_n 2, 1) := dk_28 (dk_at dksX4_widerFor_1 0 rfl rfl)
theorem dX4_widerFor_25 : decode cX4_widerFor 25 = .ok (.iaload, 1) := dk_46 (dk_at dksX4_widerFor_1 1 rfl rfl)
theorem dX4_widerFor_26 : decode cX4_widerFor 26 = .ok (.if_icmp .ge 52, 3) := dk_162 0 52 (dk_at dksX4_widerFor_1 2 rfl rfl)
theorem dX4_widerFor_29 : decode cX4_widerFor 29 = .ok (.aload_n 0, 1) := dk_42 (dk_at dksX4_widerFor_1 5 rfl rfl)
theorem dX4_widerFor_30 : decode cX4_widerFor 30 = .ok (.getfield 35, 3) := dk_180 0 35 (dk_at dksX4_widerFor_1 6 rfl rfl)
theorem dX4_widerFor_33 : decode cX4_widerFor 33 = .ok (.bipush 12, 2) := dk_16 12 (dk_at dksX4_widerFor_1 9 rfl rfl)
theorem dX4_widerFor_35 : decode cX4_widerFor 35 = .ok (.iload_n 2, 1) := dk_28 (dk_at dksX4_widerFor_1 11 rfl rfl)
theorem dX4_widerFor_36 : decode cX4_widerFor 36 = .ok (.imul, 1) := dk_104 (dk_at dksX4_widerFor_1 12 rfl rfl)
theorem dX4_widerFor_37 : decode cX4_widerFor 37 = .ok (.iload 5, 2) := dk_21 5 (dk_at dksX4_widerFor_1 13 rfl rfl)
theorem dX4_widerFor_39 : decode cX4_widerFor 39 = .ok (.iadd, 1) := dk_96 (dk_at dksX4_widerFor_1 15 rfl rfl)
theorem dX4_widerFor_40 : decode cX4_widerFor 40 = .ok (.iaload, 1) := dk_46 (dk_at dksX4_widerFor_1 16 rfl rfl)
theorem dX4_widerFor_41 : decode cX4_widerFor 41 = .ok (.istore 6, 2) := dk_54 6 (dk_at dksX4_widerFor_1 17 rfl rfl)
theorem dX4_widerFor_43 : decode cX4_widerFor 43 = .ok (.iload 6, 2) := dk_21 6 (dk_at dksX4_widerFor_1 19 rfl rfl)
theorem dX4_widerFor_45 : decode cX4_widerFor 45 = .ok (.iload_n 3, 1) := dk_29 (dk_at dksX4_widerFor_1 21 rfl rfl)
theorem dX4_widerFor_46 : decode cX4_widerFor 46 = .ok (.if_icmp .ge 8, 3) := dk_162 0 8 (dk_at dksX4_widerFor_2 0 rfl rfl)
theorem dX4_widerFor_49 : decode cX4_widerFor 49 = .ok (.iload 6, 2) := dk_21 6 (dk_at dksX4_widerFor_2 3 rfl rfl)
theorem dX4_widerFor_51 : decode cX4_widerFor 51 = .ok (.goto 4, 3) := dk_167 0 4 (dk_at dksX4_widerFor_2 5 rfl rfl)
theorem dX4_widerFor_54 : decode cX4_widerFor 54 = .ok (.iload_n 3, 1) := dk_29 (dk_at dksX4_widerFor_2 8 rfl rfl)
theorem dX4_widerFor_55 : decode cX4_widerFor 55 = .ok (.istore_n 3, 1) := dk_62 (dk_at dksX4_widerFor_2 9 rfl rfl)
theorem dX4_widerFor_56 : decode cX4_widerFor 56 = .ok (.iload 6, 2) := dk_21 6 (dk_at dksX4_widerFor_2 10 rfl rfl)
theorem dX4_widerFor_58 : decode cX4_widerFor 58 = .ok (.iload 4, 2) := dk_21 4 (dk_at dksX4_widerFor_2 12 rfl rfl)
theorem dX4_widerFor_60 : decode cX4_widerFor 60 = .ok (.if_icmp .le 8, 3) := dk_164 0 8 (dk_at dksX4_widerFor_2 14 rfl rfl)
theorem dX4_widerFor_63 : decode cX4_widerFor 63 = .ok (.iload 6, 2) := dk_21 6 (dk_at dksX4_widerFor_2 17 rfl rfl)
theorem dX4_widerFor_65 : decode cX4_widerFor 65 = .ok (.goto 5, 3) := dk_167 0 5 (dk_at dksX4_widerFor_2 19 rfl rfl)
theorem dX4_widerFor_68 : decode cX4_widerFor 68 = .ok (.iload 4, 2) := dk_21 4 (dk_at dksX4_widerFor_2 22 rfl rfl)
theorem dX4_widerFor_70 : decode cX4_widerFor 70 = .ok (.istore 4, 2) := dk_54 4 (dk_at dksX4_widerFor_3 0 rfl rfl)
theorem dX4_widerFor_72 : decode cX4_widerFor 72 = .ok (.iinc 5 1, 3) := dk_132 5 1 (dk_at dksX4_widerFor_3 2 rfl rfl)
theorem dX4_widerFor_75 : decode cX4_widerFor 75 = .ok (.goto (-57), 3) := dk_167 255 199 (dk_at dksX4_widerFor_3 5 rfl rfl)
theorem dX4_widerFor_78 : decode cX4_widerFor 78 = .ok (.aload_n 0, 1) := dk_42 (dk_at dksX4_widerFor_3 8 rfl rfl)
theorem dX4_widerFor_79 : decode cX4_widerFor 79 = .ok (.getfield 20, 3) := dk_180 0 20 (dk_at dksX4_widerFor_3 9 rfl rfl)
theorem dX4_widerFor_82 : decode cX4_widerFor 82 = .ok (.iload_n 1, 1) := dk_27 (dk_at dksX4_widerFor_3 12 rfl rfl)
theorem dX4_widerFor_83 : decode cX4_widerFor 83 = .ok (.iaload, 1) := dk_46 (dk_at dksX4_widerFor_3 13 rfl rfl)
theorem dX4_widerFor_84 : decode cX4_widerFor 84 = .ok (.iload_n 3, 1) := dk_29 (dk_at dksX4_widerFor_3 14 rfl rfl)
theorem dX4_widerFor_85 : decode cX4_widerFor 85 = .ok (.isub, 1) := dk_100 (dk_at dksX4_widerFor_3 15 rfl rfl)
theorem dX4_widerFor_86 : decode cX4_widerFor 86 = .ok (.iload 4, 2) := dk_21 4 (dk_at dksX4_widerFor_3 16 rfl rfl)
theorem dX4_widerFor_88 : decode cX4_widerFor 88 = .ok (.iadd, 1) := dk_96 (dk_at dksX4_widerFor_3 18 rfl rfl)
theorem dX4_widerFor_89 : decode cX4_widerFor 89 = .ok (.aload_n 0, 1) := dk_42 (dk_at dksX4_widerFor_3 19 rfl rfl)
theorem dX4_widerFor_90 : decode cX4_widerFor 90 = .ok (.getfield 23, 3) := dk_180 0 23 (dk_at dksX4_widerFor_3 20 rfl rfl)
theorem dX4_widerFor_93 : decode cX4_widerFor 93 = .ok (.iload_n 1, 1) := dk_27 (dk_at dksX4_widerFor_3 23 rfl rfl)
theorem dX4_widerFor_94 : decode cX4_widerFor 94 = .ok (.iaload, 1) := dk_46 (dk_at dksX4_widerFor_4 0 rfl rfl)
theorem dX4_widerFor_95 : decode cX4_widerFor 95 = .ok (.isub, 1) := dk_100 (dk_at dksX4_widerFor_4 1 rfl rfl)
theorem dX4_widerFor_96 : decode cX4_widerFor 96 = .ok (.ireturn, 1) := dk_172 (dk_at dksX4_widerFor_4 2 rfl rfl)
abbrev cX4_bargain : ByteArray := prog_14_method_89_code
def yX4_bargain : MethodName := ⟨RX4, "bargain", "()I"⟩
def dkwX4_bargain_6 : List UInt8 := [132, 5, 1, 167, 255, 157, 132, 4, 1, 167, 255, 139, 28, 172]
abbrev dktX4_bargain_6 : List UInt8 := dkwX4_bargain_6 ++ []
def dkwX4_bargain_5 : List UInt8 := [54, 6, 21, 6, 29, 163, 0, 6, 167, 0, 15, 16, 100, 21, 4, 104, 21, 5, 96, 61, 21, 6, 62]
abbrev dktX4_bargain_5 : List UInt8 := dkwX4_bargain_5 ++ dktX4_bargain_6
def dkwX4_bargain_4 : List UInt8 := [159, 0, 6, 167, 0, 44, 42, 27, 4, 21, 4, 120, 128, 4, 21, 5, 120, 128, 182, 1, 65, 184, 1, 55]
abbrev dktX4_bargain_4 : List UInt8 := dkwX4_bargain_4 ++ dktX4_bargain_5
def dkwX4_bargain_3 : List UInt8 := [160, 0, 69, 42, 180, 0, 90, 21, 4, 46, 4, 160, 0, 58, 42, 180, 0, 90, 21, 5, 46, 4]
abbrev dktX4_bargain_3 : List UInt8 := dkwX4_bargain_3 ++ dktX4_bargain_4
def dkwX4_bargain_2 : List UInt8 := [180, 1, 21, 162, 0, 96, 42, 180, 0, 13, 21, 4, 46, 154, 0, 80, 42, 180, 0, 13, 21, 5, 46, 4]
abbrev dktX4_bargain_2 : List UInt8 := dkwX4_bargain_2 ++ dktX4_bargain_3
def dkwX4_bargain_1 : List UInt8 := [184, 1, 55, 62, 3, 54, 4, 21, 4, 42, 180, 1, 21, 162, 0, 114, 3, 54, 5, 21, 5, 42]
abbrev dktX4_bargain_1 : List UInt8 := dkwX4_bargain_1 ++ dktX4_bargain_2
def dkwX4_bargain_0 : List UInt8 := [42, 3, 181, 0, 120, 42, 42, 180, 0, 90, 3, 182, 1, 61, 60, 2, 61, 42, 27, 182, 1, 65]
abbrev dktX4_bargain_0 : List UInt8 := dkwX4_bargain_0 ++ dktX4_bargain_1
theorem dksX4_bargain_0 : cX4_bargain.data.toList.drop 0 = dktX4_bargain_0 := by decide +kernel
theorem dksX4_bargain_1 : cX4_bargain.data.toList.drop 22 = dktX4_bargain_1 := dk_seg dksX4_bargain_0 22 rfl rfl
theorem dksX4_bargain_2 : cX4_bargain.data.toList.drop 44 = dktX4_bargain_2 := dk_seg dksX4_bargain_1 22 rfl rfl
theorem dksX4_bargain_3 : cX4_bargain.data.toList.drop 68 = dktX4_bargain_3 := dk_seg dksX4_bargain_2 24 rfl rfl
theorem dksX4_bargain_4 : cX4_bargain.data.toList.drop 90 = dktX4_bargain_4 := dk_seg dksX4_bargain_3 22 rfl rfl
theorem dksX4_bargain_5 : cX4_bargain.data.toList.drop 114 = dktX4_bargain_5 := dk_seg dksX4_bargain_4 24 rfl rfl
theorem dksX4_bargain_6 : cX4_bargain.data.toList.drop 137 = dktX4_bargain_6 := dk_seg dksX4_bargain_5 23 rfl rfl
theorem dX4_bargain_0 : decode cX4_bargain 0 = .ok (.aload_n 0, 1) := dk_42 (dk_at dksX4_bargain_0 0 rfl rfl)
theorem dX4_bargain_1 : decode cX4_bargain 1 = .ok (.iconst 0, 1) := dk_3 (dk_at dksX4_bargain_0 1 rfl rfl)
theorem dX4_bargain_2 : decode cX4_bargain 2 = .ok (.putfield 120, 3) := dk_181 0 120 (dk_at dksX4_bargain_0 2 rfl rfl)
theorem dX4_bargain_5 : decode cX4_bargain 5 = .ok (.aload_n 0, 1) := dk_42 (dk_at dksX4_bargain_0 5 rfl rfl)
theorem dX4_bargain_6 : decode cX4_bargain 6 = .ok (.aload_n 0, 1) := dk_42 (dk_at dksX4_bargain_0 6 rfl rfl)
theorem dX4_bargain_7 : decode cX4_bargain 7 = .ok (.getfield 90, 3) := dk_180 0 90 (dk_at dksX4_bargain_0 7 rfl rfl)
theorem dX4_bargain_10 : decode cX4_bargain 10 = .ok (.iconst 0, 1) := dk_3 (dk_at dksX4_bargain_0 10 rfl rfl)
theorem dX4_bargain_11 : decode cX4_bargain 11 = .ok (.invokevirtual 317, 3) := dk_182 1 61 (dk_at dksX4_bargain_0 11 rfl rfl)
theorem dX4_bargain_14 : decode cX4_bargain 14 = .ok (.istore_n 1, 1) := dk_60 (dk_at dksX4_bargain_0 14 rfl rfl)
theorem dX4_bargain_15 : decode cX4_bargain 15 = .ok (.iconst (-1), 1) := dk_2 (dk_at dksX4_bargain_0 15 rfl rfl)
theorem dX4_bargain_16 : decode cX4_bargain 16 = .ok (.istore_n 2, 1) := dk_61 (dk_at dksX4_bargain_0 16 rfl rfl)
theorem dX4_bargain_17 : decode cX4_bargain 17 = .ok (.aload_n 0, 1) := dk_42 (dk_at dksX4_bargain_0 17 rfl rfl)
theorem dX4_bargain_18 : decode cX4_bargain 18 = .ok (.iload_n 1, 1) := dk_27 (dk_at dksX4_bargain_0 18 rfl rfl)
theorem dX4_bargain_19 : decode cX4_bargain 19 = .ok (.invokevirtual 321, 3) := dk_182 1 65 (dk_at dksX4_bargain_0 19 rfl rfl)
theorem dX4_bargain_22 : decode cX4_bargain 22 = .ok (.invokestatic 311, 3) := dk_184 1 55 (dk_at dksX4_bargain_1 0 rfl rfl)
theorem dX4_bargain_25 : decode cX4_bargain 25 = .ok (.istore_n 3, 1) := dk_62 (dk_at dksX4_bargain_1 3 rfl rfl)
theorem dX4_bargain_26 : decode cX4_bargain 26 = .ok (.iconst 0, 1) := dk_3 (dk_at dksX4_bargain_1 4 rfl rfl)
theorem dX4_bargain_27 : decode cX4_bargain 27 = .ok (.istore 4, 2) := dk_54 4 (dk_at dksX4_bargain_1 5 rfl rfl)
theorem dX4_bargain_29 : decode cX4_bargain 29 = .ok (.iload 4, 2) := dk_21 4 (dk_at dksX4_bargain_1 7 rfl rfl)
theorem dX4_bargain_31 : decode cX4_bargain 31 = .ok (.aload_n 0, 1) := dk_42 (dk_at dksX4_bargain_1 9 rfl rfl)
theorem dX4_bargain_32 : decode cX4_bargain 32 = .ok (.getfield 277, 3) := dk_180 1 21 (dk_at dksX4_bargain_1 10 rfl rfl)
theorem dX4_bargain_35 : decode cX4_bargain 35 = .ok (.if_icmp .ge 114, 3) := dk_162 0 114 (dk_at dksX4_bargain_1 13 rfl rfl)
theorem dX4_bargain_38 : decode cX4_bargain 38 = .ok (.iconst 0, 1) := dk_3 (dk_at dksX4_bargain_1 16 rfl rfl)
theorem dX4_bargain_39 : decode cX4_bargain 39 = .ok (.istore 5, 2) := dk_54 5 (dk_at dksX4_bargain_1 17 rfl rfl)
theorem dX4_bargain_41 : decode cX4_bargain 41 = .ok (.iload 5, 2) := dk_21 5 (dk_at dksX4_bargain_1 19 rfl rfl)
theorem dX4_bargain_43 : decode cX4_bargain 43 = .ok (.aload_n 0, 1) := dk_42 (dk_at dksX4_bargain_1 21 rfl rfl)
theorem dX4_bargain_44 : decode cX4_bargain 44 = .ok (.getfield 277, 3) := dk_180 1 21 (dk_at dksX4_bargain_2 0 rfl rfl)
theorem dX4_bargain_47 : decode cX4_bargain 47 = .ok (.if_icmp .ge 96, 3) := dk_162 0 96 (dk_at dksX4_bargain_2 3 rfl rfl)
theorem dX4_bargain_50 : decode cX4_bargain 50 = .ok (.aload_n 0, 1) := dk_42 (dk_at dksX4_bargain_2 6 rfl rfl)
theorem dX4_bargain_51 : decode cX4_bargain 51 = .ok (.getfield 13, 3) := dk_180 0 13 (dk_at dksX4_bargain_2 7 rfl rfl)
theorem dX4_bargain_54 : decode cX4_bargain 54 = .ok (.iload 4, 2) := dk_21 4 (dk_at dksX4_bargain_2 10 rfl rfl)
theorem dX4_bargain_56 : decode cX4_bargain 56 = .ok (.iaload, 1) := dk_46 (dk_at dksX4_bargain_2 12 rfl rfl)
theorem dX4_bargain_57 : decode cX4_bargain 57 = .ok (.ifCond .ne 80, 3) := dk_154 0 80 (dk_at dksX4_bargain_2 13 rfl rfl)
theorem dX4_bargain_60 : decode cX4_bargain 60 = .ok (.aload_n 0, 1) := dk_42 (dk_at dksX4_bargain_2 16 rfl rfl)
theorem dX4_bargain_61 : decode cX4_bargain 61 = .ok (.getfield 13, 3) := dk_180 0 13 (dk_at dksX4_bargain_2 17 rfl rfl)
theorem dX4_bargain_64 : decode cX4_bargain 64 = .ok (.iload 5, 2) := dk_21 5 (dk_at dksX4_bargain_2 20 rfl rfl)
theorem dX4_bargain_66 : decode cX4_bargain 66 = .ok (.iaload, 1) := dk_46 (dk_at dksX4_bargain_2 22 rfl rfl)
theorem dX4_bargain_67 : decode cX4_bargain 67 = .ok (.iconst 1, 1) := dk_4 (dk_at dksX4_bargain_2 23 rfl rfl)
theorem dX4_bargain_68 : decode cX4_bargain 68 = .ok (.if_icmp .ne 69, 3) := dk_160 0 69 (dk_at dksX4_bargain_3 0 rfl rfl)
theorem dX4_bargain_71 : decode cX4_bargain 71 = .ok (.aload_n 0, 1) := dk_42 (dk_at dksX4_bargain_3 3 rfl rfl)
theorem dX4_bargain_72 : decode cX4_bargain 72 = .ok (.getfield 90, 3) := dk_180 0 90 (dk_at dksX4_bargain_3 4 rfl rfl)
theorem dX4_bargain_75 : decode cX4_bargain 75 = .ok (.iload 4, 2) := dk_21 4 (dk_at dksX4_bargain_3 7 rfl rfl)
theorem dX4_bargain_77 : decode cX4_bargain 77 = .ok (.iaload, 1) := dk_46 (dk_at dksX4_bargain_3 9 rfl rfl)
theorem dX4_bargain_78 : decode cX4_bargain 78 = .ok (.iconst 1, 1) := dk_4 (dk_at dksX4_bargain_3 10 rfl rfl)
theorem dX4_bargain_79 : decode cX4_bargain 79 = .ok (.if_icmp .ne 58, 3) := dk_160 0 58 (dk_at dksX4_bargain_3 11 rfl rfl)
theorem dX4_bargain_82 : decode cX4_bargain 82 = .ok (.aload_n 0, 1) := dk_42 (dk_at dksX4_bargain_3 14 rfl rfl)
theorem dX4_bargain_83 : decode cX4_bargain 83 = .ok (.getfield 90, 3) := dk_180 0 90 (dk_at dksX4_bargain_3 15 rfl rfl)
theorem dX4_bargain_86 : decode cX4_bargain 86 = .ok (.iload 5, 2) := dk_21 5 (dk_at dksX4_bargain_3 18 rfl rfl)
theorem dX4_bargain_88 : decode cX4_bargain 88 = .ok (.iaload, 1) := dk_46 (dk_at dksX4_bargain_3 20 rfl rfl)
theorem dX4_bargain_89 : decode cX4_bargain 89 = .ok (.iconst 1, 1) := dk_4 (dk_at dksX4_bargain_3 21 rfl rfl)
theorem dX4_bargain_90 : decode cX4_bargain 90 = .ok (.if_icmp .eq 6, 3) := dk_159 0 6 (dk_at dksX4_bargain_4 0 rfl rfl)
theorem dX4_bargain_93 : decode cX4_bargain 93 = .ok (.goto 44, 3) := dk_167 0 44 (dk_at dksX4_bargain_4 3 rfl rfl)
theorem dX4_bargain_96 : decode cX4_bargain 96 = .ok (.aload_n 0, 1) := dk_42 (dk_at dksX4_bargain_4 6 rfl rfl)
theorem dX4_bargain_97 : decode cX4_bargain 97 = .ok (.iload_n 1, 1) := dk_27 (dk_at dksX4_bargain_4 7 rfl rfl)
theorem dX4_bargain_98 : decode cX4_bargain 98 = .ok (.iconst 1, 1) := dk_4 (dk_at dksX4_bargain_4 8 rfl rfl)
theorem dX4_bargain_99 : decode cX4_bargain 99 = .ok (.iload 4, 2) := dk_21 4 (dk_at dksX4_bargain_4 9 rfl rfl)
theorem dX4_bargain_101 : decode cX4_bargain 101 = .ok (.ishl, 1) := dk_120 (dk_at dksX4_bargain_4 11 rfl rfl)
theorem dX4_bargain_102 : decode cX4_bargain 102 = .ok (.ior, 1) := dk_128 (dk_at dksX4_bargain_4 12 rfl rfl)
theorem dX4_bargain_103 : decode cX4_bargain 103 = .ok (.iconst 1, 1) := dk_4 (dk_at dksX4_bargain_4 13 rfl rfl)
theorem dX4_bargain_104 : decode cX4_bargain 104 = .ok (.iload 5, 2) := dk_21 5 (dk_at dksX4_bargain_4 14 rfl rfl)
theorem dX4_bargain_106 : decode cX4_bargain 106 = .ok (.ishl, 1) := dk_120 (dk_at dksX4_bargain_4 16 rfl rfl)
theorem dX4_bargain_107 : decode cX4_bargain 107 = .ok (.ior, 1) := dk_128 (dk_at dksX4_bargain_4 17 rfl rfl)
theorem dX4_bargain_108 : decode cX4_bargain 108 = .ok (.invokevirtual 321, 3) := dk_182 1 65 (dk_at dksX4_bargain_4 18 rfl rfl)
theorem dX4_bargain_111 : decode cX4_bargain 111 = .ok (.invokestatic 311, 3) := dk_184 1 55 (dk_at dksX4_bargain_4 21 rfl rfl)
theorem dX4_bargain_114 : decode cX4_bargain 114 = .ok (.istore 6, 2) := dk_54 6 (dk_at dksX4_bargain_5 0 rfl rfl)
theorem dX4_bargain_116 : decode cX4_bargain 116 = .ok (.iload 6, 2) := dk_21 6 (dk_at dksX4_bargain_5 2 rfl rfl)
theorem dX4_bargain_118 : decode cX4_bargain 118 = .ok (.iload_n 3, 1) := dk_29 (dk_at dksX4_bargain_5 4 rfl rfl)
theorem dX4_bargain_119 : decode cX4_bargain 119 = .ok (.if_icmp .gt 6, 3) := dk_163 0 6 (dk_at dksX4_bargain_5 5 rfl rfl)
theorem dX4_bargain_122 : decode cX4_bargain 122 = .ok (.goto 15, 3) := dk_167 0 15 (dk_at dksX4_bargain_5 8 rfl rfl)
theorem dX4_bargain_125 : decode cX4_bargain 125 = .ok (.bipush 100, 2) := dk_16 100 (dk_at dksX4_bargain_5 11 rfl rfl)
theorem dX4_bargain_127 : decode cX4_bargain 127 = .ok (.iload 4, 2) := dk_21 4 (dk_at dksX4_bargain_5 13 rfl rfl)
theorem dX4_bargain_129 : decode cX4_bargain 129 = .ok (.imul, 1) := dk_104 (dk_at dksX4_bargain_5 15 rfl rfl)
theorem dX4_bargain_130 : decode cX4_bargain 130 = .ok (.iload 5, 2) := dk_21 5 (dk_at dksX4_bargain_5 16 rfl rfl)
theorem dX4_bargain_132 : decode cX4_bargain 132 = .ok (.iadd, 1) := dk_96 (dk_at dksX4_bargain_5 18 rfl rfl)
theorem dX4_bargain_133 : decode cX4_bargain 133 = .ok (.istore_n 2, 1) := dk_61 (dk_at dksX4_bargain_5 19 rfl rfl)
theorem dX4_bargain_134 : decode cX4_bargain 134 = .ok (.iload 6, 2) := dk_21 6 (dk_at dksX4_bargain_5 20 rfl rfl)
theorem dX4_bargain_136 : decode cX4_bargain 136 = .ok (.istore_n 3, 1) := dk_62 (dk_at dksX4_bargain_5 22 rfl rfl)
theorem dX4_bargain_137 : decode cX4_bargain 137 = .ok (.iinc 5 1, 3) := dk_132 5 1 (dk_at dksX4_bargain_6 0 rfl rfl)
theorem dX4_bargain_140 : decode cX4_bargain 140 = .ok (.goto (-99), 3) := dk_167 255 157 (dk_at dksX4_bargain_6 3 rfl rfl)
theorem dX4_bargain_143 : decode cX4_bargain 143 = .ok (.iinc 4 1, 3) := dk_132 4 1 (dk_at dksX4_bargain_6 6 rfl rfl)
theorem dX4_bargain_146 : decode cX4_bargain 146 = .ok (.goto (-117), 3) := dk_167 255 139 (dk_at dksX4_bargain_6 9 rfl rfl)
theorem dX4_bargain_149 : decode cX4_bargain 149 = .ok (.iload_n 2, 1) := dk_28 (dk_at dksX4_bargain_6 12 rfl rfl)
theorem dX4_bargain_150 : decode cX4_bargain 150 = .ok (.ireturn, 1) := dk_172 (dk_at dksX4_bargain_6 13 rfl rfl)
abbrev cX4_casts : ByteArray := prog_14_method_90_code
def yX4_casts : MethodName := ⟨RX4, "casts", "(I)J"⟩
def dkwX4_casts_5 : List UInt8 := [132, 7, 1, 167, 255, 235, 132, 5, 1, 167, 255, 173, 33, 173]
abbrev dktX4_casts_5 : List UInt8 := dkwX4_casts_5 ++ []
def dkwX4_casts_4 : List UInt8 := [167, 255, 232, 5, 54, 7, 21, 7, 42, 180, 0, 29, 21, 5, 46, 163, 0, 15, 33, 21, 7, 133, 109, 66]
abbrev dktX4_casts_4 : List UInt8 := dkwX4_casts_4 ++ dktX4_casts_5
def dkwX4_casts_3 : List UInt8 := [42, 180, 0, 29, 21, 5, 46, 162, 0, 18, 33, 21, 6, 21, 7, 100, 133, 105, 66, 132, 7, 1]
abbrev dktX4_casts_3 : List UInt8 := dkwX4_casts_3 ++ dktX4_casts_4
def dkwX4_casts_2 : List UInt8 := [104, 7, 96, 162, 0, 79, 42, 28, 21, 5, 3, 182, 1, 51, 184, 1, 55, 54, 6, 3, 54, 7, 21, 7]
abbrev dktX4_casts_2 : List UInt8 := dkwX4_casts_2 ++ dktX4_casts_3
def dkwX4_casts_1 : List UInt8 := [61, 42, 28, 27, 3, 182, 1, 58, 154, 0, 5, 9, 173, 10, 66, 7, 27, 104, 54, 5, 21, 5, 7, 27]
abbrev dktX4_casts_1 : List UInt8 := dkwX4_casts_1 ++ dktX4_casts_2
def dkwX4_casts_0 : List UInt8 := [42, 3, 181, 0, 120, 42, 27, 182, 1, 75, 154, 0, 5, 9, 173, 42, 42, 180, 0, 90, 3, 182, 1, 61]
abbrev dktX4_casts_0 : List UInt8 := dkwX4_casts_0 ++ dktX4_casts_1
theorem dksX4_casts_0 : cX4_casts.data.toList.drop 0 = dktX4_casts_0 := by decide +kernel
theorem dksX4_casts_1 : cX4_casts.data.toList.drop 24 = dktX4_casts_1 := dk_seg dksX4_casts_0 24 rfl rfl
theorem dksX4_casts_2 : cX4_casts.data.toList.drop 48 = dktX4_casts_2 := dk_seg dksX4_casts_1 24 rfl rfl
theorem dksX4_casts_3 : cX4_casts.data.toList.drop 72 = dktX4_casts_3 := dk_seg dksX4_casts_2 24 rfl rfl
theorem dksX4_casts_4 : cX4_casts.data.toList.drop 94 = dktX4_casts_4 := dk_seg dksX4_casts_3 22 rfl rfl
theorem dksX4_casts_5 : cX4_casts.data.toList.drop 118 = dktX4_casts_5 := dk_seg dksX4_casts_4 24 rfl rfl
theorem dX4_casts_0 : decode cX4_casts 0 = .ok (.aload_n 0, 1) := dk_42 (dk_at dksX4_casts_0 0 rfl rfl)
theorem dX4_casts_1 : decode cX4_casts 1 = .ok (.iconst 0, 1) := dk_3 (dk_at dksX4_casts_0 1 rfl rfl)
theorem dX4_casts_2 : decode cX4_casts 2 = .ok (.putfield 120, 3) := dk_181 0 120 (dk_at dksX4_casts_0 2 rfl rfl)
theorem dX4_casts_5 : decode cX4_casts 5 = .ok (.aload_n 0, 1) := dk_42 (dk_at dksX4_casts_0 5 rfl rfl)
theorem dX4_casts_6 : decode cX4_casts 6 = .ok (.iload_n 1, 1) := dk_27 (dk_at dksX4_casts_0 6 rfl rfl)
theorem dX4_casts_7 : decode cX4_casts 7 = .ok (.invokevirtual 331, 3) := dk_182 1 75 (dk_at dksX4_casts_0 7 rfl rfl)
theorem dX4_casts_10 : decode cX4_casts 10 = .ok (.ifCond .ne 5, 3) := dk_154 0 5 (dk_at dksX4_casts_0 10 rfl rfl)
theorem dX4_casts_13 : decode cX4_casts 13 = .ok (.lconst 0, 1) := dk_9 (dk_at dksX4_casts_0 13 rfl rfl)
theorem dX4_casts_14 : decode cX4_casts 14 = .ok (.lreturn, 1) := dk_173 (dk_at dksX4_casts_0 14 rfl rfl)
theorem dX4_casts_15 : decode cX4_casts 15 = .ok (.aload_n 0, 1) := dk_42 (dk_at dksX4_casts_0 15 rfl rfl)
theorem dX4_casts_16 : decode cX4_casts 16 = .ok (.aload_n 0, 1) := dk_42 (dk_at dksX4_casts_0 16 rfl rfl)
theorem dX4_casts_17 : decode cX4_casts 17 = .ok (.getfield 90, 3) := dk_180 0 90 (dk_at dksX4_casts_0 17 rfl rfl)
theorem dX4_casts_20 : decode cX4_casts 20 = .ok (.iconst 0, 1) := dk_3 (dk_at dksX4_casts_0 20 rfl rfl)
theorem dX4_casts_21 : decode cX4_casts 21 = .ok (.invokevirtual 317, 3) := dk_182 1 61 (dk_at dksX4_casts_0 21 rfl rfl)
theorem dX4_casts_24 : decode cX4_casts 24 = .ok (.istore_n 2, 1) := dk_61 (dk_at dksX4_casts_1 0 rfl rfl)
theorem dX4_casts_25 : decode cX4_casts 25 = .ok (.aload_n 0, 1) := dk_42 (dk_at dksX4_casts_1 1 rfl rfl)
theorem dX4_casts_26 : decode cX4_casts 26 = .ok (.iload_n 2, 1) := dk_28 (dk_at dksX4_casts_1 2 rfl rfl)
theorem dX4_casts_27 : decode cX4_casts 27 = .ok (.iload_n 1, 1) := dk_27 (dk_at dksX4_casts_1 3 rfl rfl)
theorem dX4_casts_28 : decode cX4_casts 28 = .ok (.iconst 0, 1) := dk_3 (dk_at dksX4_casts_1 4 rfl rfl)
theorem dX4_casts_29 : decode cX4_casts 29 = .ok (.invokevirtual 314, 3) := dk_182 1 58 (dk_at dksX4_casts_1 5 rfl rfl)
theorem dX4_casts_32 : decode cX4_casts 32 = .ok (.ifCond .ne 5, 3) := dk_154 0 5 (dk_at dksX4_casts_1 8 rfl rfl)
theorem dX4_casts_35 : decode cX4_casts 35 = .ok (.lconst 0, 1) := dk_9 (dk_at dksX4_casts_1 11 rfl rfl)
theorem dX4_casts_36 : decode cX4_casts 36 = .ok (.lreturn, 1) := dk_173 (dk_at dksX4_casts_1 12 rfl rfl)
theorem dX4_casts_37 : decode cX4_casts 37 = .ok (.lconst 1, 1) := dk_10 (dk_at dksX4_casts_1 13 rfl rfl)
theorem dX4_casts_38 : decode cX4_casts 38 = .ok (.lstore_n 3, 1) := dk_66 (dk_at dksX4_casts_1 14 rfl rfl)
theorem dX4_casts_39 : decode cX4_casts 39 = .ok (.iconst 4, 1) := dk_7 (dk_at dksX4_casts_1 15 rfl rfl)
theorem dX4_casts_40 : decode cX4_casts 40 = .ok (.iload_n 1, 1) := dk_27 (dk_at dksX4_casts_1 16 rfl rfl)
theorem dX4_casts_41 : decode cX4_casts 41 = .ok (.imul, 1) := dk_104 (dk_at dksX4_casts_1 17 rfl rfl)
theorem dX4_casts_42 : decode cX4_casts 42 = .ok (.istore 5, 2) := dk_54 5 (dk_at dksX4_casts_1 18 rfl rfl)
theorem dX4_casts_44 : decode cX4_casts 44 = .ok (.iload 5, 2) := dk_21 5 (dk_at dksX4_casts_1 20 rfl rfl)
theorem dX4_casts_46 : decode cX4_casts 46 = .ok (.iconst 4, 1) := dk_7 (dk_at dksX4_casts_1 22 rfl rfl)
theorem dX4_casts_47 : decode cX4_casts 47 = .ok (.iload_n 1, 1) := dk_27 (dk_at dksX4_casts_1 23 rfl rfl)
theorem dX4_casts_48 : decode cX4_casts 48 = .ok (.imul, 1) := dk_104 (dk_at dksX4_casts_2 0 rfl rfl)
theorem dX4_casts_49 : decode cX4_casts 49 = .ok (.iconst 4, 1) := dk_7 (dk_at dksX4_casts_2 1 rfl rfl)
theorem dX4_casts_50 : decode cX4_casts 50 = .ok (.iadd, 1) := dk_96 (dk_at dksX4_casts_2 2 rfl rfl)
theorem dX4_casts_51 : decode cX4_casts 51 = .ok (.if_icmp .ge 79, 3) := dk_162 0 79 (dk_at dksX4_casts_2 3 rfl rfl)
theorem dX4_casts_54 : decode cX4_casts 54 = .ok (.aload_n 0, 1) := dk_42 (dk_at dksX4_casts_2 6 rfl rfl)
theorem dX4_casts_55 : decode cX4_casts 55 = .ok (.iload_n 2, 1) := dk_28 (dk_at dksX4_casts_2 7 rfl rfl)
theorem dX4_casts_56 : decode cX4_casts 56 = .ok (.iload 5, 2) := dk_21 5 (dk_at dksX4_casts_2 8 rfl rfl)
theorem dX4_casts_58 : decode cX4_casts 58 = .ok (.iconst 0, 1) := dk_3 (dk_at dksX4_casts_2 10 rfl rfl)
theorem dX4_casts_59 : decode cX4_casts 59 = .ok (.invokevirtual 307, 3) := dk_182 1 51 (dk_at dksX4_casts_2 11 rfl rfl)
theorem dX4_casts_62 : decode cX4_casts 62 = .ok (.invokestatic 311, 3) := dk_184 1 55 (dk_at dksX4_casts_2 14 rfl rfl)
theorem dX4_casts_65 : decode cX4_casts 65 = .ok (.istore 6, 2) := dk_54 6 (dk_at dksX4_casts_2 17 rfl rfl)
theorem dX4_casts_67 : decode cX4_casts 67 = .ok (.iconst 0, 1) := dk_3 (dk_at dksX4_casts_2 19 rfl rfl)
theorem dX4_casts_68 : decode cX4_casts 68 = .ok (.istore 7, 2) := dk_54 7 (dk_at dksX4_casts_2 20 rfl rfl)
theorem dX4_casts_70 : decode cX4_casts 70 = .ok (.iload 7, 2) := dk_21 7 (dk_at dksX4_casts_2 22 rfl rfl)
theorem dX4_casts_72 : decode cX4_casts 72 = .ok (.aload_n 0, 1) := dk_42 (dk_at dksX4_casts_3 0 rfl rfl)
theorem dX4_casts_73 : decode cX4_casts 73 = .ok (.getfield 29, 3) := dk_180 0 29 (dk_at dksX4_casts_3 1 rfl rfl)
theorem dX4_casts_76 : decode cX4_casts 76 = .ok (.iload 5, 2) := dk_21 5 (dk_at dksX4_casts_3 4 rfl rfl)
theorem dX4_casts_78 : decode cX4_casts 78 = .ok (.iaload, 1) := dk_46 (dk_at dksX4_casts_3 6 rfl rfl)
theorem dX4_casts_79 : decode cX4_casts 79 = .ok (.if_icmp .ge 18, 3) := dk_162 0 18 (dk_at dksX4_casts_3 7 rfl rfl)
theorem dX4_casts_82 : decode cX4_casts 82 = .ok (.lload_n 3, 1) := dk_33 (dk_at dksX4_casts_3 10 rfl rfl)
theorem dX4_casts_83 : decode cX4_casts 83 = .ok (.iload 6, 2) := dk_21 6 (dk_at dksX4_casts_3 11 rfl rfl)
theorem dX4_casts_85 : decode cX4_casts 85 = .ok (.iload 7, 2) := dk_21 7 (dk_at dksX4_casts_3 13 rfl rfl)
theorem dX4_casts_87 : decode cX4_casts 87 = .ok (.isub, 1) := dk_100 (dk_at dksX4_casts_3 15 rfl rfl)
theorem dX4_casts_88 : decode cX4_casts 88 = .ok (.i2l, 1) := dk_133 (dk_at dksX4_casts_3 16 rfl rfl)
theorem dX4_casts_89 : decode cX4_casts 89 = .ok (.lmul, 1) := dk_105 (dk_at dksX4_casts_3 17 rfl rfl)
theorem dX4_casts_90 : decode cX4_casts 90 = .ok (.lstore_n 3, 1) := dk_66 (dk_at dksX4_casts_3 18 rfl rfl)
theorem dX4_casts_91 : decode cX4_casts 91 = .ok (.iinc 7 1, 3) := dk_132 7 1 (dk_at dksX4_casts_3 19 rfl rfl)
theorem dX4_casts_94 : decode cX4_casts 94 = .ok (.goto (-24), 3) := dk_167 255 232 (dk_at dksX4_casts_4 0 rfl rfl)
theorem dX4_casts_97 : decode cX4_casts 97 = .ok (.iconst 2, 1) := dk_5 (dk_at dksX4_casts_4 3 rfl rfl)
theorem dX4_casts_98 : decode cX4_casts 98 = .ok (.istore 7, 2) := dk_54 7 (dk_at dksX4_casts_4 4 rfl rfl)
theorem dX4_casts_100 : decode cX4_casts 100 = .ok (.iload 7, 2) := dk_21 7 (dk_at dksX4_casts_4 6 rfl rfl)
theorem dX4_casts_102 : decode cX4_casts 102 = .ok (.aload_n 0, 1) := dk_42 (dk_at dksX4_casts_4 8 rfl rfl)
theorem dX4_casts_103 : decode cX4_casts 103 = .ok (.getfield 29, 3) := dk_180 0 29 (dk_at dksX4_casts_4 9 rfl rfl)
theorem dX4_casts_106 : decode cX4_casts 106 = .ok (.iload 5, 2) := dk_21 5 (dk_at dksX4_casts_4 12 rfl rfl)
theorem dX4_casts_108 : decode cX4_casts 108 = .ok (.iaload, 1) := dk_46 (dk_at dksX4_casts_4 14 rfl rfl)
theorem dX4_casts_109 : decode cX4_casts 109 = .ok (.if_icmp .gt 15, 3) := dk_163 0 15 (dk_at dksX4_casts_4 15 rfl rfl)
theorem dX4_casts_112 : decode cX4_casts 112 = .ok (.lload_n 3, 1) := dk_33 (dk_at dksX4_casts_4 18 rfl rfl)
theorem dX4_casts_113 : decode cX4_casts 113 = .ok (.iload 7, 2) := dk_21 7 (dk_at dksX4_casts_4 19 rfl rfl)
theorem dX4_casts_115 : decode cX4_casts 115 = .ok (.i2l, 1) := dk_133 (dk_at dksX4_casts_4 21 rfl rfl)
theorem dX4_casts_116 : decode cX4_casts 116 = .ok (.ldiv, 1) := dk_109 (dk_at dksX4_casts_4 22 rfl rfl)
theorem dX4_casts_117 : decode cX4_casts 117 = .ok (.lstore_n 3, 1) := dk_66 (dk_at dksX4_casts_4 23 rfl rfl)
theorem dX4_casts_118 : decode cX4_casts 118 = .ok (.iinc 7 1, 3) := dk_132 7 1 (dk_at dksX4_casts_5 0 rfl rfl)
theorem dX4_casts_121 : decode cX4_casts 121 = .ok (.goto (-21), 3) := dk_167 255 235 (dk_at dksX4_casts_5 3 rfl rfl)
theorem dX4_casts_124 : decode cX4_casts 124 = .ok (.iinc 5 1, 3) := dk_132 5 1 (dk_at dksX4_casts_5 6 rfl rfl)
theorem dX4_casts_127 : decode cX4_casts 127 = .ok (.goto (-83), 3) := dk_167 255 173 (dk_at dksX4_casts_5 9 rfl rfl)
theorem dX4_casts_130 : decode cX4_casts 130 = .ok (.lload_n 3, 1) := dk_33 (dk_at dksX4_casts_5 12 rfl rfl)
theorem dX4_casts_131 : decode cX4_casts 131 = .ok (.lreturn, 1) := dk_173 (dk_at dksX4_casts_5 13 rfl rfl)
abbrev cX4_holds : ByteArray := prog_14_method_91_code
def yX4_holds : MethodName := ⟨RX4, "holds", "(I)Z"⟩
def dkwX4_holds_1 : List UInt8 := [153, 0, 7, 4, 167, 0, 4, 3, 172]
abbrev dktX4_holds_1 : List UInt8 := dkwX4_holds_1 ++ []
def dkwX4_holds_0 : List UInt8 := [42, 3, 181, 0, 120, 42, 27, 4, 182, 1, 71, 153, 0, 19, 42, 42, 180, 0, 90, 27, 182, 1, 94]
abbrev dktX4_holds_0 : List UInt8 := dkwX4_holds_0 ++ dktX4_holds_1
theorem dksX4_holds_0 : cX4_holds.data.toList.drop 0 = dktX4_holds_0 := by decide +kernel
theorem dksX4_holds_1 : cX4_holds.data.toList.drop 23 = dktX4_holds_1 := dk_seg dksX4_holds_0 23 rfl rfl
theorem dX4_holds_0 : decode cX4_holds 0 = .ok (.aload_n 0, 1) := dk_42 (dk_at dksX4_holds_0 0 rfl rfl)
theorem dX4_holds_1 : decode cX4_holds 1 = .ok (.iconst 0, 1) := dk_3 (dk_at dksX4_holds_0 1 rfl rfl)
theorem dX4_holds_2 : decode cX4_holds 2 = .ok (.putfield 120, 3) := dk_181 0 120 (dk_at dksX4_holds_0 2 rfl rfl)
theorem dX4_holds_5 : decode cX4_holds 5 = .ok (.aload_n 0, 1) := dk_42 (dk_at dksX4_holds_0 5 rfl rfl)
theorem dX4_holds_6 : decode cX4_holds 6 = .ok (.iload_n 1, 1) := dk_27 (dk_at dksX4_holds_0 6 rfl rfl)
theorem dX4_holds_7 : decode cX4_holds 7 = .ok (.iconst 1, 1) := dk_4 (dk_at dksX4_holds_0 7 rfl rfl)
theorem dX4_holds_8 : decode cX4_holds 8 = .ok (.invokevirtual 327, 3) := dk_182 1 71 (dk_at dksX4_holds_0 8 rfl rfl)
theorem dX4_holds_11 : decode cX4_holds 11 = .ok (.ifCond .eq 19, 3) := dk_153 0 19 (dk_at dksX4_holds_0 11 rfl rfl)
theorem dX4_holds_14 : decode cX4_holds 14 = .ok (.aload_n 0, 1) := dk_42 (dk_at dksX4_holds_0 14 rfl rfl)
theorem dX4_holds_15 : decode cX4_holds 15 = .ok (.aload_n 0, 1) := dk_42 (dk_at dksX4_holds_0 15 rfl rfl)
theorem dX4_holds_16 : decode cX4_holds 16 = .ok (.getfield 90, 3) := dk_180 0 90 (dk_at dksX4_holds_0 16 rfl rfl)
theorem dX4_holds_19 : decode cX4_holds 19 = .ok (.iload_n 1, 1) := dk_27 (dk_at dksX4_holds_0 19 rfl rfl)
theorem dX4_holds_20 : decode cX4_holds 20 = .ok (.invokevirtual 350, 3) := dk_182 1 94 (dk_at dksX4_holds_0 20 rfl rfl)
theorem dX4_holds_23 : decode cX4_holds 23 = .ok (.ifCond .eq 7, 3) := dk_153 0 7 (dk_at dksX4_holds_1 0 rfl rfl)
theorem dX4_holds_26 : decode cX4_holds 26 = .ok (.iconst 1, 1) := dk_4 (dk_at dksX4_holds_1 3 rfl rfl)
theorem dX4_holds_27 : decode cX4_holds 27 = .ok (.goto 4, 3) := dk_167 0 4 (dk_at dksX4_holds_1 4 rfl rfl)
theorem dX4_holds_30 : decode cX4_holds 30 = .ok (.iconst 0, 1) := dk_3 (dk_at dksX4_holds_1 7 rfl rfl)
theorem dX4_holds_31 : decode cX4_holds 31 = .ok (.ireturn, 1) := dk_172 (dk_at dksX4_holds_1 8 rfl rfl)
abbrev cX4_aimed : ByteArray := prog_14_method_92_code
def yX4_aimed : MethodName := ⟨RX4, "aimed", "(I)I"⟩
def dkwX4_aimed_1 : List UInt8 := [167, 0, 4, 3, 172]
abbrev dktX4_aimed_1 : List UInt8 := dkwX4_aimed_1 ++ []
def dkwX4_aimed_0 : List UInt8 := [42, 3, 181, 0, 120, 42, 27, 4, 182, 1, 71, 153, 0, 15, 42, 42, 180, 0, 90, 27, 182, 1, 98]
abbrev dktX4_aimed_0 : List UInt8 := dkwX4_aimed_0 ++ dktX4_aimed_1
theorem dksX4_aimed_0 : cX4_aimed.data.toList.drop 0 = dktX4_aimed_0 := by decide +kernel
theorem dksX4_aimed_1 : cX4_aimed.data.toList.drop 23 = dktX4_aimed_1 := dk_seg dksX4_aimed_0 23 rfl rfl
theorem dX4_aimed_0 : decode cX4_aimed 0 = .ok (.aload_n 0, 1) := dk_42 (dk_at dksX4_aimed_0 0 rfl rfl)
theorem dX4_aimed_1 : decode cX4_aimed 1 = .ok (.iconst 0, 1) := dk_3 (dk_at dksX4_aimed_0 1 rfl rfl)
theorem dX4_aimed_2 : decode cX4_aimed 2 = .ok (.putfield 120, 3) := dk_181 0 120 (dk_at dksX4_aimed_0 2 rfl rfl)
theorem dX4_aimed_5 : decode cX4_aimed 5 = .ok (.aload_n 0, 1) := dk_42 (dk_at dksX4_aimed_0 5 rfl rfl)
theorem dX4_aimed_6 : decode cX4_aimed 6 = .ok (.iload_n 1, 1) := dk_27 (dk_at dksX4_aimed_0 6 rfl rfl)
theorem dX4_aimed_7 : decode cX4_aimed 7 = .ok (.iconst 1, 1) := dk_4 (dk_at dksX4_aimed_0 7 rfl rfl)
theorem dX4_aimed_8 : decode cX4_aimed 8 = .ok (.invokevirtual 327, 3) := dk_182 1 71 (dk_at dksX4_aimed_0 8 rfl rfl)
theorem dX4_aimed_11 : decode cX4_aimed 11 = .ok (.ifCond .eq 15, 3) := dk_153 0 15 (dk_at dksX4_aimed_0 11 rfl rfl)
theorem dX4_aimed_14 : decode cX4_aimed 14 = .ok (.aload_n 0, 1) := dk_42 (dk_at dksX4_aimed_0 14 rfl rfl)
theorem dX4_aimed_15 : decode cX4_aimed 15 = .ok (.aload_n 0, 1) := dk_42 (dk_at dksX4_aimed_0 15 rfl rfl)
theorem dX4_aimed_16 : decode cX4_aimed 16 = .ok (.getfield 90, 3) := dk_180 0 90 (dk_at dksX4_aimed_0 16 rfl rfl)
theorem dX4_aimed_19 : decode cX4_aimed 19 = .ok (.iload_n 1, 1) := dk_27 (dk_at dksX4_aimed_0 19 rfl rfl)
theorem dX4_aimed_20 : decode cX4_aimed 20 = .ok (.invokevirtual 354, 3) := dk_182 1 98 (dk_at dksX4_aimed_0 20 rfl rfl)
theorem dX4_aimed_23 : decode cX4_aimed 23 = .ok (.goto 4, 3) := dk_167 0 4 (dk_at dksX4_aimed_1 0 rfl rfl)
theorem dX4_aimed_26 : decode cX4_aimed 26 = .ok (.iconst 0, 1) := dk_3 (dk_at dksX4_aimed_1 3 rfl rfl)
theorem dX4_aimed_27 : decode cX4_aimed 27 = .ok (.ireturn, 1) := dk_172 (dk_at dksX4_aimed_1 4 rfl rfl)
abbrev cX4_held : ByteArray := prog_14_method_93_code
def yX4_held : MethodName := ⟨RX4, "held", "(II)I"⟩
def dkwX4_held_3 : List UInt8 := [167, 0, 4, 3, 96, 62, 42, 42, 180, 0, 93, 182, 1, 107, 87, 132, 4, 1, 167, 255, 218, 29, 172]
abbrev dktX4_held_3 : List UInt8 := dkwX4_held_3 ++ []
def dkwX4_held_2 : List UInt8 := [54, 4, 21, 4, 28, 162, 0, 38, 29, 42, 42, 180, 0, 93, 27, 182, 1, 94, 153, 0, 7, 4]
abbrev dktX4_held_2 : List UInt8 := dkwX4_held_2 ++ dktX4_held_3
def dkwX4_held_1 : List UInt8 := [182, 1, 14, 154, 0, 5, 3, 172, 42, 42, 180, 0, 90, 42, 180, 0, 93, 182, 1, 27, 3, 62, 3]
abbrev dktX4_held_1 : List UInt8 := dkwX4_held_1 ++ dktX4_held_2
def dkwX4_held_0 : List UInt8 := [42, 3, 181, 0, 120, 42, 27, 4, 182, 1, 71, 153, 0, 18, 42, 28, 3, 16, 99, 184, 1, 41, 5]
abbrev dktX4_held_0 : List UInt8 := dkwX4_held_0 ++ dktX4_held_1
theorem dksX4_held_0 : cX4_held.data.toList.drop 0 = dktX4_held_0 := by decide +kernel
theorem dksX4_held_1 : cX4_held.data.toList.drop 23 = dktX4_held_1 := dk_seg dksX4_held_0 23 rfl rfl
theorem dksX4_held_2 : cX4_held.data.toList.drop 46 = dktX4_held_2 := dk_seg dksX4_held_1 23 rfl rfl
theorem dksX4_held_3 : cX4_held.data.toList.drop 68 = dktX4_held_3 := dk_seg dksX4_held_2 22 rfl rfl
theorem dX4_held_0 : decode cX4_held 0 = .ok (.aload_n 0, 1) := dk_42 (dk_at dksX4_held_0 0 rfl rfl)
theorem dX4_held_1 : decode cX4_held 1 = .ok (.iconst 0, 1) := dk_3 (dk_at dksX4_held_0 1 rfl rfl)
theorem dX4_held_2 : decode cX4_held 2 = .ok (.putfield 120, 3) := dk_181 0 120 (dk_at dksX4_held_0 2 rfl rfl)
theorem dX4_held_5 : decode cX4_held 5 = .ok (.aload_n 0, 1) := dk_42 (dk_at dksX4_held_0 5 rfl rfl)
theorem dX4_held_6 : decode cX4_held 6 = .ok (.iload_n 1, 1) := dk_27 (dk_at dksX4_held_0 6 rfl rfl)
theorem dX4_held_7 : decode cX4_held 7 = .ok (.iconst 1, 1) := dk_4 (dk_at dksX4_held_0 7 rfl rfl)
theorem dX4_held_8 : decode cX4_held 8 = .ok (.invokevirtual 327, 3) := dk_182 1 71 (dk_at dksX4_held_0 8 rfl rfl)
theorem dX4_held_11 : decode cX4_held 11 = .ok (.ifCond .eq 18, 3) := dk_153 0 18 (dk_at dksX4_held_0 11 rfl rfl)
theorem dX4_held_14 : decode cX4_held 14 = .ok (.aload_n 0, 1) := dk_42 (dk_at dksX4_held_0 14 rfl rfl)
theorem dX4_held_15 : decode cX4_held 15 = .ok (.iload_n 2, 1) := dk_28 (dk_at dksX4_held_0 15 rfl rfl)
theorem dX4_held_16 : decode cX4_held 16 = .ok (.iconst 0, 1) := dk_3 (dk_at dksX4_held_0 16 rfl rfl)
theorem dX4_held_17 : decode cX4_held 17 = .ok (.bipush 99, 2) := dk_16 99 (dk_at dksX4_held_0 17 rfl rfl)
theorem dX4_held_19 : decode cX4_held 19 = .ok (.invokestatic 297, 3) := dk_184 1 41 (dk_at dksX4_held_0 19 rfl rfl)
theorem dX4_held_22 : decode cX4_held 22 = .ok (.iconst 2, 1) := dk_5 (dk_at dksX4_held_0 22 rfl rfl)
theorem dX4_held_23 : decode cX4_held 23 = .ok (.invokevirtual 270, 3) := dk_182 1 14 (dk_at dksX4_held_1 0 rfl rfl)
theorem dX4_held_26 : decode cX4_held 26 = .ok (.ifCond .ne 5, 3) := dk_154 0 5 (dk_at dksX4_held_1 3 rfl rfl)
theorem dX4_held_29 : decode cX4_held 29 = .ok (.iconst 0, 1) := dk_3 (dk_at dksX4_held_1 6 rfl rfl)
theorem dX4_held_30 : decode cX4_held 30 = .ok (.ireturn, 1) := dk_172 (dk_at dksX4_held_1 7 rfl rfl)
theorem dX4_held_31 : decode cX4_held 31 = .ok (.aload_n 0, 1) := dk_42 (dk_at dksX4_held_1 8 rfl rfl)
theorem dX4_held_32 : decode cX4_held 32 = .ok (.aload_n 0, 1) := dk_42 (dk_at dksX4_held_1 9 rfl rfl)
theorem dX4_held_33 : decode cX4_held 33 = .ok (.getfield 90, 3) := dk_180 0 90 (dk_at dksX4_held_1 10 rfl rfl)
theorem dX4_held_36 : decode cX4_held 36 = .ok (.aload_n 0, 1) := dk_42 (dk_at dksX4_held_1 13 rfl rfl)
theorem dX4_held_37 : decode cX4_held 37 = .ok (.getfield 93, 3) := dk_180 0 93 (dk_at dksX4_held_1 14 rfl rfl)
theorem dX4_held_40 : decode cX4_held 40 = .ok (.invokevirtual 283, 3) := dk_182 1 27 (dk_at dksX4_held_1 17 rfl rfl)
theorem dX4_held_43 : decode cX4_held 43 = .ok (.iconst 0, 1) := dk_3 (dk_at dksX4_held_1 20 rfl rfl)
theorem dX4_held_44 : decode cX4_held 44 = .ok (.istore_n 3, 1) := dk_62 (dk_at dksX4_held_1 21 rfl rfl)
theorem dX4_held_45 : decode cX4_held 45 = .ok (.iconst 0, 1) := dk_3 (dk_at dksX4_held_1 22 rfl rfl)
theorem dX4_held_46 : decode cX4_held 46 = .ok (.istore 4, 2) := dk_54 4 (dk_at dksX4_held_2 0 rfl rfl)
theorem dX4_held_48 : decode cX4_held 48 = .ok (.iload 4, 2) := dk_21 4 (dk_at dksX4_held_2 2 rfl rfl)
theorem dX4_held_50 : decode cX4_held 50 = .ok (.iload_n 2, 1) := dk_28 (dk_at dksX4_held_2 4 rfl rfl)
theorem dX4_held_51 : decode cX4_held 51 = .ok (.if_icmp .ge 38, 3) := dk_162 0 38 (dk_at dksX4_held_2 5 rfl rfl)
theorem dX4_held_54 : decode cX4_held 54 = .ok (.iload_n 3, 1) := dk_29 (dk_at dksX4_held_2 8 rfl rfl)
theorem dX4_held_55 : decode cX4_held 55 = .ok (.aload_n 0, 1) := dk_42 (dk_at dksX4_held_2 9 rfl rfl)
theorem dX4_held_56 : decode cX4_held 56 = .ok (.aload_n 0, 1) := dk_42 (dk_at dksX4_held_2 10 rfl rfl)
theorem dX4_held_57 : decode cX4_held 57 = .ok (.getfield 93, 3) := dk_180 0 93 (dk_at dksX4_held_2 11 rfl rfl)
theorem dX4_held_60 : decode cX4_held 60 = .ok (.iload_n 1, 1) := dk_27 (dk_at dksX4_held_2 14 rfl rfl)
theorem dX4_held_61 : decode cX4_held 61 = .ok (.invokevirtual 350, 3) := dk_182 1 94 (dk_at dksX4_held_2 15 rfl rfl)
theorem dX4_held_64 : decode cX4_held 64 = .ok (.ifCond .eq 7, 3) := dk_153 0 7 (dk_at dksX4_held_2 18 rfl rfl)
theorem dX4_held_67 : decode cX4_held 67 = .ok (.iconst 1, 1) := dk_4 (dk_at dksX4_held_2 21 rfl rfl)
theorem dX4_held_68 : decode cX4_held 68 = .ok (.goto 4, 3) := dk_167 0 4 (dk_at dksX4_held_3 0 rfl rfl)
theorem dX4_held_71 : decode cX4_held 71 = .ok (.iconst 0, 1) := dk_3 (dk_at dksX4_held_3 3 rfl rfl)
theorem dX4_held_72 : decode cX4_held 72 = .ok (.iadd, 1) := dk_96 (dk_at dksX4_held_3 4 rfl rfl)
theorem dX4_held_73 : decode cX4_held 73 = .ok (.istore_n 3, 1) := dk_62 (dk_at dksX4_held_3 5 rfl rfl)
theorem dX4_held_74 : decode cX4_held 74 = .ok (.aload_n 0, 1) := dk_42 (dk_at dksX4_held_3 6 rfl rfl)
theorem dX4_held_75 : decode cX4_held 75 = .ok (.aload_n 0, 1) := dk_42 (dk_at dksX4_held_3 7 rfl rfl)
theorem dX4_held_76 : decode cX4_held 76 = .ok (.getfield 93, 3) := dk_180 0 93 (dk_at dksX4_held_3 8 rfl rfl)
theorem dX4_held_79 : decode cX4_held 79 = .ok (.invokevirtual 363, 3) := dk_182 1 107 (dk_at dksX4_held_3 11 rfl rfl)
theorem dX4_held_82 : decode cX4_held 82 = .ok (.pop, 1) := dk_87 (dk_at dksX4_held_3 14 rfl rfl)
theorem dX4_held_83 : decode cX4_held 83 = .ok (.iinc 4 1, 3) := dk_132 4 1 (dk_at dksX4_held_3 15 rfl rfl)
theorem dX4_held_86 : decode cX4_held 86 = .ok (.goto (-38), 3) := dk_167 255 218 (dk_at dksX4_held_3 18 rfl rfl)
theorem dX4_held_89 : decode cX4_held 89 = .ok (.iload_n 3, 1) := dk_29 (dk_at dksX4_held_3 21 rfl rfl)
theorem dX4_held_90 : decode cX4_held 90 = .ok (.ireturn, 1) := dk_172 (dk_at dksX4_held_3 22 rfl rfl)
abbrev cX4_lost : ByteArray := prog_14_method_94_code
def yX4_lost : MethodName := ⟨RX4, "lost", "(I)I"⟩
def dkwX4_lost_3 : List UInt8 := [132, 2, 1, 167, 255, 212, 2, 172]
abbrev dktX4_lost_3 : List UInt8 := dkwX4_lost_3 ++ []
def dkwX4_lost_2 : List UInt8 := [182, 1, 58, 154, 0, 11, 42, 180, 0, 93, 16, 14, 46, 172, 42, 42, 180, 0, 93, 182, 1, 107, 87]
abbrev dktX4_lost_2 : List UInt8 := dkwX4_lost_2 ++ dktX4_lost_3
def dkwX4_lost_1 : List UInt8 := [182, 1, 27, 3, 61, 28, 16, 99, 162, 0, 44, 42, 42, 42, 180, 0, 93, 3, 182, 1, 61, 27, 3]
abbrev dktX4_lost_1 : List UInt8 := dkwX4_lost_1 ++ dktX4_lost_2
def dkwX4_lost_0 : List UInt8 := [42, 3, 181, 0, 120, 42, 27, 182, 1, 75, 154, 0, 5, 3, 172, 42, 42, 180, 0, 90, 42, 180, 0, 93]
abbrev dktX4_lost_0 : List UInt8 := dkwX4_lost_0 ++ dktX4_lost_1
theorem dksX4_lost_0 : cX4_lost.data.toList.drop 0 = dktX4_lost_0 := by decide +kernel
theorem dksX4_lost_1 : cX4_lost.data.toList.drop 24 = dktX4_lost_1 := dk_seg dksX4_lost_0 24 rfl rfl
theorem dksX4_lost_2 : cX4_lost.data.toList.drop 47 = dktX4_lost_2 := dk_seg dksX4_lost_1 23 rfl rfl
theorem dksX4_lost_3 : cX4_lost.data.toList.drop 70 = dktX4_lost_3 := dk_seg dksX4_lost_2 23 rfl rfl
theorem dX4_lost_0 : decode cX4_lost 0 = .ok (.aload_n 0, 1) := dk_42 (dk_at dksX4_lost_0 0 rfl rfl)
theorem dX4_lost_1 : decode cX4_lost 1 = .ok (.iconst 0, 1) := dk_3 (dk_at dksX4_lost_0 1 rfl rfl)
theorem dX4_lost_2 : decode cX4_lost 2 = .ok (.putfield 120, 3) := dk_181 0 120 (dk_at dksX4_lost_0 2 rfl rfl)
theorem dX4_lost_5 : decode cX4_lost 5 = .ok (.aload_n 0, 1) := dk_42 (dk_at dksX4_lost_0 5 rfl rfl)
theorem dX4_lost_6 : decode cX4_lost 6 = .ok (.iload_n 1, 1) := dk_27 (dk_at dksX4_lost_0 6 rfl rfl)
theorem dX4_lost_7 : decode cX4_lost 7 = .ok (.invokevirtual 331, 3) := dk_182 1 75 (dk_at dksX4_lost_0 7 rfl rfl)
theorem dX4_lost_10 : decode cX4_lost 10 = .ok (.ifCond .ne 5, 3) := dk_154 0 5 (dk_at dksX4_lost_0 10 rfl rfl)
theorem dX4_lost_13 : decode cX4_lost 13 = .ok (.iconst 0, 1) := dk_3 (dk_at dksX4_lost_0 13 rfl rfl)
theorem dX4_lost_14 : decode cX4_lost 14 = .ok (.ireturn, 1) := dk_172 (dk_at dksX4_lost_0 14 rfl rfl)
theorem dX4_lost_15 : decode cX4_lost 15 = .ok (.aload_n 0, 1) := dk_42 (dk_at dksX4_lost_0 15 rfl rfl)
theorem dX4_lost_16 : decode cX4_lost 16 = .ok (.aload_n 0, 1) := dk_42 (dk_at dksX4_lost_0 16 rfl rfl)
theorem dX4_lost_17 : decode cX4_lost 17 = .ok (.getfield 90, 3) := dk_180 0 90 (dk_at dksX4_lost_0 17 rfl rfl)
theorem dX4_lost_20 : decode cX4_lost 20 = .ok (.aload_n 0, 1) := dk_42 (dk_at dksX4_lost_0 20 rfl rfl)
theorem dX4_lost_21 : decode cX4_lost 21 = .ok (.getfield 93, 3) := dk_180 0 93 (dk_at dksX4_lost_0 21 rfl rfl)
theorem dX4_lost_24 : decode cX4_lost 24 = .ok (.invokevirtual 283, 3) := dk_182 1 27 (dk_at dksX4_lost_1 0 rfl rfl)
theorem dX4_lost_27 : decode cX4_lost 27 = .ok (.iconst 0, 1) := dk_3 (dk_at dksX4_lost_1 3 rfl rfl)
theorem dX4_lost_28 : decode cX4_lost 28 = .ok (.istore_n 2, 1) := dk_61 (dk_at dksX4_lost_1 4 rfl rfl)
theorem dX4_lost_29 : decode cX4_lost 29 = .ok (.iload_n 2, 1) := dk_28 (dk_at dksX4_lost_1 5 rfl rfl)
theorem dX4_lost_30 : decode cX4_lost 30 = .ok (.bipush 99, 2) := dk_16 99 (dk_at dksX4_lost_1 6 rfl rfl)
theorem dX4_lost_32 : decode cX4_lost 32 = .ok (.if_icmp .ge 44, 3) := dk_162 0 44 (dk_at dksX4_lost_1 8 rfl rfl)
theorem dX4_lost_35 : decode cX4_lost 35 = .ok (.aload_n 0, 1) := dk_42 (dk_at dksX4_lost_1 11 rfl rfl)
theorem dX4_lost_36 : decode cX4_lost 36 = .ok (.aload_n 0, 1) := dk_42 (dk_at dksX4_lost_1 12 rfl rfl)
theorem dX4_lost_37 : decode cX4_lost 37 = .ok (.aload_n 0, 1) := dk_42 (dk_at dksX4_lost_1 13 rfl rfl)
theorem dX4_lost_38 : decode cX4_lost 38 = .ok (.getfield 93, 3) := dk_180 0 93 (dk_at dksX4_lost_1 14 rfl rfl)
theorem dX4_lost_41 : decode cX4_lost 41 = .ok (.iconst 0, 1) := dk_3 (dk_at dksX4_lost_1 17 rfl rfl)
theorem dX4_lost_42 : decode cX4_lost 42 = .ok (.invokevirtual 317, 3) := dk_182 1 61 (dk_at dksX4_lost_1 18 rfl rfl)
theorem dX4_lost_45 : decode cX4_lost 45 = .ok (.iload_n 1, 1) := dk_27 (dk_at dksX4_lost_1 21 rfl rfl)
theorem dX4_lost_46 : decode cX4_lost 46 = .ok (.iconst 0, 1) := dk_3 (dk_at dksX4_lost_1 22 rfl rfl)
theorem dX4_lost_47 : decode cX4_lost 47 = .ok (.invokevirtual 314, 3) := dk_182 1 58 (dk_at dksX4_lost_2 0 rfl rfl)
theorem dX4_lost_50 : decode cX4_lost 50 = .ok (.ifCond .ne 11, 3) := dk_154 0 11 (dk_at dksX4_lost_2 3 rfl rfl)
theorem dX4_lost_53 : decode cX4_lost 53 = .ok (.aload_n 0, 1) := dk_42 (dk_at dksX4_lost_2 6 rfl rfl)
theorem dX4_lost_54 : decode cX4_lost 54 = .ok (.getfield 93, 3) := dk_180 0 93 (dk_at dksX4_lost_2 7 rfl rfl)
theorem dX4_lost_57 : decode cX4_lost 57 = .ok (.bipush 14, 2) := dk_16 14 (dk_at dksX4_lost_2 10 rfl rfl)
theorem dX4_lost_59 : decode cX4_lost 59 = .ok (.iaload, 1) := dk_46 (dk_at dksX4_lost_2 12 rfl rfl)
theorem dX4_lost_60 : decode cX4_lost 60 = .ok (.ireturn, 1) := dk_172 (dk_at dksX4_lost_2 13 rfl rfl)
theorem dX4_lost_61 : decode cX4_lost 61 = .ok (.aload_n 0, 1) := dk_42 (dk_at dksX4_lost_2 14 rfl rfl)
theorem dX4_lost_62 : decode cX4_lost 62 = .ok (.aload_n 0, 1) := dk_42 (dk_at dksX4_lost_2 15 rfl rfl)
theorem dX4_lost_63 : decode cX4_lost 63 = .ok (.getfield 93, 3) := dk_180 0 93 (dk_at dksX4_lost_2 16 rfl rfl)
theorem dX4_lost_66 : decode cX4_lost 66 = .ok (.invokevirtual 363, 3) := dk_182 1 107 (dk_at dksX4_lost_2 19 rfl rfl)
theorem dX4_lost_69 : decode cX4_lost 69 = .ok (.pop, 1) := dk_87 (dk_at dksX4_lost_2 22 rfl rfl)
theorem dX4_lost_70 : decode cX4_lost 70 = .ok (.iinc 2 1, 3) := dk_132 2 1 (dk_at dksX4_lost_3 0 rfl rfl)
theorem dX4_lost_73 : decode cX4_lost 73 = .ok (.goto (-44), 3) := dk_167 255 212 (dk_at dksX4_lost_3 3 rfl rfl)
theorem dX4_lost_76 : decode cX4_lost 76 = .ok (.iconst (-1), 1) := dk_2 (dk_at dksX4_lost_3 6 rfl rfl)
theorem dX4_lost_77 : decode cX4_lost 77 = .ok (.ireturn, 1) := dk_172 (dk_at dksX4_lost_3 7 rfl rfl)
abbrev cX4_gone : ByteArray := prog_14_method_95_code
def yX4_gone : MethodName := ⟨RX4, "gone", "(I)I"⟩
def dkwX4_gone_3 : List UInt8 := [87, 132, 2, 1, 167, 255, 212, 2, 172]
abbrev dktX4_gone_3 : List UInt8 := dkwX4_gone_3 ++ []
def dkwX4_gone_2 : List UInt8 := [27, 182, 1, 84, 126, 154, 0, 11, 42, 180, 0, 93, 16, 14, 46, 172, 42, 42, 180, 0, 93, 182, 1, 107]
abbrev dktX4_gone_2 : List UInt8 := dkwX4_gone_2 ++ dktX4_gone_3
def dkwX4_gone_1 : List UInt8 := [180, 0, 93, 182, 1, 27, 3, 61, 28, 16, 99, 162, 0, 44, 42, 42, 180, 0, 93, 3, 182, 1, 61, 42]
abbrev dktX4_gone_1 : List UInt8 := dkwX4_gone_1 ++ dktX4_gone_2
def dkwX4_gone_0 : List UInt8 := [42, 3, 181, 0, 120, 42, 27, 5, 182, 1, 71, 154, 0, 5, 3, 172, 42, 42, 180, 0, 90, 42]
abbrev dktX4_gone_0 : List UInt8 := dkwX4_gone_0 ++ dktX4_gone_1
theorem dksX4_gone_0 : cX4_gone.data.toList.drop 0 = dktX4_gone_0 := by decide +kernel
theorem dksX4_gone_1 : cX4_gone.data.toList.drop 22 = dktX4_gone_1 := dk_seg dksX4_gone_0 22 rfl rfl
theorem dksX4_gone_2 : cX4_gone.data.toList.drop 46 = dktX4_gone_2 := dk_seg dksX4_gone_1 24 rfl rfl
theorem dksX4_gone_3 : cX4_gone.data.toList.drop 70 = dktX4_gone_3 := dk_seg dksX4_gone_2 24 rfl rfl
theorem dX4_gone_0 : decode cX4_gone 0 = .ok (.aload_n 0, 1) := dk_42 (dk_at dksX4_gone_0 0 rfl rfl)
theorem dX4_gone_1 : decode cX4_gone 1 = .ok (.iconst 0, 1) := dk_3 (dk_at dksX4_gone_0 1 rfl rfl)
theorem dX4_gone_2 : decode cX4_gone 2 = .ok (.putfield 120, 3) := dk_181 0 120 (dk_at dksX4_gone_0 2 rfl rfl)
theorem dX4_gone_5 : decode cX4_gone 5 = .ok (.aload_n 0, 1) := dk_42 (dk_at dksX4_gone_0 5 rfl rfl)
theorem dX4_gone_6 : decode cX4_gone 6 = .ok (.iload_n 1, 1) := dk_27 (dk_at dksX4_gone_0 6 rfl rfl)
theorem dX4_gone_7 : decode cX4_gone 7 = .ok (.iconst 2, 1) := dk_5 (dk_at dksX4_gone_0 7 rfl rfl)
theorem dX4_gone_8 : decode cX4_gone 8 = .ok (.invokevirtual 327, 3) := dk_182 1 71 (dk_at dksX4_gone_0 8 rfl rfl)
theorem dX4_gone_11 : decode cX4_gone 11 = .ok (.ifCond .ne 5, 3) := dk_154 0 5 (dk_at dksX4_gone_0 11 rfl rfl)
theorem dX4_gone_14 : decode cX4_gone 14 = .ok (.iconst 0, 1) := dk_3 (dk_at dksX4_gone_0 14 rfl rfl)
theorem dX4_gone_15 : decode cX4_gone 15 = .ok (.ireturn, 1) := dk_172 (dk_at dksX4_gone_0 15 rfl rfl)
theorem dX4_gone_16 : decode cX4_gone 16 = .ok (.aload_n 0, 1) := dk_42 (dk_at dksX4_gone_0 16 rfl rfl)
theorem dX4_gone_17 : decode cX4_gone 17 = .ok (.aload_n 0, 1) := dk_42 (dk_at dksX4_gone_0 17 rfl rfl)
theorem dX4_gone_18 : decode cX4_gone 18 = .ok (.getfield 90, 3) := dk_180 0 90 (dk_at dksX4_gone_0 18 rfl rfl)
theorem dX4_gone_21 : decode cX4_gone 21 = .ok (.aload_n 0, 1) := dk_42 (dk_at dksX4_gone_0 21 rfl rfl)
theorem dX4_gone_22 : decode cX4_gone 22 = .ok (.getfield 93, 3) := dk_180 0 93 (dk_at dksX4_gone_1 0 rfl rfl)
theorem dX4_gone_25 : decode cX4_gone 25 = .ok (.invokevirtual 283, 3) := dk_182 1 27 (dk_at dksX4_gone_1 3 rfl rfl)
theorem dX4_gone_28 : decode cX4_gone 28 = .ok (.iconst 0, 1) := dk_3 (dk_at dksX4_gone_1 6 rfl rfl)
theorem dX4_gone_29 : decode cX4_gone 29 = .ok (.istore_n 2, 1) := dk_61 (dk_at dksX4_gone_1 7 rfl rfl)
theorem dX4_gone_30 : decode cX4_gone 30 = .ok (.iload_n 2, 1) := dk_28 (dk_at dksX4_gone_1 8 rfl rfl)
theorem dX4_gone_31 : decode cX4_gone 31 = .ok (.bipush 99, 2) := dk_16 99 (dk_at dksX4_gone_1 9 rfl rfl)
theorem dX4_gone_33 : decode cX4_gone 33 = .ok (.if_icmp .ge 44, 3) := dk_162 0 44 (dk_at dksX4_gone_1 11 rfl rfl)
theorem dX4_gone_36 : decode cX4_gone 36 = .ok (.aload_n 0, 1) := dk_42 (dk_at dksX4_gone_1 14 rfl rfl)
theorem dX4_gone_37 : decode cX4_gone 37 = .ok (.aload_n 0, 1) := dk_42 (dk_at dksX4_gone_1 15 rfl rfl)
theorem dX4_gone_38 : decode cX4_gone 38 = .ok (.getfield 93, 3) := dk_180 0 93 (dk_at dksX4_gone_1 16 rfl rfl)
theorem dX4_gone_41 : decode cX4_gone 41 = .ok (.iconst 0, 1) := dk_3 (dk_at dksX4_gone_1 19 rfl rfl)
theorem dX4_gone_42 : decode cX4_gone 42 = .ok (.invokevirtual 317, 3) := dk_182 1 61 (dk_at dksX4_gone_1 20 rfl rfl)
theorem dX4_gone_45 : decode cX4_gone 45 = .ok (.aload_n 0, 1) := dk_42 (dk_at dksX4_gone_1 23 rfl rfl)
theorem dX4_gone_46 : decode cX4_gone 46 = .ok (.iload_n 1, 1) := dk_27 (dk_at dksX4_gone_2 0 rfl rfl)
theorem dX4_gone_47 : decode cX4_gone 47 = .ok (.invokevirtual 340, 3) := dk_182 1 84 (dk_at dksX4_gone_2 1 rfl rfl)
theorem dX4_gone_50 : decode cX4_gone 50 = .ok (.iand, 1) := dk_126 (dk_at dksX4_gone_2 4 rfl rfl)
theorem dX4_gone_51 : decode cX4_gone 51 = .ok (.ifCond .ne 11, 3) := dk_154 0 11 (dk_at dksX4_gone_2 5 rfl rfl)
theorem dX4_gone_54 : decode cX4_gone 54 = .ok (.aload_n 0, 1) := dk_42 (dk_at dksX4_gone_2 8 rfl rfl)
theorem dX4_gone_55 : decode cX4_gone 55 = .ok (.getfield 93, 3) := dk_180 0 93 (dk_at dksX4_gone_2 9 rfl rfl)
theorem dX4_gone_58 : decode cX4_gone 58 = .ok (.bipush 14, 2) := dk_16 14 (dk_at dksX4_gone_2 12 rfl rfl)
theorem dX4_gone_60 : decode cX4_gone 60 = .ok (.iaload, 1) := dk_46 (dk_at dksX4_gone_2 14 rfl rfl)
theorem dX4_gone_61 : decode cX4_gone 61 = .ok (.ireturn, 1) := dk_172 (dk_at dksX4_gone_2 15 rfl rfl)
theorem dX4_gone_62 : decode cX4_gone 62 = .ok (.aload_n 0, 1) := dk_42 (dk_at dksX4_gone_2 16 rfl rfl)
theorem dX4_gone_63 : decode cX4_gone 63 = .ok (.aload_n 0, 1) := dk_42 (dk_at dksX4_gone_2 17 rfl rfl)
theorem dX4_gone_64 : decode cX4_gone 64 = .ok (.getfield 93, 3) := dk_180 0 93 (dk_at dksX4_gone_2 18 rfl rfl)
theorem dX4_gone_67 : decode cX4_gone 67 = .ok (.invokevirtual 363, 3) := dk_182 1 107 (dk_at dksX4_gone_2 21 rfl rfl)
theorem dX4_gone_70 : decode cX4_gone 70 = .ok (.pop, 1) := dk_87 (dk_at dksX4_gone_3 0 rfl rfl)
theorem dX4_gone_71 : decode cX4_gone 71 = .ok (.iinc 2 1, 3) := dk_132 2 1 (dk_at dksX4_gone_3 1 rfl rfl)
theorem dX4_gone_74 : decode cX4_gone 74 = .ok (.goto (-44), 3) := dk_167 255 212 (dk_at dksX4_gone_3 4 rfl rfl)
theorem dX4_gone_77 : decode cX4_gone 77 = .ok (.iconst (-1), 1) := dk_2 (dk_at dksX4_gone_3 7 rfl rfl)
theorem dX4_gone_78 : decode cX4_gone 78 = .ok (.ireturn, 1) := dk_172 (dk_at dksX4_gone_3 8 rfl rfl)
abbrev cX4_rows : ByteArray := prog_14_method_96_code
def yX4_rows : MethodName := ⟨RX4, "rows", "(I)I"⟩
def dkwX4_rows_2 : List UInt8 := [122, 4, 126, 96, 61, 132, 3, 1, 167, 255, 221, 28, 172]
abbrev dktX4_rows_2 : List UInt8 := dkwX4_rows_2 ++ []
def dkwX4_rows_1 : List UInt8 := [180, 1, 24, 104, 162, 0, 31, 28, 42, 42, 42, 180, 0, 90, 3, 182, 1, 61, 29, 3, 182, 1, 51, 27]
abbrev dktX4_rows_1 : List UInt8 := dkwX4_rows_1 ++ dktX4_rows_2
def dkwX4_rows_0 : List UInt8 := [42, 3, 181, 0, 120, 42, 27, 182, 1, 68, 154, 0, 5, 3, 172, 3, 61, 3, 62, 29, 7, 42]
abbrev dktX4_rows_0 : List UInt8 := dkwX4_rows_0 ++ dktX4_rows_1
theorem dksX4_rows_0 : cX4_rows.data.toList.drop 0 = dktX4_rows_0 := by decide +kernel
theorem dksX4_rows_1 : cX4_rows.data.toList.drop 22 = dktX4_rows_1 := dk_seg dksX4_rows_0 22 rfl rfl
theorem dksX4_rows_2 : cX4_rows.data.toList.drop 46 = dktX4_rows_2 := dk_seg dksX4_rows_1 24 rfl rfl
theorem dX4_rows_0 : decode cX4_rows 0 = .ok (.aload_n 0, 1) := dk_42 (dk_at dksX4_rows_0 0 rfl rfl)
theorem dX4_rows_1 : decode cX4_rows 1 = .ok (.iconst 0, 1) := dk_3 (dk_at dksX4_rows_0 1 rfl rfl)
theorem dX4_rows_2 : decode cX4_rows 2 = .ok (.putfield 120, 3) := dk_181 0 120 (dk_at dksX4_rows_0 2 rfl rfl)
theorem dX4_rows_5 : decode cX4_rows 5 = .ok (.aload_n 0, 1) := dk_42 (dk_at dksX4_rows_0 5 rfl rfl)
theorem dX4_rows_6 : decode cX4_rows 6 = .ok (.iload_n 1, 1) := dk_27 (dk_at dksX4_rows_0 6 rfl rfl)
theorem dX4_rows_7 : decode cX4_rows 7 = .ok (.invokevirtual 324, 3) := dk_182 1 68 (dk_at dksX4_rows_0 7 rfl rfl)
theorem dX4_rows_10 : decode cX4_rows 10 = .ok (.ifCond .ne 5, 3) := dk_154 0 5 (dk_at dksX4_rows_0 10 rfl rfl)
theorem dX4_rows_13 : decode cX4_rows 13 = .ok (.iconst 0, 1) := dk_3 (dk_at dksX4_rows_0 13 rfl rfl)
theorem dX4_rows_14 : decode cX4_rows 14 = .ok (.ireturn, 1) := dk_172 (dk_at dksX4_rows_0 14 rfl rfl)
theorem dX4_rows_15 : decode cX4_rows 15 = .ok (.iconst 0, 1) := dk_3 (dk_at dksX4_rows_0 15 rfl rfl)
theorem dX4_rows_16 : decode cX4_rows 16 = .ok (.istore_n 2, 1) := dk_61 (dk_at dksX4_rows_0 16 rfl rfl)
theorem dX4_rows_17 : decode cX4_rows 17 = .ok (.iconst 0, 1) := dk_3 (dk_at dksX4_rows_0 17 rfl rfl)
theorem dX4_rows_18 : decode cX4_rows 18 = .ok (.istore_n 3, 1) := dk_62 (dk_at dksX4_rows_0 18 rfl rfl)
theorem dX4_rows_19 : decode cX4_rows 19 = .ok (.iload_n 3, 1) := dk_29 (dk_at dksX4_rows_0 19 rfl rfl)
theorem dX4_rows_20 : decode cX4_rows 20 = .ok (.iconst 4, 1) := dk_7 (dk_at dksX4_rows_0 20 rfl rfl)
theorem dX4_rows_21 : decode cX4_rows 21 = .ok (.aload_n 0, 1) := dk_42 (dk_at dksX4_rows_0 21 rfl rfl)
theorem dX4_rows_22 : decode cX4_rows 22 = .ok (.getfield 280, 3) := dk_180 1 24 (dk_at dksX4_rows_1 0 rfl rfl)
theorem dX4_rows_25 : decode cX4_rows 25 = .ok (.imul, 1) := dk_104 (dk_at dksX4_rows_1 3 rfl rfl)
theorem dX4_rows_26 : decode cX4_rows 26 = .ok (.if_icmp .ge 31, 3) := dk_162 0 31 (dk_at dksX4_rows_1 4 rfl rfl)
theorem dX4_rows_29 : decode cX4_rows 29 = .ok (.iload_n 2, 1) := dk_28 (dk_at dksX4_rows_1 7 rfl rfl)
theorem dX4_rows_30 : decode cX4_rows 30 = .ok (.aload_n 0, 1) := dk_42 (dk_at dksX4_rows_1 8 rfl rfl)
theorem dX4_rows_31 : decode cX4_rows 31 = .ok (.aload_n 0, 1) := dk_42 (dk_at dksX4_rows_1 9 rfl rfl)
theorem dX4_rows_32 : decode cX4_rows 32 = .ok (.aload_n 0, 1) := dk_42 (dk_at dksX4_rows_1 10 rfl rfl)
theorem dX4_rows_33 : decode cX4_rows 33 = .ok (.getfield 90, 3) := dk_180 0 90 (dk_at dksX4_rows_1 11 rfl rfl)
theorem dX4_rows_36 : decode cX4_rows 36 = .ok (.iconst 0, 1) := dk_3 (dk_at dksX4_rows_1 14 rfl rfl)
theorem dX4_rows_37 : decode cX4_rows 37 = .ok (.invokevirtual 317, 3) := dk_182 1 61 (dk_at dksX4_rows_1 15 rfl rfl)
theorem dX4_rows_40 : decode cX4_rows 40 = .ok (.iload_n 3, 1) := dk_29 (dk_at dksX4_rows_1 18 rfl rfl)
theorem dX4_rows_41 : decode cX4_rows 41 = .ok (.iconst 0, 1) := dk_3 (dk_at dksX4_rows_1 19 rfl rfl)
theorem dX4_rows_42 : decode cX4_rows 42 = .ok (.invokevirtual 307, 3) := dk_182 1 51 (dk_at dksX4_rows_1 20 rfl rfl)
theorem dX4_rows_45 : decode cX4_rows 45 = .ok (.iload_n 1, 1) := dk_27 (dk_at dksX4_rows_1 23 rfl rfl)
theorem dX4_rows_46 : decode cX4_rows 46 = .ok (.ishr, 1) := dk_122 (dk_at dksX4_rows_2 0 rfl rfl)
theorem dX4_rows_47 : decode cX4_rows 47 = .ok (.iconst 1, 1) := dk_4 (dk_at dksX4_rows_2 1 rfl rfl)
theorem dX4_rows_48 : decode cX4_rows 48 = .ok (.iand, 1) := dk_126 (dk_at dksX4_rows_2 2 rfl rfl)
theorem dX4_rows_49 : decode cX4_rows 49 = .ok (.iadd, 1) := dk_96 (dk_at dksX4_rows_2 3 rfl rfl)
theorem dX4_rows_50 : decode cX4_rows 50 = .ok (.istore_n 2, 1) := dk_61 (dk_at dksX4_rows_2 4 rfl rfl)
theorem dX4_rows_51 : decode cX4_rows 51 = .ok (.iinc 3 1, 3) := dk_132 3 1 (dk_at dksX4_rows_2 5 rfl rfl)
theorem dX4_rows_54 : decode cX4_rows 54 = .ok (.goto (-35), 3) := dk_167 255 221 (dk_at dksX4_rows_2 8 rfl rfl)
theorem dX4_rows_57 : decode cX4_rows 57 = .ok (.iload_n 2, 1) := dk_28 (dk_at dksX4_rows_2 11 rfl rfl)
theorem dX4_rows_58 : decode cX4_rows 58 = .ok (.ireturn, 1) := dk_172 (dk_at dksX4_rows_2 12 rfl rfl)
abbrev cX4_luck : ByteArray := prog_14_method_98_code
def yX4_luck : MethodName := ⟨RX4, "luck", "(III)I"⟩
def dkwX4_luck_5 : List UInt8 := [54, 6, 132, 7, 1, 167, 255, 191, 21, 6, 21, 5, 29, 184, 1, 132, 172]
abbrev dktX4_luck_5 : List UInt8 := dkwX4_luck_5 ++ []
def dkwX4_luck_4 : List UInt8 := [21, 6, 42, 21, 4, 21, 7, 2, 130, 126, 27, 3, 182, 1, 58, 153, 0, 7, 4, 167, 0, 4, 3, 96]
abbrev dktX4_luck_4 : List UInt8 := dkwX4_luck_4 ++ dktX4_luck_5
def dkwX4_luck_3 : List UInt8 := [21, 4, 2, 130, 126, 154, 0, 44, 21, 7, 184, 1, 55, 28, 159, 0, 6, 167, 0, 32, 132, 5, 1]
abbrev dktX4_luck_3 : List UInt8 := dkwX4_luck_3 ++ dktX4_luck_4
def dkwX4_luck_2 : List UInt8 := [54, 4, 3, 54, 5, 3, 54, 6, 3, 54, 7, 21, 7, 4, 42, 180, 1, 21, 120, 162, 0, 60, 21, 7]
abbrev dktX4_luck_2 : List UInt8 := dkwX4_luck_2 ++ dktX4_luck_3
def dkwX4_luck_1 : List UInt8 := [3, 16, 14, 184, 1, 41, 5, 182, 1, 14, 154, 0, 5, 3, 172, 42, 42, 180, 0, 90, 3, 182, 1, 61]
abbrev dktX4_luck_1 : List UInt8 := dkwX4_luck_1 ++ dktX4_luck_2
def dkwX4_luck_0 : List UInt8 := [42, 3, 181, 0, 120, 42, 27, 182, 1, 75, 153, 0, 27, 42, 29, 4, 182, 1, 71, 153, 0, 18, 42, 28]
abbrev dktX4_luck_0 : List UInt8 := dkwX4_luck_0 ++ dktX4_luck_1
theorem dksX4_luck_0 : cX4_luck.data.toList.drop 0 = dktX4_luck_0 := by decide +kernel
theorem dksX4_luck_1 : cX4_luck.data.toList.drop 24 = dktX4_luck_1 := dk_seg dksX4_luck_0 24 rfl rfl
theorem dksX4_luck_2 : cX4_luck.data.toList.drop 48 = dktX4_luck_2 := dk_seg dksX4_luck_1 24 rfl rfl
theorem dksX4_luck_3 : cX4_luck.data.toList.drop 72 = dktX4_luck_3 := dk_seg dksX4_luck_2 24 rfl rfl
theorem dksX4_luck_4 : cX4_luck.data.toList.drop 95 = dktX4_luck_4 := dk_seg dksX4_luck_3 23 rfl rfl
theorem dksX4_luck_5 : cX4_luck.data.toList.drop 119 = dktX4_luck_5 := dk_seg dksX4_luck_4 24 rfl rfl
theorem dX4_luck_0 : decode cX4_luck 0 = .ok (.aload_n 0, 1) := dk_42 (dk_at dksX4_luck_0 0 rfl rfl)
theorem dX4_luck_1 : decode cX4_luck 1 = .ok (.iconst 0, 1) := dk_3 (dk_at dksX4_luck_0 1 rfl rfl)
theorem dX4_luck_2 : decode cX4_luck 2 = .ok (.putfield 120, 3) := dk_181 0 120 (dk_at dksX4_luck_0 2 rfl rfl)
theorem dX4_luck_5 : decode cX4_luck 5 = .ok (.aload_n 0, 1) := dk_42 (dk_at dksX4_luck_0 5 rfl rfl)
theorem dX4_luck_6 : decode cX4_luck 6 = .ok (.iload_n 1, 1) := dk_27 (dk_at dksX4_luck_0 6 rfl rfl)
theorem dX4_luck_7 : decode cX4_luck 7 = .ok (.invokevirtual 331, 3) := dk_182 1 75 (dk_at dksX4_luck_0 7 rfl rfl)
theorem dX4_luck_10 : decode cX4_luck 10 = .ok (.ifCond .eq 27, 3) := dk_153 0 27 (dk_at dksX4_luck_0 10 rfl rfl)
theorem dX4_luck_13 : decode cX4_luck 13 = .ok (.aload_n 0, 1) := dk_42 (dk_at dksX4_luck_0 13 rfl rfl)
theorem dX4_luck_14 : decode cX4_luck 14 = .ok (.iload_n 3, 1) := dk_29 (dk_at dksX4_luck_0 14 rfl rfl)
theorem dX4_luck_15 : decode cX4_luck 15 = .ok (.iconst 1, 1) := dk_4 (dk_at dksX4_luck_0 15 rfl rfl)
theorem dX4_luck_16 : decode cX4_luck 16 = .ok (.invokevirtual 327, 3) := dk_182 1 71 (dk_at dksX4_luck_0 16 rfl rfl)
theorem dX4_luck_19 : decode cX4_luck 19 = .ok (.ifCond .eq 18, 3) := dk_153 0 18 (dk_at dksX4_luck_0 19 rfl rfl)
theorem dX4_luck_22 : decode cX4_luck 22 = .ok (.aload_n 0, 1) := dk_42 (dk_at dksX4_luck_0 22 rfl rfl)
theorem dX4_luck_23 : decode cX4_luck 23 = .ok (.iload_n 2, 1) := dk_28 (dk_at dksX4_luck_0 23 rfl rfl)
theorem dX4_luck_24 : decode cX4_luck 24 = .ok (.iconst 0, 1) := dk_3 (dk_at dksX4_luck_1 0 rfl rfl)
theorem dX4_luck_25 : decode cX4_luck 25 = .ok (.bipush 14, 2) := dk_16 14 (dk_at dksX4_luck_1 1 rfl rfl)
theorem dX4_luck_27 : decode cX4_luck 27 = .ok (.invokestatic 297, 3) := dk_184 1 41 (dk_at dksX4_luck_1 3 rfl rfl)
theorem dX4_luck_30 : decode cX4_luck 30 = .ok (.iconst 2, 1) := dk_5 (dk_at dksX4_luck_1 6 rfl rfl)
theorem dX4_luck_31 : decode cX4_luck 31 = .ok (.invokevirtual 270, 3) := dk_182 1 14 (dk_at dksX4_luck_1 7 rfl rfl)
theorem dX4_luck_34 : decode cX4_luck 34 = .ok (.ifCond .ne 5, 3) := dk_154 0 5 (dk_at dksX4_luck_1 10 rfl rfl)
theorem dX4_luck_37 : decode cX4_luck 37 = .ok (.iconst 0, 1) := dk_3 (dk_at dksX4_luck_1 13 rfl rfl)
theorem dX4_luck_38 : decode cX4_luck 38 = .ok (.ireturn, 1) := dk_172 (dk_at dksX4_luck_1 14 rfl rfl)
theorem dX4_luck_39 : decode cX4_luck 39 = .ok (.aload_n 0, 1) := dk_42 (dk_at dksX4_luck_1 15 rfl rfl)
theorem dX4_luck_40 : decode cX4_luck 40 = .ok (.aload_n 0, 1) := dk_42 (dk_at dksX4_luck_1 16 rfl rfl)
theorem dX4_luck_41 : decode cX4_luck 41 = .ok (.getfield 90, 3) := dk_180 0 90 (dk_at dksX4_luck_1 17 rfl rfl)
theorem dX4_luck_44 : decode cX4_luck 44 = .ok (.iconst 0, 1) := dk_3 (dk_at dksX4_luck_1 20 rfl rfl)
theorem dX4_luck_45 : decode cX4_luck 45 = .ok (.invokevirtual 317, 3) := dk_182 1 61 (dk_at dksX4_luck_1 21 rfl rfl)
theorem dX4_luck_48 : decode cX4_luck 48 = .ok (.istore 4, 2) := dk_54 4 (dk_at dksX4_luck_2 0 rfl rfl)
theorem dX4_luck_50 : decode cX4_luck 50 = .ok (.iconst 0, 1) := dk_3 (dk_at dksX4_luck_2 2 rfl rfl)
theorem dX4_luck_51 : decode cX4_luck 51 = .ok (.istore 5, 2) := dk_54 5 (dk_at dksX4_luck_2 3 rfl rfl)
theorem dX4_luck_53 : decode cX4_luck 53 = .ok (.iconst 0, 1) := dk_3 (dk_at dksX4_luck_2 5 rfl rfl)
theorem dX4_luck_54 : decode cX4_luck 54 = .ok (.istore 6, 2) := dk_54 6 (dk_at dksX4_luck_2 6 rfl rfl)
theorem dX4_luck_56 : decode cX4_luck 56 = .ok (.iconst 0, 1) := dk_3 (dk_at dksX4_luck_2 8 rfl rfl)
theorem dX4_luck_57 : decode cX4_luck 57 = .ok (.istore 7, 2) := dk_54 7 (dk_at dksX4_luck_2 9 rfl rfl)
theorem dX4_luck_59 : decode cX4_luck 59 = .ok (.iload 7, 2) := dk_21 7 (dk_at dksX4_luck_2 11 rfl rfl)
theorem dX4_luck_61 : decode cX4_luck 61 = .ok (.iconst 1, 1) := dk_4 (dk_at dksX4_luck_2 13 rfl rfl)
theorem dX4_luck_62 : decode cX4_luck 62 = .ok (.aload_n 0, 1) := dk_42 (dk_at dksX4_luck_2 14 rfl rfl)
theorem dX4_luck_63 : decode cX4_luck 63 = .ok (.getfield 277, 3) := dk_180 1 21 (dk_at dksX4_luck_2 15 rfl rfl)
theorem dX4_luck_66 : decode cX4_luck 66 = .ok (.ishl, 1) := dk_120 (dk_at dksX4_luck_2 18 rfl rfl)
theorem dX4_luck_67 : decode cX4_luck 67 = .ok (.if_icmp .ge 60, 3) := dk_162 0 60 (dk_at dksX4_luck_2 19 rfl rfl)
theorem dX4_luck_70 : decode cX4_luck 70 = .ok (.iload 7, 2) := dk_21 7 (dk_at dksX4_luck_2 22 rfl rfl)
theorem dX4_luck_72 : decode cX4_luck 72 = .ok (.iload 4, 2) := dk_21 4 (dk_at dksX4_luck_3 0 rfl rfl)
theorem dX4_luck_74 : decode cX4_luck 74 = .ok (.iconst (-1), 1) := dk_2 (dk_at dksX4_luck_3 2 rfl rfl)
theorem dX4_luck_75 : decode cX4_luck 75 = .ok (.ixor, 1) := dk_130 (dk_at dksX4_luck_3 3 rfl rfl)
theorem dX4_luck_76 : decode cX4_luck 76 = .ok (.iand, 1) := dk_126 (dk_at dksX4_luck_3 4 rfl rfl)
theorem dX4_luck_77 : decode cX4_luck 77 = .ok (.ifCond .ne 44, 3) := dk_154 0 44 (dk_at dksX4_luck_3 5 rfl rfl)
theorem dX4_luck_80 : decode cX4_luck 80 = .ok (.iload 7, 2) := dk_21 7 (dk_at dksX4_luck_3 8 rfl rfl)
theorem dX4_luck_82 : decode cX4_luck 82 = .ok (.invokestatic 311, 3) := dk_184 1 55 (dk_at dksX4_luck_3 10 rfl rfl)
theorem dX4_luck_85 : decode cX4_luck 85 = .ok (.iload_n 2, 1) := dk_28 (dk_at dksX4_luck_3 13 rfl rfl)
theorem dX4_luck_86 : decode cX4_luck 86 = .ok (.if_icmp .eq 6, 3) := dk_159 0 6 (dk_at dksX4_luck_3 14 rfl rfl)
theorem dX4_luck_89 : decode cX4_luck 89 = .ok (.goto 32, 3) := dk_167 0 32 (dk_at dksX4_luck_3 17 rfl rfl)
theorem dX4_luck_92 : decode cX4_luck 92 = .ok (.iinc 5 1, 3) := dk_132 5 1 (dk_at dksX4_luck_3 20 rfl rfl)
theorem dX4_luck_95 : decode cX4_luck 95 = .ok (.iload 6, 2) := dk_21 6 (dk_at dksX4_luck_4 0 rfl rfl)
theorem dX4_luck_97 : decode cX4_luck 97 = .ok (.aload_n 0, 1) := dk_42 (dk_at dksX4_luck_4 2 rfl rfl)
theorem dX4_luck_98 : decode cX4_luck 98 = .ok (.iload 4, 2) := dk_21 4 (dk_at dksX4_luck_4 3 rfl rfl)
theorem dX4_luck_100 : decode cX4_luck 100 = .ok (.iload 7, 2) := dk_21 7 (dk_at dksX4_luck_4 5 rfl rfl)
theorem dX4_luck_102 : decode cX4_luck 102 = .ok (.iconst (-1), 1) := dk_2 (dk_at dksX4_luck_4 7 rfl rfl)
theorem dX4_luck_103 : decode cX4_luck 103 = .ok (.ixor, 1) := dk_130 (dk_at dksX4_luck_4 8 rfl rfl)
theorem dX4_luck_104 : decode cX4_luck 104 = .ok (.iand, 1) := dk_126 (dk_at dksX4_luck_4 9 rfl rfl)
theorem dX4_luck_105 : decode cX4_luck 105 = .ok (.iload_n 1, 1) := dk_27 (dk_at dksX4_luck_4 10 rfl rfl)
theorem dX4_luck_106 : decode cX4_luck 106 = .ok (.iconst 0, 1) := dk_3 (dk_at dksX4_luck_4 11 rfl rfl)
theorem dX4_luck_107 : decode cX4_luck 107 = .ok (.invokevirtual 314, 3) := dk_182 1 58 (dk_at dksX4_luck_4 12 rfl rfl)
theorem dX4_luck_110 : decode cX4_luck 110 = .ok (.ifCond .eq 7, 3) := dk_153 0 7 (dk_at dksX4_luck_4 15 rfl rfl)
theorem dX4_luck_113 : decode cX4_luck 113 = .ok (.iconst 1, 1) := dk_4 (dk_at dksX4_luck_4 18 rfl rfl)
theorem dX4_luck_114 : decode cX4_luck 114 = .ok (.goto 4, 3) := dk_167 0 4 (dk_at dksX4_luck_4 19 rfl rfl)
theorem dX4_luck_117 : decode cX4_luck 117 = .ok (.iconst 0, 1) := dk_3 (dk_at dksX4_luck_4 22 rfl rfl)
theorem dX4_luck_118 : decode cX4_luck 118 = .ok (.iadd, 1) := dk_96 (dk_at dksX4_luck_4 23 rfl rfl)
theorem dX4_luck_119 : decode cX4_luck 119 = .ok (.istore 6, 2) := dk_54 6 (dk_at dksX4_luck_5 0 rfl rfl)
theorem dX4_luck_121 : decode cX4_luck 121 = .ok (.iinc 7 1, 3) := dk_132 7 1 (dk_at dksX4_luck_5 2 rfl rfl)
theorem dX4_luck_124 : decode cX4_luck 124 = .ok (.goto (-65), 3) := dk_167 255 191 (dk_at dksX4_luck_5 5 rfl rfl)
theorem dX4_luck_127 : decode cX4_luck 127 = .ok (.iload 6, 2) := dk_21 6 (dk_at dksX4_luck_5 8 rfl rfl)
theorem dX4_luck_129 : decode cX4_luck 129 = .ok (.iload 5, 2) := dk_21 5 (dk_at dksX4_luck_5 10 rfl rfl)
theorem dX4_luck_131 : decode cX4_luck 131 = .ok (.iload_n 3, 1) := dk_29 (dk_at dksX4_luck_5 12 rfl rfl)
theorem dX4_luck_132 : decode cX4_luck 132 = .ok (.invokestatic 388, 3) := dk_184 1 132 (dk_at dksX4_luck_5 13 rfl rfl)
theorem dX4_luck_135 : decode cX4_luck 135 = .ok (.ireturn, 1) := dk_172 (dk_at dksX4_luck_5 16 rfl rfl)
abbrev cX4_portion : ByteArray := prog_14_method_97_code
def yX4_portion : MethodName := ⟨RX4, "portion", "(III)I"⟩
def dkwX4_portion_1 : List UInt8 := [62, 21, 5, 54, 4, 167, 255, 238, 28, 154, 0, 7, 26, 167, 0, 4, 27, 29, 108, 172]
abbrev dktX4_portion_1 : List UInt8 := dkwX4_portion_1 ++ []
def dkwX4_portion_0 : List UInt8 := [26, 154, 0, 5, 28, 172, 27, 62, 26, 54, 4, 21, 4, 153, 0, 19, 29, 21, 4, 112, 54, 5, 21, 4]
abbrev dktX4_portion_0 : List UInt8 := dkwX4_portion_0 ++ dktX4_portion_1
theorem dksX4_portion_0 : cX4_portion.data.toList.drop 0 = dktX4_portion_0 := by decide +kernel
theorem dksX4_portion_1 : cX4_portion.data.toList.drop 24 = dktX4_portion_1 := dk_seg dksX4_portion_0 24 rfl rfl
theorem dX4_portion_0 : decode cX4_portion 0 = .ok (.iload_n 0, 1) := dk_26 (dk_at dksX4_portion_0 0 rfl rfl)
theorem dX4_portion_1 : decode cX4_portion 1 = .ok (.ifCond .ne 5, 3) := dk_154 0 5 (dk_at dksX4_portion_0 1 rfl rfl)
theorem dX4_portion_4 : decode cX4_portion 4 = .ok (.iload_n 2, 1) := dk_28 (dk_at dksX4_portion_0 4 rfl rfl)
theorem dX4_portion_5 : decode cX4_portion 5 = .ok (.ireturn, 1) := dk_172 (dk_at dksX4_portion_0 5 rfl rfl)
theorem dX4_portion_6 : decode cX4_portion 6 = .ok (.iload_n 1, 1) := dk_27 (dk_at dksX4_portion_0 6 rfl rfl)
theorem dX4_portion_7 : decode cX4_portion 7 = .ok (.istore_n 3, 1) := dk_62 (dk_at dksX4_portion_0 7 rfl rfl)
theorem dX4_portion_8 : decode cX4_portion 8 = .ok (.iload_n 0, 1) := dk_26 (dk_at dksX4_portion_0 8 rfl rfl)
theorem dX4_portion_9 : decode cX4_portion 9 = .ok (.istore 4, 2) := dk_54 4 (dk_at dksX4_portion_0 9 rfl rfl)
theorem dX4_portion_11 : decode cX4_portion 11 = .ok (.iload 4, 2) := dk_21 4 (dk_at dksX4_portion_0 11 rfl rfl)
theorem dX4_portion_13 : decode cX4_portion 13 = .ok (.ifCond .eq 19, 3) := dk_153 0 19 (dk_at dksX4_portion_0 13 rfl rfl)
theorem dX4_portion_16 : decode cX4_portion 16 = .ok (.iload_n 3, 1) := dk_29 (dk_at dksX4_portion_0 16 rfl rfl)
theorem dX4_portion_17 : decode cX4_portion 17 = .ok (.iload 4, 2) := dk_21 4 (dk_at dksX4_portion_0 17 rfl rfl)
theorem dX4_portion_19 : decode cX4_portion 19 = .ok (.irem, 1) := dk_112 (dk_at dksX4_portion_0 19 rfl rfl)
theorem dX4_portion_20 : decode cX4_portion 20 = .ok (.istore 5, 2) := dk_54 5 (dk_at dksX4_portion_0 20 rfl rfl)
theorem dX4_portion_22 : decode cX4_portion 22 = .ok (.iload 4, 2) := dk_21 4 (dk_at dksX4_portion_0 22 rfl rfl)
theorem dX4_portion_24 : decode cX4_portion 24 = .ok (.istore_n 3, 1) := dk_62 (dk_at dksX4_portion_1 0 rfl rfl)
theorem dX4_portion_25 : decode cX4_portion 25 = .ok (.iload 5, 2) := dk_21 5 (dk_at dksX4_portion_1 1 rfl rfl)
theorem dX4_portion_27 : decode cX4_portion 27 = .ok (.istore 4, 2) := dk_54 4 (dk_at dksX4_portion_1 3 rfl rfl)
theorem dX4_portion_29 : decode cX4_portion 29 = .ok (.goto (-18), 3) := dk_167 255 238 (dk_at dksX4_portion_1 5 rfl rfl)
theorem dX4_portion_32 : decode cX4_portion 32 = .ok (.iload_n 2, 1) := dk_28 (dk_at dksX4_portion_1 8 rfl rfl)
theorem dX4_portion_33 : decode cX4_portion 33 = .ok (.ifCond .ne 7, 3) := dk_154 0 7 (dk_at dksX4_portion_1 9 rfl rfl)
theorem dX4_portion_36 : decode cX4_portion 36 = .ok (.iload_n 0, 1) := dk_26 (dk_at dksX4_portion_1 12 rfl rfl)
theorem dX4_portion_37 : decode cX4_portion 37 = .ok (.goto 4, 3) := dk_167 0 4 (dk_at dksX4_portion_1 13 rfl rfl)
theorem dX4_portion_40 : decode cX4_portion 40 = .ok (.iload_n 1, 1) := dk_27 (dk_at dksX4_portion_1 16 rfl rfl)
theorem dX4_portion_41 : decode cX4_portion 41 = .ok (.iload_n 3, 1) := dk_29 (dk_at dksX4_portion_1 17 rfl rfl)
theorem dX4_portion_42 : decode cX4_portion 42 = .ok (.idiv, 1) := dk_108 (dk_at dksX4_portion_1 18 rfl rfl)
theorem dX4_portion_43 : decode cX4_portion 43 = .ok (.ireturn, 1) := dk_172 (dk_at dksX4_portion_1 19 rfl rfl)
abbrev cX4_codes : ByteArray := prog_14_method_101_code
def yX4_codes : MethodName := ⟨RX4, "codes", "(II)J"⟩
def dkwX4_codes_1 : List UInt8 := [182, 1, 14, 153, 0, 12, 42, 27, 28, 182, 1, 140, 167, 0, 4, 9, 173]
abbrev dktX4_codes_1 : List UInt8 := dkwX4_codes_1 ++ []
def dkwX4_codes_0 : List UInt8 := [42, 3, 181, 0, 120, 42, 27, 182, 1, 75, 153, 0, 27, 42, 28, 3, 16, 12, 184, 1, 41, 5]
abbrev dktX4_codes_0 : List UInt8 := dkwX4_codes_0 ++ dktX4_codes_1
theorem dksX4_codes_0 : cX4_codes.data.toList.drop 0 = dktX4_codes_0 := by decide +kernel
theorem dksX4_codes_1 : cX4_codes.data.toList.drop 22 = dktX4_codes_1 := dk_seg dksX4_codes_0 22 rfl rfl
theorem dX4_codes_0 : decode cX4_codes 0 = .ok (.aload_n 0, 1) := dk_42 (dk_at dksX4_codes_0 0 rfl rfl)
theorem dX4_codes_1 : decode cX4_codes 1 = .ok (.iconst 0, 1) := dk_3 (dk_at dksX4_codes_0 1 rfl rfl)
theorem dX4_codes_2 : decode cX4_codes 2 = .ok (.putfield 120, 3) := dk_181 0 120 (dk_at dksX4_codes_0 2 rfl rfl)
theorem dX4_codes_5 : decode cX4_codes 5 = .ok (.aload_n 0, 1) := dk_42 (dk_at dksX4_codes_0 5 rfl rfl)
theorem dX4_codes_6 : decode cX4_codes 6 = .ok (.iload_n 1, 1) := dk_27 (dk_at dksX4_codes_0 6 rfl rfl)
theorem dX4_codes_7 : decode cX4_codes 7 = .ok (.invokevirtual 331, 3) := dk_182 1 75 (dk_at dksX4_codes_0 7 rfl rfl)
theorem dX4_codes_10 : decode cX4_codes 10 = .ok (.ifCond .eq 27, 3) := dk_153 0 27 (dk_at dksX4_codes_0 10 rfl rfl)
theorem dX4_codes_13 : decode cX4_codes 13 = .ok (.aload_n 0, 1) := dk_42 (dk_at dksX4_codes_0 13 rfl rfl)
theorem dX4_codes_14 : decode cX4_codes 14 = .ok (.iload_n 2, 1) := dk_28 (dk_at dksX4_codes_0 14 rfl rfl)
theorem dX4_codes_15 : decode cX4_codes 15 = .ok (.iconst 0, 1) := dk_3 (dk_at dksX4_codes_0 15 rfl rfl)
theorem dX4_codes_16 : decode cX4_codes 16 = .ok (.bipush 12, 2) := dk_16 12 (dk_at dksX4_codes_0 16 rfl rfl)
theorem dX4_codes_18 : decode cX4_codes 18 = .ok (.invokestatic 297, 3) := dk_184 1 41 (dk_at dksX4_codes_0 18 rfl rfl)
theorem dX4_codes_21 : decode cX4_codes 21 = .ok (.iconst 2, 1) := dk_5 (dk_at dksX4_codes_0 21 rfl rfl)
theorem dX4_codes_22 : decode cX4_codes 22 = .ok (.invokevirtual 270, 3) := dk_182 1 14 (dk_at dksX4_codes_1 0 rfl rfl)
theorem dX4_codes_25 : decode cX4_codes 25 = .ok (.ifCond .eq 12, 3) := dk_153 0 12 (dk_at dksX4_codes_1 3 rfl rfl)
theorem dX4_codes_28 : decode cX4_codes 28 = .ok (.aload_n 0, 1) := dk_42 (dk_at dksX4_codes_1 6 rfl rfl)
theorem dX4_codes_29 : decode cX4_codes 29 = .ok (.iload_n 1, 1) := dk_27 (dk_at dksX4_codes_1 7 rfl rfl)
theorem dX4_codes_30 : decode cX4_codes 30 = .ok (.iload_n 2, 1) := dk_28 (dk_at dksX4_codes_1 8 rfl rfl)
theorem dX4_codes_31 : decode cX4_codes 31 = .ok (.invokevirtual 396, 3) := dk_182 1 140 (dk_at dksX4_codes_1 9 rfl rfl)
theorem dX4_codes_34 : decode cX4_codes 34 = .ok (.goto 4, 3) := dk_167 0 4 (dk_at dksX4_codes_1 12 rfl rfl)
theorem dX4_codes_37 : decode cX4_codes 37 = .ok (.lconst 0, 1) := dk_9 (dk_at dksX4_codes_1 15 rfl rfl)
theorem dX4_codes_38 : decode cX4_codes 38 = .ok (.lreturn, 1) := dk_173 (dk_at dksX4_codes_1 16 rfl rfl)
abbrev cX4_codesOf : ByteArray := prog_14_method_100_code
def yX4_codesOf : MethodName := ⟨RX4, "codesOf", "(II)J"⟩
def dkwX4_codesOf_2 : List UInt8 := [133, 10, 97, 109, 55, 6, 132, 8, 1, 167, 255, 214, 22, 4, 173]
abbrev dktX4_codesOf_2 : List UInt8 := dkwX4_codesOf_2 ++ []
def dkwX4_codesOf_1 : List UInt8 := [163, 0, 36, 22, 4, 22, 6, 97, 55, 4, 22, 6, 20, 1, 138, 105, 29, 21, 8, 100, 133, 105, 21, 8]
abbrev dktX4_codesOf_1 : List UInt8 := dkwX4_codesOf_1 ++ dktX4_codesOf_2
def dkwX4_codesOf_0 : List UInt8 := [42, 27, 182, 1, 135, 62, 9, 55, 4, 10, 55, 6, 3, 54, 8, 21, 8, 28, 163, 0, 42, 21, 8, 29]
abbrev dktX4_codesOf_0 : List UInt8 := dkwX4_codesOf_0 ++ dktX4_codesOf_1
theorem dksX4_codesOf_0 : cX4_codesOf.data.toList.drop 0 = dktX4_codesOf_0 := by decide +kernel
theorem dksX4_codesOf_1 : cX4_codesOf.data.toList.drop 24 = dktX4_codesOf_1 := dk_seg dksX4_codesOf_0 24 rfl rfl
theorem dksX4_codesOf_2 : cX4_codesOf.data.toList.drop 48 = dktX4_codesOf_2 := dk_seg dksX4_codesOf_1 24 rfl rfl
theorem dX4_codesOf_0 : decode cX4_codesOf 0 = .ok (.aload_n 0, 1) := dk_42 (dk_at dksX4_codesOf_0 0 rfl rfl)
theorem dX4_codesOf_1 : decode cX4_codesOf 1 = .ok (.iload_n 1, 1) := dk_27 (dk_at dksX4_codesOf_0 1 rfl rfl)
theorem dX4_codesOf_2 : decode cX4_codesOf 2 = .ok (.invokevirtual 391, 3) := dk_182 1 135 (dk_at dksX4_codesOf_0 2 rfl rfl)
theorem dX4_codesOf_5 : decode cX4_codesOf 5 = .ok (.istore_n 3, 1) := dk_62 (dk_at dksX4_codesOf_0 5 rfl rfl)
theorem dX4_codesOf_6 : decode cX4_codesOf 6 = .ok (.lconst 0, 1) := dk_9 (dk_at dksX4_codesOf_0 6 rfl rfl)
theorem dX4_codesOf_7 : decode cX4_codesOf 7 = .ok (.lstore 4, 2) := dk_55 4 (dk_at dksX4_codesOf_0 7 rfl rfl)
theorem dX4_codesOf_9 : decode cX4_codesOf 9 = .ok (.lconst 1, 1) := dk_10 (dk_at dksX4_codesOf_0 9 rfl rfl)
theorem dX4_codesOf_10 : decode cX4_codesOf 10 = .ok (.lstore 6, 2) := dk_55 6 (dk_at dksX4_codesOf_0 10 rfl rfl)
theorem dX4_codesOf_12 : decode cX4_codesOf 12 = .ok (.iconst 0, 1) := dk_3 (dk_at dksX4_codesOf_0 12 rfl rfl)
theorem dX4_codesOf_13 : decode cX4_codesOf 13 = .ok (.istore 8, 2) := dk_54 8 (dk_at dksX4_codesOf_0 13 rfl rfl)
theorem dX4_codesOf_15 : decode cX4_codesOf 15 = .ok (.iload 8, 2) := dk_21 8 (dk_at dksX4_codesOf_0 15 rfl rfl)
theorem dX4_codesOf_17 : decode cX4_codesOf 17 = .ok (.iload_n 2, 1) := dk_28 (dk_at dksX4_codesOf_0 17 rfl rfl)
theorem dX4_codesOf_18 : decode cX4_codesOf 18 = .ok (.if_icmp .gt 42, 3) := dk_163 0 42 (dk_at dksX4_codesOf_0 18 rfl rfl)
theorem dX4_codesOf_21 : decode cX4_codesOf 21 = .ok (.iload 8, 2) := dk_21 8 (dk_at dksX4_codesOf_0 21 rfl rfl)
theorem dX4_codesOf_23 : decode cX4_codesOf 23 = .ok (.iload_n 3, 1) := dk_29 (dk_at dksX4_codesOf_0 23 rfl rfl)
theorem dX4_codesOf_24 : decode cX4_codesOf 24 = .ok (.if_icmp .gt 36, 3) := dk_163 0 36 (dk_at dksX4_codesOf_1 0 rfl rfl)
theorem dX4_codesOf_27 : decode cX4_codesOf 27 = .ok (.lload 4, 2) := dk_22 4 (dk_at dksX4_codesOf_1 3 rfl rfl)
theorem dX4_codesOf_29 : decode cX4_codesOf 29 = .ok (.lload 6, 2) := dk_22 6 (dk_at dksX4_codesOf_1 5 rfl rfl)
theorem dX4_codesOf_31 : decode cX4_codesOf 31 = .ok (.ladd, 1) := dk_97 (dk_at dksX4_codesOf_1 7 rfl rfl)
theorem dX4_codesOf_32 : decode cX4_codesOf 32 = .ok (.lstore 4, 2) := dk_55 4 (dk_at dksX4_codesOf_1 8 rfl rfl)
theorem dX4_codesOf_34 : decode cX4_codesOf 34 = .ok (.lload 6, 2) := dk_22 6 (dk_at dksX4_codesOf_1 10 rfl rfl)
theorem dX4_codesOf_36 : decode cX4_codesOf 36 = .ok (.ldc2_w 394, 3) := dk_20 1 138 (dk_at dksX4_codesOf_1 12 rfl rfl)
theorem dX4_codesOf_39 : decode cX4_codesOf 39 = .ok (.lmul, 1) := dk_105 (dk_at dksX4_codesOf_1 15 rfl rfl)
theorem dX4_codesOf_40 : decode cX4_codesOf 40 = .ok (.iload_n 3, 1) := dk_29 (dk_at dksX4_codesOf_1 16 rfl rfl)
theorem dX4_codesOf_41 : decode cX4_codesOf 41 = .ok (.iload 8, 2) := dk_21 8 (dk_at dksX4_codesOf_1 17 rfl rfl)
theorem dX4_codesOf_43 : decode cX4_codesOf 43 = .ok (.isub, 1) := dk_100 (dk_at dksX4_codesOf_1 19 rfl rfl)
theorem dX4_codesOf_44 : decode cX4_codesOf 44 = .ok (.i2l, 1) := dk_133 (dk_at dksX4_codesOf_1 20 rfl rfl)
theorem dX4_codesOf_45 : decode cX4_codesOf 45 = .ok (.lmul, 1) := dk_105 (dk_at dksX4_codesOf_1 21 rfl rfl)
theorem dX4_codesOf_46 : decode cX4_codesOf 46 = .ok (.iload 8, 2) := dk_21 8 (dk_at dksX4_codesOf_1 22 rfl rfl)
theorem dX4_codesOf_48 : decode cX4_codesOf 48 = .ok (.i2l, 1) := dk_133 (dk_at dksX4_codesOf_2 0 rfl rfl)
theorem dX4_codesOf_49 : decode cX4_codesOf 49 = .ok (.lconst 1, 1) := dk_10 (dk_at dksX4_codesOf_2 1 rfl rfl)
theorem dX4_codesOf_50 : decode cX4_codesOf 50 = .ok (.ladd, 1) := dk_97 (dk_at dksX4_codesOf_2 2 rfl rfl)
theorem dX4_codesOf_51 : decode cX4_codesOf 51 = .ok (.ldiv, 1) := dk_109 (dk_at dksX4_codesOf_2 3 rfl rfl)
theorem dX4_codesOf_52 : decode cX4_codesOf 52 = .ok (.lstore 6, 2) := dk_55 6 (dk_at dksX4_codesOf_2 4 rfl rfl)
theorem dX4_codesOf_54 : decode cX4_codesOf 54 = .ok (.iinc 8 1, 3) := dk_132 8 1 (dk_at dksX4_codesOf_2 6 rfl rfl)
theorem dX4_codesOf_57 : decode cX4_codesOf 57 = .ok (.goto (-42), 3) := dk_167 255 214 (dk_at dksX4_codesOf_2 9 rfl rfl)
theorem dX4_codesOf_60 : decode cX4_codesOf 60 = .ok (.lload 4, 2) := dk_22 4 (dk_at dksX4_codesOf_2 12 rfl rfl)
theorem dX4_codesOf_62 : decode cX4_codesOf 62 = .ok (.lreturn, 1) := dk_173 (dk_at dksX4_codesOf_2 14 rfl rfl)
abbrev cX4_notesIn : ByteArray := prog_14_method_99_code
def yX4_notesIn : MethodName := ⟨RX4, "notesIn", "(I)I"⟩
def dkwX4_notesIn_1 : List UInt8 := [132, 3, 1, 167, 255, 236, 28, 172]
abbrev dktX4_notesIn_1 : List UInt8 := dkwX4_notesIn_1 ++ []
def dkwX4_notesIn_0 : List UInt8 := [3, 61, 7, 27, 104, 62, 29, 7, 27, 104, 7, 96, 162, 0, 17, 28, 42, 29, 182, 1, 78, 96, 61]
abbrev dktX4_notesIn_0 : List UInt8 := dkwX4_notesIn_0 ++ dktX4_notesIn_1
theorem dksX4_notesIn_0 : cX4_notesIn.data.toList.drop 0 = dktX4_notesIn_0 := by decide +kernel
theorem dksX4_notesIn_1 : cX4_notesIn.data.toList.drop 23 = dktX4_notesIn_1 := dk_seg dksX4_notesIn_0 23 rfl rfl
theorem dX4_notesIn_0 : decode cX4_notesIn 0 = .ok (.iconst 0, 1) := dk_3 (dk_at dksX4_notesIn_0 0 rfl rfl)
theorem dX4_notesIn_1 : decode cX4_notesIn 1 = .ok (.istore_n 2, 1) := dk_61 (dk_at dksX4_notesIn_0 1 rfl rfl)
theorem dX4_notesIn_2 : decode cX4_notesIn 2 = .ok (.iconst 4, 1) := dk_7 (dk_at dksX4_notesIn_0 2 rfl rfl)
theorem dX4_notesIn_3 : decode cX4_notesIn 3 = .ok (.iload_n 1, 1) := dk_27 (dk_at dksX4_notesIn_0 3 rfl rfl)
theorem dX4_notesIn_4 : decode cX4_notesIn 4 = .ok (.imul, 1) := dk_104 (dk_at dksX4_notesIn_0 4 rfl rfl)
theorem dX4_notesIn_5 : decode cX4_notesIn 5 = .ok (.istore_n 3, 1) := dk_62 (dk_at dksX4_notesIn_0 5 rfl rfl)
theorem dX4_notesIn_6 : decode cX4_notesIn 6 = .ok (.iload_n 3, 1) := dk_29 (dk_at dksX4_notesIn_0 6 rfl rfl)
theorem dX4_notesIn_7 : decode cX4_notesIn 7 = .ok (.iconst 4, 1) := dk_7 (dk_at dksX4_notesIn_0 7 rfl rfl)
theorem dX4_notesIn_8 : decode cX4_notesIn 8 = .ok (.iload_n 1, 1) := dk_27 (dk_at dksX4_notesIn_0 8 rfl rfl)
theorem dX4_notesIn_9 : decode cX4_notesIn 9 = .ok (.imul, 1) := dk_104 (dk_at dksX4_notesIn_0 9 rfl rfl)
theorem dX4_notesIn_10 : decode cX4_notesIn 10 = .ok (.iconst 4, 1) := dk_7 (dk_at dksX4_notesIn_0 10 rfl rfl)
theorem dX4_notesIn_11 : decode cX4_notesIn 11 = .ok (.iadd, 1) := dk_96 (dk_at dksX4_notesIn_0 11 rfl rfl)
theorem dX4_notesIn_12 : decode cX4_notesIn 12 = .ok (.if_icmp .ge 17, 3) := dk_162 0 17 (dk_at dksX4_notesIn_0 12 rfl rfl)
theorem dX4_notesIn_15 : decode cX4_notesIn 15 = .ok (.iload_n 2, 1) := dk_28 (dk_at dksX4_notesIn_0 15 rfl rfl)
theorem dX4_notesIn_16 : decode cX4_notesIn 16 = .ok (.aload_n 0, 1) := dk_42 (dk_at dksX4_notesIn_0 16 rfl rfl)
theorem dX4_notesIn_17 : decode cX4_notesIn 17 = .ok (.iload_n 3, 1) := dk_29 (dk_at dksX4_notesIn_0 17 rfl rfl)
theorem dX4_notesIn_18 : decode cX4_notesIn 18 = .ok (.invokevirtual 334, 3) := dk_182 1 78 (dk_at dksX4_notesIn_0 18 rfl rfl)
theorem dX4_notesIn_21 : decode cX4_notesIn 21 = .ok (.iadd, 1) := dk_96 (dk_at dksX4_notesIn_0 21 rfl rfl)
theorem dX4_notesIn_22 : decode cX4_notesIn 22 = .ok (.istore_n 2, 1) := dk_61 (dk_at dksX4_notesIn_0 22 rfl rfl)
theorem dX4_notesIn_23 : decode cX4_notesIn 23 = .ok (.iinc 3 1, 3) := dk_132 3 1 (dk_at dksX4_notesIn_1 0 rfl rfl)
theorem dX4_notesIn_26 : decode cX4_notesIn 26 = .ok (.goto (-20), 3) := dk_167 255 236 (dk_at dksX4_notesIn_1 3 rfl rfl)
theorem dX4_notesIn_29 : decode cX4_notesIn 29 = .ok (.iload_n 2, 1) := dk_28 (dk_at dksX4_notesIn_1 6 rfl rfl)
theorem dX4_notesIn_30 : decode cX4_notesIn 30 = .ok (.ireturn, 1) := dk_172 (dk_at dksX4_notesIn_1 7 rfl rfl)
abbrev cX4_slips : ByteArray := prog_14_method_102_code
def yX4_slips : MethodName := ⟨RX4, "slips", "(II)I"⟩
def dkwX4_slips_2 : List UInt8 := [148, 155, 0, 5, 29, 172, 132, 3, 1, 167, 255, 233, 2, 172]
abbrev dktX4_slips_2 : List UInt8 := dkwX4_slips_2 ++ []
def dkwX4_slips_1 : List UInt8 := [182, 1, 14, 154, 0, 5, 3, 172, 3, 62, 29, 16, 12, 163, 0, 23, 42, 27, 29, 182, 1, 140, 28, 133]
abbrev dktX4_slips_1 : List UInt8 := dkwX4_slips_1 ++ dktX4_slips_2
def dkwX4_slips_0 : List UInt8 := [42, 3, 181, 0, 120, 42, 27, 182, 1, 75, 153, 0, 19, 42, 28, 3, 19, 1, 144, 184, 1, 41, 5]
abbrev dktX4_slips_0 : List UInt8 := dkwX4_slips_0 ++ dktX4_slips_1
theorem dksX4_slips_0 : cX4_slips.data.toList.drop 0 = dktX4_slips_0 := by decide +kernel
theorem dksX4_slips_1 : cX4_slips.data.toList.drop 23 = dktX4_slips_1 := dk_seg dksX4_slips_0 23 rfl rfl
theorem dksX4_slips_2 : cX4_slips.data.toList.drop 47 = dktX4_slips_2 := dk_seg dksX4_slips_1 24 rfl rfl
theorem dX4_slips_0 : decode cX4_slips 0 = .ok (.aload_n 0, 1) := dk_42 (dk_at dksX4_slips_0 0 rfl rfl)
theorem dX4_slips_1 : decode cX4_slips 1 = .ok (.iconst 0, 1) := dk_3 (dk_at dksX4_slips_0 1 rfl rfl)
theorem dX4_slips_2 : decode cX4_slips 2 = .ok (.putfield 120, 3) := dk_181 0 120 (dk_at dksX4_slips_0 2 rfl rfl)
theorem dX4_slips_5 : decode cX4_slips 5 = .ok (.aload_n 0, 1) := dk_42 (dk_at dksX4_slips_0 5 rfl rfl)
theorem dX4_slips_6 : decode cX4_slips 6 = .ok (.iload_n 1, 1) := dk_27 (dk_at dksX4_slips_0 6 rfl rfl)
theorem dX4_slips_7 : decode cX4_slips 7 = .ok (.invokevirtual 331, 3) := dk_182 1 75 (dk_at dksX4_slips_0 7 rfl rfl)
theorem dX4_slips_10 : decode cX4_slips 10 = .ok (.ifCond .eq 19, 3) := dk_153 0 19 (dk_at dksX4_slips_0 10 rfl rfl)
theorem dX4_slips_13 : decode cX4_slips 13 = .ok (.aload_n 0, 1) := dk_42 (dk_at dksX4_slips_0 13 rfl rfl)
theorem dX4_slips_14 : decode cX4_slips 14 = .ok (.iload_n 2, 1) := dk_28 (dk_at dksX4_slips_0 14 rfl rfl)
theorem dX4_slips_15 : decode cX4_slips 15 = .ok (.iconst 0, 1) := dk_3 (dk_at dksX4_slips_0 15 rfl rfl)
theorem dX4_slips_16 : decode cX4_slips 16 = .ok (.ldc_w 400, 3) := dk_19 1 144 (dk_at dksX4_slips_0 16 rfl rfl)
theorem dX4_slips_19 : decode cX4_slips 19 = .ok (.invokestatic 297, 3) := dk_184 1 41 (dk_at dksX4_slips_0 19 rfl rfl)
theorem dX4_slips_22 : decode cX4_slips 22 = .ok (.iconst 2, 1) := dk_5 (dk_at dksX4_slips_0 22 rfl rfl)
theorem dX4_slips_23 : decode cX4_slips 23 = .ok (.invokevirtual 270, 3) := dk_182 1 14 (dk_at dksX4_slips_1 0 rfl rfl)
theorem dX4_slips_26 : decode cX4_slips 26 = .ok (.ifCond .ne 5, 3) := dk_154 0 5 (dk_at dksX4_slips_1 3 rfl rfl)
theorem dX4_slips_29 : decode cX4_slips 29 = .ok (.iconst 0, 1) := dk_3 (dk_at dksX4_slips_1 6 rfl rfl)
theorem dX4_slips_30 : decode cX4_slips 30 = .ok (.ireturn, 1) := dk_172 (dk_at dksX4_slips_1 7 rfl rfl)
theorem dX4_slips_31 : decode cX4_slips 31 = .ok (.iconst 0, 1) := dk_3 (dk_at dksX4_slips_1 8 rfl rfl)
theorem dX4_slips_32 : decode cX4_slips 32 = .ok (.istore_n 3, 1) := dk_62 (dk_at dksX4_slips_1 9 rfl rfl)
theorem dX4_slips_33 : decode cX4_slips 33 = .ok (.iload_n 3, 1) := dk_29 (dk_at dksX4_slips_1 10 rfl rfl)
theorem dX4_slips_34 : decode cX4_slips 34 = .ok (.bipush 12, 2) := dk_16 12 (dk_at dksX4_slips_1 11 rfl rfl)
theorem dX4_slips_36 : decode cX4_slips 36 = .ok (.if_icmp .gt 23, 3) := dk_163 0 23 (dk_at dksX4_slips_1 13 rfl rfl)
theorem dX4_slips_39 : decode cX4_slips 39 = .ok (.aload_n 0, 1) := dk_42 (dk_at dksX4_slips_1 16 rfl rfl)
theorem dX4_slips_40 : decode cX4_slips 40 = .ok (.iload_n 1, 1) := dk_27 (dk_at dksX4_slips_1 17 rfl rfl)
theorem dX4_slips_41 : decode cX4_slips 41 = .ok (.iload_n 3, 1) := dk_29 (dk_at dksX4_slips_1 18 rfl rfl)
theorem dX4_slips_42 : decode cX4_slips 42 = .ok (.invokevirtual 396, 3) := dk_182 1 140 (dk_at dksX4_slips_1 19 rfl rfl)
theorem dX4_slips_45 : decode cX4_slips 45 = .ok (.iload_n 2, 1) := dk_28 (dk_at dksX4_slips_1 22 rfl rfl)
theorem dX4_slips_46 : decode cX4_slips 46 = .ok (.i2l, 1) := dk_133 (dk_at dksX4_slips_1 23 rfl rfl)
theorem dX4_slips_47 : decode cX4_slips 47 = .ok (.lcmp, 1) := dk_148 (dk_at dksX4_slips_2 0 rfl rfl)
theorem dX4_slips_48 : decode cX4_slips 48 = .ok (.ifCond .lt 5, 3) := dk_155 0 5 (dk_at dksX4_slips_2 1 rfl rfl)
theorem dX4_slips_51 : decode cX4_slips 51 = .ok (.iload_n 3, 1) := dk_29 (dk_at dksX4_slips_2 4 rfl rfl)
theorem dX4_slips_52 : decode cX4_slips 52 = .ok (.ireturn, 1) := dk_172 (dk_at dksX4_slips_2 5 rfl rfl)
theorem dX4_slips_53 : decode cX4_slips 53 = .ok (.iinc 3 1, 3) := dk_132 3 1 (dk_at dksX4_slips_2 6 rfl rfl)
theorem dX4_slips_56 : decode cX4_slips 56 = .ok (.goto (-23), 3) := dk_167 255 233 (dk_at dksX4_slips_2 9 rfl rfl)
theorem dX4_slips_59 : decode cX4_slips 59 = .ok (.iconst (-1), 1) := dk_2 (dk_at dksX4_slips_2 12 rfl rfl)
theorem dX4_slips_60 : decode cX4_slips 60 = .ok (.ireturn, 1) := dk_172 (dk_at dksX4_slips_2 13 rfl rfl)
abbrev cX4_hear : ByteArray := prog_14_method_103_code
def yX4_hear : MethodName := ⟨RX4, "hear", "(IIII)I"⟩
def dkwX4_hear_5 : List UInt8 := [181, 1, 34, 42, 180, 1, 34, 172]
abbrev dktX4_hear_5 : List UInt8 := dkwX4_hear_5 ++ []
def dkwX4_hear_4 : List UInt8 := [29, 79, 42, 180, 0, 105, 6, 42, 180, 1, 34, 104, 5, 96, 21, 4, 79, 42, 89, 180, 1, 34, 4, 96]
abbrev dktX4_hear_4 : List UInt8 := dkwX4_hear_4 ++ dktX4_hear_5
def dkwX4_hear_3 : List UInt8 := [180, 0, 105, 6, 42, 180, 1, 34, 104, 21, 5, 79, 42, 180, 0, 105, 6, 42, 180, 1, 34, 104, 4, 96]
abbrev dktX4_hear_3 : List UInt8 := dkwX4_hear_3 ++ dktX4_hear_4
def dkwX4_hear_2 : List UInt8 := [182, 1, 78, 162, 0, 14, 21, 4, 3, 16, 60, 184, 1, 41, 154, 0, 9, 42, 5, 182, 1, 101, 172, 42]
abbrev dktX4_hear_2 : List UInt8 := dkwX4_hear_2 ++ dktX4_hear_3
def dkwX4_hear_1 : List UInt8 := [7, 27, 104, 28, 96, 54, 5, 42, 180, 1, 34, 16, 8, 159, 0, 28, 29, 155, 0, 24, 29, 42, 21, 5]
abbrev dktX4_hear_1 : List UInt8 := dkwX4_hear_1 ++ dktX4_hear_2
def dkwX4_hear_0 : List UInt8 := [42, 3, 181, 0, 120, 42, 27, 182, 1, 75, 153, 0, 12, 42, 28, 6, 182, 1, 71, 154, 0, 5, 3, 172]
abbrev dktX4_hear_0 : List UInt8 := dkwX4_hear_0 ++ dktX4_hear_1
theorem dksX4_hear_0 : cX4_hear.data.toList.drop 0 = dktX4_hear_0 := by decide +kernel
theorem dksX4_hear_1 : cX4_hear.data.toList.drop 24 = dktX4_hear_1 := dk_seg dksX4_hear_0 24 rfl rfl
theorem dksX4_hear_2 : cX4_hear.data.toList.drop 48 = dktX4_hear_2 := dk_seg dksX4_hear_1 24 rfl rfl
theorem dksX4_hear_3 : cX4_hear.data.toList.drop 72 = dktX4_hear_3 := dk_seg dksX4_hear_2 24 rfl rfl
theorem dksX4_hear_4 : cX4_hear.data.toList.drop 96 = dktX4_hear_4 := dk_seg dksX4_hear_3 24 rfl rfl
theorem dksX4_hear_5 : cX4_hear.data.toList.drop 120 = dktX4_hear_5 := dk_seg dksX4_hear_4 24 rfl rfl
theorem dX4_hear_0 : decode cX4_hear 0 = .ok (.aload_n 0, 1) := dk_42 (dk_at dksX4_hear_0 0 rfl rfl)
theorem dX4_hear_1 : decode cX4_hear 1 = .ok (.iconst 0, 1) := dk_3 (dk_at dksX4_hear_0 1 rfl rfl)
theorem dX4_hear_2 : decode cX4_hear 2 = .ok (.putfield 120, 3) := dk_181 0 120 (dk_at dksX4_hear_0 2 rfl rfl)
theorem dX4_hear_5 : decode cX4_hear 5 = .ok (.aload_n 0, 1) := dk_42 (dk_at dksX4_hear_0 5 rfl rfl)
theorem dX4_hear_6 : decode cX4_hear 6 = .ok (.iload_n 1, 1) := dk_27 (dk_at dksX4_hear_0 6 rfl rfl)
theorem dX4_hear_7 : decode cX4_hear 7 = .ok (.invokevirtual 331, 3) := dk_182 1 75 (dk_at dksX4_hear_0 7 rfl rfl)
theorem dX4_hear_10 : decode cX4_hear 10 = .ok (.ifCond .eq 12, 3) := dk_153 0 12 (dk_at dksX4_hear_0 10 rfl rfl)
theorem dX4_hear_13 : decode cX4_hear 13 = .ok (.aload_n 0, 1) := dk_42 (dk_at dksX4_hear_0 13 rfl rfl)
theorem dX4_hear_14 : decode cX4_hear 14 = .ok (.iload_n 2, 1) := dk_28 (dk_at dksX4_hear_0 14 rfl rfl)
theorem dX4_hear_15 : decode cX4_hear 15 = .ok (.iconst 3, 1) := dk_6 (dk_at dksX4_hear_0 15 rfl rfl)
theorem dX4_hear_16 : decode cX4_hear 16 = .ok (.invokevirtual 327, 3) := dk_182 1 71 (dk_at dksX4_hear_0 16 rfl rfl)
theorem dX4_hear_19 : decode cX4_hear 19 = .ok (.ifCond .ne 5, 3) := dk_154 0 5 (dk_at dksX4_hear_0 19 rfl rfl)
theorem dX4_hear_22 : decode cX4_hear 22 = .ok (.iconst 0, 1) := dk_3 (dk_at dksX4_hear_0 22 rfl rfl)
theorem dX4_hear_23 : decode cX4_hear 23 = .ok (.ireturn, 1) := dk_172 (dk_at dksX4_hear_0 23 rfl rfl)
theorem dX4_hear_24 : decode cX4_hear 24 = .ok (.iconst 4, 1) := dk_7 (dk_at dksX4_hear_1 0 rfl rfl)
theorem dX4_hear_25 : decode cX4_hear 25 = .ok (.iload_n 1, 1) := dk_27 (dk_at dksX4_hear_1 1 rfl rfl)
theorem dX4_hear_26 : decode cX4_hear 26 = .ok (.imul, 1) := dk_104 (dk_at dksX4_hear_1 2 rfl rfl)
theorem dX4_hear_27 : decode cX4_hear 27 = .ok (.iload_n 2, 1) := dk_28 (dk_at dksX4_hear_1 3 rfl rfl)
theorem dX4_hear_28 : decode cX4_hear 28 = .ok (.iadd, 1) := dk_96 (dk_at dksX4_hear_1 4 rfl rfl)
theorem dX4_hear_29 : decode cX4_hear 29 = .ok (.istore 5, 2) := dk_54 5 (dk_at dksX4_hear_1 5 rfl rfl)
theorem dX4_hear_31 : decode cX4_hear 31 = .ok (.aload_n 0, 1) := dk_42 (dk_at dksX4_hear_1 7 rfl rfl)
theorem dX4_hear_32 : decode cX4_hear 32 = .ok (.getfield 290, 3) := dk_180 1 34 (dk_at dksX4_hear_1 8 rfl rfl)
theorem dX4_hear_35 : decode cX4_hear 35 = .ok (.bipush 8, 2) := dk_16 8 (dk_at dksX4_hear_1 11 rfl rfl)
theorem dX4_hear_37 : decode cX4_hear 37 = .ok (.if_icmp .eq 28, 3) := dk_159 0 28 (dk_at dksX4_hear_1 13 rfl rfl)
theorem dX4_hear_40 : decode cX4_hear 40 = .ok (.iload_n 3, 1) := dk_29 (dk_at dksX4_hear_1 16 rfl rfl)
theorem dX4_hear_41 : decode cX4_hear 41 = .ok (.ifCond .lt 24, 3) := dk_155 0 24 (dk_at dksX4_hear_1 17 rfl rfl)
theorem dX4_hear_44 : decode cX4_hear 44 = .ok (.iload_n 3, 1) := dk_29 (dk_at dksX4_hear_1 20 rfl rfl)
theorem dX4_hear_45 : decode cX4_hear 45 = .ok (.aload_n 0, 1) := dk_42 (dk_at dksX4_hear_1 21 rfl rfl)
theorem dX4_hear_46 : decode cX4_hear 46 = .ok (.iload 5, 2) := dk_21 5 (dk_at dksX4_hear_1 22 rfl rfl)
theorem dX4_hear_48 : decode cX4_hear 48 = .ok (.invokevirtual 334, 3) := dk_182 1 78 (dk_at dksX4_hear_2 0 rfl rfl)
theorem dX4_hear_51 : decode cX4_hear 51 = .ok (.if_icmp .ge 14, 3) := dk_162 0 14 (dk_at dksX4_hear_2 3 rfl rfl)
theorem dX4_hear_54 : decode cX4_hear 54 = .ok (.iload 4, 2) := dk_21 4 (dk_at dksX4_hear_2 6 rfl rfl)
theorem dX4_hear_56 : decode cX4_hear 56 = .ok (.iconst 0, 1) := dk_3 (dk_at dksX4_hear_2 8 rfl rfl)
theorem dX4_hear_57 : decode cX4_hear 57 = .ok (.bipush 60, 2) := dk_16 60 (dk_at dksX4_hear_2 9 rfl rfl)
theorem dX4_hear_59 : decode cX4_hear 59 = .ok (.invokestatic 297, 3) := dk_184 1 41 (dk_at dksX4_hear_2 11 rfl rfl)
theorem dX4_hear_62 : decode cX4_hear 62 = .ok (.ifCond .ne 9, 3) := dk_154 0 9 (dk_at dksX4_hear_2 14 rfl rfl)
theorem dX4_hear_65 : decode cX4_hear 65 = .ok (.aload_n 0, 1) := dk_42 (dk_at dksX4_hear_2 17 rfl rfl)
theorem dX4_hear_66 : decode cX4_hear 66 = .ok (.iconst 2, 1) := dk_5 (dk_at dksX4_hear_2 18 rfl rfl)
theorem dX4_hear_67 : decode cX4_hear 67 = .ok (.invokevirtual 357, 3) := dk_182 1 101 (dk_at dksX4_hear_2 19 rfl rfl)
theorem dX4_hear_70 : decode cX4_hear 70 = .ok (.ireturn, 1) := dk_172 (dk_at dksX4_hear_2 22 rfl rfl)
theorem dX4_hear_71 : decode cX4_hear 71 = .ok (.aload_n 0, 1) := dk_42 (dk_at dksX4_hear_2 23 rfl rfl)
theorem dX4_hear_72 : decode cX4_hear 72 = .ok (.getfield 105, 3) := dk_180 0 105 (dk_at dksX4_hear_3 0 rfl rfl)
theorem dX4_hear_75 : decode cX4_hear 75 = .ok (.iconst 3, 1) := dk_6 (dk_at dksX4_hear_3 3 rfl rfl)
theorem dX4_hear_76 : decode cX4_hear 76 = .ok (.aload_n 0, 1) := dk_42 (dk_at dksX4_hear_3 4 rfl rfl)
theorem dX4_hear_77 : decode cX4_hear 77 = .ok (.getfield 290, 3) := dk_180 1 34 (dk_at dksX4_hear_3 5 rfl rfl)
theorem dX4_hear_80 : decode cX4_hear 80 = .ok (.imul, 1) := dk_104 (dk_at dksX4_hear_3 8 rfl rfl)
theorem dX4_hear_81 : decode cX4_hear 81 = .ok (.iload 5, 2) := dk_21 5 (dk_at dksX4_hear_3 9 rfl rfl)
theorem dX4_hear_83 : decode cX4_hear 83 = .ok (.iastore, 1) := dk_79 (dk_at dksX4_hear_3 11 rfl rfl)
theorem dX4_hear_84 : decode cX4_hear 84 = .ok (.aload_n 0, 1) := dk_42 (dk_at dksX4_hear_3 12 rfl rfl)
theorem dX4_hear_85 : decode cX4_hear 85 = .ok (.getfield 105, 3) := dk_180 0 105 (dk_at dksX4_hear_3 13 rfl rfl)
theorem dX4_hear_88 : decode cX4_hear 88 = .ok (.iconst 3, 1) := dk_6 (dk_at dksX4_hear_3 16 rfl rfl)
theorem dX4_hear_89 : decode cX4_hear 89 = .ok (.aload_n 0, 1) := dk_42 (dk_at dksX4_hear_3 17 rfl rfl)
theorem dX4_hear_90 : decode cX4_hear 90 = .ok (.getfield 290, 3) := dk_180 1 34 (dk_at dksX4_hear_3 18 rfl rfl)
theorem dX4_hear_93 : decode cX4_hear 93 = .ok (.imul, 1) := dk_104 (dk_at dksX4_hear_3 21 rfl rfl)
theorem dX4_hear_94 : decode cX4_hear 94 = .ok (.iconst 1, 1) := dk_4 (dk_at dksX4_hear_3 22 rfl rfl)
theorem dX4_hear_95 : decode cX4_hear 95 = .ok (.iadd, 1) := dk_96 (dk_at dksX4_hear_3 23 rfl rfl)
theorem dX4_hear_96 : decode cX4_hear 96 = .ok (.iload_n 3, 1) := dk_29 (dk_at dksX4_hear_4 0 rfl rfl)
theorem dX4_hear_97 : decode cX4_hear 97 = .ok (.iastore, 1) := dk_79 (dk_at dksX4_hear_4 1 rfl rfl)
theorem dX4_hear_98 : decode cX4_hear 98 = .ok (.aload_n 0, 1) := dk_42 (dk_at dksX4_hear_4 2 rfl rfl)
theorem dX4_hear_99 : decode cX4_hear 99 = .ok (.getfield 105, 3) := dk_180 0 105 (dk_at dksX4_hear_4 3 rfl rfl)
theorem dX4_hear_102 : decode cX4_hear 102 = .ok (.iconst 3, 1) := dk_6 (dk_at dksX4_hear_4 6 rfl rfl)
theorem dX4_hear_103 : decode cX4_hear 103 = .ok (.aload_n 0, 1) := dk_42 (dk_at dksX4_hear_4 7 rfl rfl)
theorem dX4_hear_104 : decode cX4_hear 104 = .ok (.getfield 290, 3) := dk_180 1 34 (dk_at dksX4_hear_4 8 rfl rfl)
theorem dX4_hear_107 : decode cX4_hear 107 = .ok (.imul, 1) := dk_104 (dk_at dksX4_hear_4 11 rfl rfl)
theorem dX4_hear_108 : decode cX4_hear 108 = .ok (.iconst 2, 1) := dk_5 (dk_at dksX4_hear_4 12 rfl rfl)
theorem dX4_hear_109 : decode cX4_hear 109 = .ok (.iadd, 1) := dk_96 (dk_at dksX4_hear_4 13 rfl rfl)
theorem dX4_hear_110 : decode cX4_hear 110 = .ok (.iload 4, 2) := dk_21 4 (dk_at dksX4_hear_4 14 rfl rfl)
theorem dX4_hear_112 : decode cX4_hear 112 = .ok (.iastore, 1) := dk_79 (dk_at dksX4_hear_4 16 rfl rfl)
theorem dX4_hear_113 : decode cX4_hear 113 = .ok (.aload_n 0, 1) := dk_42 (dk_at dksX4_hear_4 17 rfl rfl)
theorem dX4_hear_114 : decode cX4_hear 114 = .ok (.dup, 1) := dk_89 (dk_at dksX4_hear_4 18 rfl rfl)
theorem dX4_hear_115 : decode cX4_hear 115 = .ok (.getfield 290, 3) := dk_180 1 34 (dk_at dksX4_hear_4 19 rfl rfl)
theorem dX4_hear_118 : decode cX4_hear 118 = .ok (.iconst 1, 1) := dk_4 (dk_at dksX4_hear_4 22 rfl rfl)
theorem dX4_hear_119 : decode cX4_hear 119 = .ok (.iadd, 1) := dk_96 (dk_at dksX4_hear_4 23 rfl rfl)
theorem dX4_hear_120 : decode cX4_hear 120 = .ok (.putfield 290, 3) := dk_181 1 34 (dk_at dksX4_hear_5 0 rfl rfl)
theorem dX4_hear_123 : decode cX4_hear 123 = .ok (.aload_n 0, 1) := dk_42 (dk_at dksX4_hear_5 3 rfl rfl)
theorem dX4_hear_124 : decode cX4_hear 124 = .ok (.getfield 290, 3) := dk_180 1 34 (dk_at dksX4_hear_5 4 rfl rfl)
theorem dX4_hear_127 : decode cX4_hear 127 = .ok (.ireturn, 1) := dk_172 (dk_at dksX4_hear_5 7 rfl rfl)
abbrev cX4_forget : ByteArray := prog_14_method_104_code
def yX4_forget : MethodName := ⟨RX4, "forget", "()V"⟩
def dkwX4_forget_0 : List UInt8 := [42, 3, 181, 0, 120, 42, 3, 181, 1, 34, 177]
abbrev dktX4_forget_0 : List UInt8 := dkwX4_forget_0 ++ []
theorem dksX4_forget_0 : cX4_forget.data.toList.drop 0 = dktX4_forget_0 := by decide +kernel
theorem dX4_forget_0 : decode cX4_forget 0 = .ok (.aload_n 0, 1) := dk_42 (dk_at dksX4_forget_0 0 rfl rfl)
theorem dX4_forget_1 : decode cX4_forget 1 = .ok (.iconst 0, 1) := dk_3 (dk_at dksX4_forget_0 1 rfl rfl)
theorem dX4_forget_2 : decode cX4_forget 2 = .ok (.putfield 120, 3) := dk_181 0 120 (dk_at dksX4_forget_0 2 rfl rfl)
theorem dX4_forget_5 : decode cX4_forget 5 = .ok (.aload_n 0, 1) := dk_42 (dk_at dksX4_forget_0 5 rfl rfl)
theorem dX4_forget_6 : decode cX4_forget 6 = .ok (.iconst 0, 1) := dk_3 (dk_at dksX4_forget_0 6 rfl rfl)
theorem dX4_forget_7 : decode cX4_forget 7 = .ok (.putfield 290, 3) := dk_181 1 34 (dk_at dksX4_forget_0 7 rfl rfl)
theorem dX4_forget_10 : decode cX4_forget 10 = .ok (.return_, 1) := dk_177 (dk_at dksX4_forget_0 10 rfl rfl)
abbrev cX4_flat : ByteArray := prog_14_method_106_code
def yX4_flat : MethodName := ⟨RX4, "flat", "(I)I"⟩
def dkwX4_flat_4 : List UInt8 := [132, 5, 1, 167, 255, 216, 132, 4, 1, 167, 255, 198, 27, 154, 0, 7, 28, 167, 0, 4, 29, 172]
abbrev dktX4_flat_4 : List UInt8 := dkwX4_flat_4 ++ []
def dkwX4_flat_3 : List UInt8 := [154, 0, 6, 167, 0, 20, 132, 2, 1, 29, 2, 160, 0, 12, 16, 10, 21, 4, 104, 21, 5, 96, 62]
abbrev dktX4_flat_3 : List UInt8 := dkwX4_flat_3 ++ dktX4_flat_4
def dkwX4_flat_2 : List UInt8 := [180, 1, 21, 162, 0, 55, 4, 54, 5, 21, 5, 8, 163, 0, 40, 42, 21, 4, 21, 5, 182, 1, 145]
abbrev dktX4_flat_2 : List UInt8 := dkwX4_flat_2 ++ dktX4_flat_3
def dkwX4_flat_1 : List UInt8 := [182, 1, 145, 153, 0, 7, 4, 167, 0, 4, 3, 172, 3, 61, 2, 62, 3, 54, 4, 21, 4, 42]
abbrev dktX4_flat_1 : List UInt8 := dkwX4_flat_1 ++ dktX4_flat_2
def dkwX4_flat_0 : List UInt8 := [42, 3, 181, 0, 120, 42, 27, 5, 182, 1, 71, 154, 0, 5, 3, 172, 27, 5, 160, 0, 18, 42, 2, 3]
abbrev dktX4_flat_0 : List UInt8 := dkwX4_flat_0 ++ dktX4_flat_1
theorem dksX4_flat_0 : cX4_flat.data.toList.drop 0 = dktX4_flat_0 := by decide +kernel
theorem dksX4_flat_1 : cX4_flat.data.toList.drop 24 = dktX4_flat_1 := dk_seg dksX4_flat_0 24 rfl rfl
theorem dksX4_flat_2 : cX4_flat.data.toList.drop 46 = dktX4_flat_2 := dk_seg dksX4_flat_1 22 rfl rfl
theorem dksX4_flat_3 : cX4_flat.data.toList.drop 69 = dktX4_flat_3 := dk_seg dksX4_flat_2 23 rfl rfl
theorem dksX4_flat_4 : cX4_flat.data.toList.drop 92 = dktX4_flat_4 := dk_seg dksX4_flat_3 23 rfl rfl
theorem dX4_flat_0 : decode cX4_flat 0 = .ok (.aload_n 0, 1) := dk_42 (dk_at dksX4_flat_0 0 rfl rfl)
theorem dX4_flat_1 : decode cX4_flat 1 = .ok (.iconst 0, 1) := dk_3 (dk_at dksX4_flat_0 1 rfl rfl)
theorem dX4_flat_2 : decode cX4_flat 2 = .ok (.putfield 120, 3) := dk_181 0 120 (dk_at dksX4_flat_0 2 rfl rfl)
theorem dX4_flat_5 : decode cX4_flat 5 = .ok (.aload_n 0, 1) := dk_42 (dk_at dksX4_flat_0 5 rfl rfl)
theorem dX4_flat_6 : decode cX4_flat 6 = .ok (.iload_n 1, 1) := dk_27 (dk_at dksX4_flat_0 6 rfl rfl)
theorem dX4_flat_7 : decode cX4_flat 7 = .ok (.iconst 2, 1) := dk_5 (dk_at dksX4_flat_0 7 rfl rfl)
theorem dX4_flat_8 : decode cX4_flat 8 = .ok (.invokevirtual 327, 3) := dk_182 1 71 (dk_at dksX4_flat_0 8 rfl rfl)
theorem dX4_flat_11 : decode cX4_flat 11 = .ok (.ifCond .ne 5, 3) := dk_154 0 5 (dk_at dksX4_flat_0 11 rfl rfl)
theorem dX4_flat_14 : decode cX4_flat 14 = .ok (.iconst 0, 1) := dk_3 (dk_at dksX4_flat_0 14 rfl rfl)
theorem dX4_flat_15 : decode cX4_flat 15 = .ok (.ireturn, 1) := dk_172 (dk_at dksX4_flat_0 15 rfl rfl)
theorem dX4_flat_16 : decode cX4_flat 16 = .ok (.iload_n 1, 1) := dk_27 (dk_at dksX4_flat_0 16 rfl rfl)
theorem dX4_flat_17 : decode cX4_flat 17 = .ok (.iconst 2, 1) := dk_5 (dk_at dksX4_flat_0 17 rfl rfl)
theorem dX4_flat_18 : decode cX4_flat 18 = .ok (.if_icmp .ne 18, 3) := dk_160 0 18 (dk_at dksX4_flat_0 18 rfl rfl)
theorem dX4_flat_21 : decode cX4_flat 21 = .ok (.aload_n 0, 1) := dk_42 (dk_at dksX4_flat_0 21 rfl rfl)
theorem dX4_flat_22 : decode cX4_flat 22 = .ok (.iconst (-1), 1) := dk_2 (dk_at dksX4_flat_0 22 rfl rfl)
theorem dX4_flat_23 : decode cX4_flat 23 = .ok (.iconst 0, 1) := dk_3 (dk_at dksX4_flat_0 23 rfl rfl)
theorem dX4_flat_24 : decode cX4_flat 24 = .ok (.invokevirtual 401, 3) := dk_182 1 145 (dk_at dksX4_flat_1 0 rfl rfl)
theorem dX4_flat_27 : decode cX4_flat 27 = .ok (.ifCond .eq 7, 3) := dk_153 0 7 (dk_at dksX4_flat_1 3 rfl rfl)
theorem dX4_flat_30 : decode cX4_flat 30 = .ok (.iconst 1, 1) := dk_4 (dk_at dksX4_flat_1 6 rfl rfl)
theorem dX4_flat_31 : decode cX4_flat 31 = .ok (.goto 4, 3) := dk_167 0 4 (dk_at dksX4_flat_1 7 rfl rfl)
theorem dX4_flat_34 : decode cX4_flat 34 = .ok (.iconst 0, 1) := dk_3 (dk_at dksX4_flat_1 10 rfl rfl)
theorem dX4_flat_35 : decode cX4_flat 35 = .ok (.ireturn, 1) := dk_172 (dk_at dksX4_flat_1 11 rfl rfl)
theorem dX4_flat_36 : decode cX4_flat 36 = .ok (.iconst 0, 1) := dk_3 (dk_at dksX4_flat_1 12 rfl rfl)
theorem dX4_flat_37 : decode cX4_flat 37 = .ok (.istore_n 2, 1) := dk_61 (dk_at dksX4_flat_1 13 rfl rfl)
theorem dX4_flat_38 : decode cX4_flat 38 = .ok (.iconst (-1), 1) := dk_2 (dk_at dksX4_flat_1 14 rfl rfl)
theorem dX4_flat_39 : decode cX4_flat 39 = .ok (.istore_n 3, 1) := dk_62 (dk_at dksX4_flat_1 15 rfl rfl)
theorem dX4_flat_40 : decode cX4_flat 40 = .ok (.iconst 0, 1) := dk_3 (dk_at dksX4_flat_1 16 rfl rfl)
theorem dX4_flat_41 : decode cX4_flat 41 = .ok (.istore 4, 2) := dk_54 4 (dk_at dksX4_flat_1 17 rfl rfl)
theorem dX4_flat_43 : decode cX4_flat 43 = .ok (.iload 4, 2) := dk_21 4 (dk_at dksX4_flat_1 19 rfl rfl)
theorem dX4_flat_45 : decode cX4_flat 45 = .ok (.aload_n 0, 1) := dk_42 (dk_at dksX4_flat_1 21 rfl rfl)
theorem dX4_flat_46 : decode cX4_flat 46 = .ok (.getfield 277, 3) := dk_180 1 21 (dk_at dksX4_flat_2 0 rfl rfl)
theorem dX4_flat_49 : decode cX4_flat 49 = .ok (.if_icmp .ge 55, 3) := dk_162 0 55 (dk_at dksX4_flat_2 3 rfl rfl)
theorem dX4_flat_52 : decode cX4_flat 52 = .ok (.iconst 1, 1) := dk_4 (dk_at dksX4_flat_2 6 rfl rfl)
theorem dX4_flat_53 : decode cX4_flat 53 = .ok (.istore 5, 2) := dk_54 5 (dk_at dksX4_flat_2 7 rfl rfl)
theorem dX4_flat_55 : decode cX4_flat 55 = .ok (.iload 5, 2) := dk_21 5 (dk_at dksX4_flat_2 9 rfl rfl)
theorem dX4_flat_57 : decode cX4_flat 57 = .ok (.iconst 5, 1) := dk_8 (dk_at dksX4_flat_2 11 rfl rfl)
theorem dX4_flat_58 : decode cX4_flat 58 = .ok (.if_icmp .gt 40, 3) := dk_163 0 40 (dk_at dksX4_flat_2 12 rfl rfl)
theorem dX4_flat_61 : decode cX4_flat 61 = .ok (.aload_n 0, 1) := dk_42 (dk_at dksX4_flat_2 15 rfl rfl)
theorem dX4_flat_62 : decode cX4_flat 62 = .ok (.iload 4, 2) := dk_21 4 (dk_at dksX4_flat_2 16 rfl rfl)
theorem dX4_flat_64 : decode cX4_flat 64 = .ok (.iload 5, 2) := dk_21 5 (dk_at dksX4_flat_2 18 rfl rfl)
theorem dX4_flat_66 : decode cX4_flat 66 = .ok (.invokevirtual 401, 3) := dk_182 1 145 (dk_at dksX4_flat_2 20 rfl rfl)
theorem dX4_flat_69 : decode cX4_flat 69 = .ok (.ifCond .ne 6, 3) := dk_154 0 6 (dk_at dksX4_flat_3 0 rfl rfl)
theorem dX4_flat_72 : decode cX4_flat 72 = .ok (.goto 20, 3) := dk_167 0 20 (dk_at dksX4_flat_3 3 rfl rfl)
theorem dX4_flat_75 : decode cX4_flat 75 = .ok (.iinc 2 1, 3) := dk_132 2 1 (dk_at dksX4_flat_3 6 rfl rfl)
theorem dX4_flat_78 : decode cX4_flat 78 = .ok (.iload_n 3, 1) := dk_29 (dk_at dksX4_flat_3 9 rfl rfl)
theorem dX4_flat_79 : decode cX4_flat 79 = .ok (.iconst (-1), 1) := dk_2 (dk_at dksX4_flat_3 10 rfl rfl)
theorem dX4_flat_80 : decode cX4_flat 80 = .ok (.if_icmp .ne 12, 3) := dk_160 0 12 (dk_at dksX4_flat_3 11 rfl rfl)
theorem dX4_flat_83 : decode cX4_flat 83 = .ok (.bipush 10, 2) := dk_16 10 (dk_at dksX4_flat_3 14 rfl rfl)
theorem dX4_flat_85 : decode cX4_flat 85 = .ok (.iload 4, 2) := dk_21 4 (dk_at dksX4_flat_3 16 rfl rfl)
theorem dX4_flat_87 : decode cX4_flat 87 = .ok (.imul, 1) := dk_104 (dk_at dksX4_flat_3 18 rfl rfl)
theorem dX4_flat_88 : decode cX4_flat 88 = .ok (.iload 5, 2) := dk_21 5 (dk_at dksX4_flat_3 19 rfl rfl)
theorem dX4_flat_90 : decode cX4_flat 90 = .ok (.iadd, 1) := dk_96 (dk_at dksX4_flat_3 21 rfl rfl)
theorem dX4_flat_91 : decode cX4_flat 91 = .ok (.istore_n 3, 1) := dk_62 (dk_at dksX4_flat_3 22 rfl rfl)
theorem dX4_flat_92 : decode cX4_flat 92 = .ok (.iinc 5 1, 3) := dk_132 5 1 (dk_at dksX4_flat_4 0 rfl rfl)
theorem dX4_flat_95 : decode cX4_flat 95 = .ok (.goto (-40), 3) := dk_167 255 216 (dk_at dksX4_flat_4 3 rfl rfl)
theorem dX4_flat_98 : decode cX4_flat 98 = .ok (.iinc 4 1, 3) := dk_132 4 1 (dk_at dksX4_flat_4 6 rfl rfl)
theorem dX4_flat_101 : decode cX4_flat 101 = .ok (.goto (-58), 3) := dk_167 255 198 (dk_at dksX4_flat_4 9 rfl rfl)
theorem dX4_flat_104 : decode cX4_flat 104 = .ok (.iload_n 1, 1) := dk_27 (dk_at dksX4_flat_4 12 rfl rfl)
theorem dX4_flat_105 : decode cX4_flat 105 = .ok (.ifCond .ne 7, 3) := dk_154 0 7 (dk_at dksX4_flat_4 13 rfl rfl)
theorem dX4_flat_108 : decode cX4_flat 108 = .ok (.iload_n 2, 1) := dk_28 (dk_at dksX4_flat_4 16 rfl rfl)
theorem dX4_flat_109 : decode cX4_flat 109 = .ok (.goto 4, 3) := dk_167 0 4 (dk_at dksX4_flat_4 17 rfl rfl)
theorem dX4_flat_112 : decode cX4_flat 112 = .ok (.iload_n 3, 1) := dk_29 (dk_at dksX4_flat_4 20 rfl rfl)
theorem dX4_flat_113 : decode cX4_flat 113 = .ok (.ireturn, 1) := dk_172 (dk_at dksX4_flat_4 21 rfl rfl)
abbrev cX4_isHeard : ByteArray := prog_14_method_105_code
def yX4_isHeard : MethodName := ⟨RX4, "isHeard", "(II)Z"⟩
def dkwX4_isHeard_4 : List UInt8 := [104, 5, 96, 46, 159, 0, 5, 3, 172, 132, 3, 1, 167, 255, 152, 4, 172]
abbrev dktX4_isHeard_4 : List UInt8 := dkwX4_isHeard_4 ++ []
def dkwX4_isHeard_3 : List UInt8 := [29, 104, 4, 96, 46, 96, 46, 21, 5, 153, 0, 7, 28, 167, 0, 4, 3, 100, 42, 180, 0, 105, 6, 29]
abbrev dktX4_isHeard_3 : List UInt8 := dkwX4_isHeard_3 ++ dktX4_isHeard_4
def dkwX4_isHeard_2 : List UInt8 := [160, 0, 7, 4, 167, 0, 4, 3, 54, 5, 42, 180, 0, 35, 16, 12, 21, 4, 104, 42, 180, 0, 105, 6]
abbrev dktX4_isHeard_2 : List UInt8 := dkwX4_isHeard_2 ++ dktX4_isHeard_3
def dkwX4_isHeard_1 : List UInt8 := [159, 0, 31, 42, 42, 42, 180, 0, 90, 3, 182, 1, 61, 21, 4, 3, 182, 1, 51, 27, 122, 4, 126, 4]
abbrev dktX4_isHeard_1 : List UInt8 := dkwX4_isHeard_1 ++ dktX4_isHeard_2
def dkwX4_isHeard_0 : List UInt8 := [3, 62, 29, 42, 180, 1, 34, 162, 0, 102, 42, 180, 0, 105, 6, 29, 104, 46, 54, 4, 27, 2]
abbrev dktX4_isHeard_0 : List UInt8 := dkwX4_isHeard_0 ++ dktX4_isHeard_1
theorem dksX4_isHeard_0 : cX4_isHeard.data.toList.drop 0 = dktX4_isHeard_0 := by decide +kernel
theorem dksX4_isHeard_1 : cX4_isHeard.data.toList.drop 22 = dktX4_isHeard_1 := dk_seg dksX4_isHeard_0 22 rfl rfl
theorem dksX4_isHeard_2 : cX4_isHeard.data.toList.drop 46 = dktX4_isHeard_2 := dk_seg dksX4_isHeard_1 24 rfl rfl
theorem dksX4_isHeard_3 : cX4_isHeard.data.toList.drop 70 = dktX4_isHeard_3 := dk_seg dksX4_isHeard_2 24 rfl rfl
theorem dksX4_isHeard_4 : cX4_isHeard.data.toList.drop 94 = dktX4_isHeard_4 := dk_seg dksX4_isHeard_3 24 rfl rfl
theorem dX4_isHeard_0 : decode cX4_isHeard 0 = .ok (.iconst 0, 1) := dk_3 (dk_at dksX4_isHeard_0 0 rfl rfl)
theorem dX4_isHeard_1 : decode cX4_isHeard 1 = .ok (.istore_n 3, 1) := dk_62 (dk_at dksX4_isHeard_0 1 rfl rfl)
theorem dX4_isHeard_2 : decode cX4_isHeard 2 = .ok (.iload_n 3, 1) := dk_29 (dk_at dksX4_isHeard_0 2 rfl rfl)
theorem dX4_isHeard_3 : decode cX4_isHeard 3 = .ok (.aload_n 0, 1) := dk_42 (dk_at dksX4_isHeard_0 3 rfl rfl)
theorem dX4_isHeard_4 : decode cX4_isHeard 4 = .ok (.getfield 290, 3) := dk_180 1 34 (dk_at dksX4_isHeard_0 4 rfl rfl)
theorem dX4_isHeard_7 : decode cX4_isHeard 7 = .ok (.if_icmp .ge 102, 3) := dk_162 0 102 (dk_at dksX4_isHeard_0 7 rfl rfl)
theorem dX4_isHeard_10 : decode cX4_isHeard 10 = .ok (.aload_n 0, 1) := dk_42 (dk_at dksX4_isHeard_0 10 rfl rfl)
theorem dX4_isHeard_11 : decode cX4_isHeard 11 = .ok (.getfield 105, 3) := dk_180 0 105 (dk_at dksX4_isHeard_0 11 rfl rfl)
theorem dX4_isHeard_14 : decode cX4_isHeard 14 = .ok (.iconst 3, 1) := dk_6 (dk_at dksX4_isHeard_0 14 rfl rfl)
theorem dX4_isHeard_15 : decode cX4_isHeard 15 = .ok (.iload_n 3, 1) := dk_29 (dk_at dksX4_isHeard_0 15 rfl rfl)
theorem dX4_isHeard_16 : decode cX4_isHeard 16 = .ok (.imul, 1) := dk_104 (dk_at dksX4_isHeard_0 16 rfl rfl)
theorem dX4_isHeard_17 : decode cX4_isHeard 17 = .ok (.iaload, 1) := dk_46 (dk_at dksX4_isHeard_0 17 rfl rfl)
theorem dX4_isHeard_18 : decode cX4_isHeard 18 = .ok (.istore 4, 2) := dk_54 4 (dk_at dksX4_isHeard_0 18 rfl rfl)
theorem dX4_isHeard_20 : decode cX4_isHeard 20 = .ok (.iload_n 1, 1) := dk_27 (dk_at dksX4_isHeard_0 20 rfl rfl)
theorem dX4_isHeard_21 : decode cX4_isHeard 21 = .ok (.iconst (-1), 1) := dk_2 (dk_at dksX4_isHeard_0 21 rfl rfl)
theorem dX4_isHeard_22 : decode cX4_isHeard 22 = .ok (.if_icmp .eq 31, 3) := dk_159 0 31 (dk_at dksX4_isHeard_1 0 rfl rfl)
theorem dX4_isHeard_25 : decode cX4_isHeard 25 = .ok (.aload_n 0, 1) := dk_42 (dk_at dksX4_isHeard_1 3 rfl rfl)
theorem dX4_isHeard_26 : decode cX4_isHeard 26 = .ok (.aload_n 0, 1) := dk_42 (dk_at dksX4_isHeard_1 4 rfl rfl)
theorem dX4_isHeard_27 : decode cX4_isHeard 27 = .ok (.aload_n 0, 1) := dk_42 (dk_at dksX4_isHeard_1 5 rfl rfl)
theorem dX4_isHeard_28 : decode cX4_isHeard 28 = .ok (.getfield 90, 3) := dk_180 0 90 (dk_at dksX4_isHeard_1 6 rfl rfl)
theorem dX4_isHeard_31 : decode cX4_isHeard 31 = .ok (.iconst 0, 1) := dk_3 (dk_at dksX4_isHeard_1 9 rfl rfl)
theorem dX4_isHeard_32 : decode cX4_isHeard 32 = .ok (.invokevirtual 317, 3) := dk_182 1 61 (dk_at dksX4_isHeard_1 10 rfl rfl)
theorem dX4_isHeard_35 : decode cX4_isHeard 35 = .ok (.iload 4, 2) := dk_21 4 (dk_at dksX4_isHeard_1 13 rfl rfl)
theorem dX4_isHeard_37 : decode cX4_isHeard 37 = .ok (.iconst 0, 1) := dk_3 (dk_at dksX4_isHeard_1 15 rfl rfl)
theorem dX4_isHeard_38 : decode cX4_isHeard 38 = .ok (.invokevirtual 307, 3) := dk_182 1 51 (dk_at dksX4_isHeard_1 16 rfl rfl)
theorem dX4_isHeard_41 : decode cX4_isHeard 41 = .ok (.iload_n 1, 1) := dk_27 (dk_at dksX4_isHeard_1 19 rfl rfl)
theorem dX4_isHeard_42 : decode cX4_isHeard 42 = .ok (.ishr, 1) := dk_122 (dk_at dksX4_isHeard_1 20 rfl rfl)
theorem dX4_isHeard_43 : decode cX4_isHeard 43 = .ok (.iconst 1, 1) := dk_4 (dk_at dksX4_isHeard_1 21 rfl rfl)
theorem dX4_isHeard_44 : decode cX4_isHeard 44 = .ok (.iand, 1) := dk_126 (dk_at dksX4_isHeard_1 22 rfl rfl)
theorem dX4_isHeard_45 : decode cX4_isHeard 45 = .ok (.iconst 1, 1) := dk_4 (dk_at dksX4_isHeard_1 23 rfl rfl)
theorem dX4_isHeard_46 : decode cX4_isHeard 46 = .ok (.if_icmp .ne 7, 3) := dk_160 0 7 (dk_at dksX4_isHeard_2 0 rfl rfl)
theorem dX4_isHeard_49 : decode cX4_isHeard 49 = .ok (.iconst 1, 1) := dk_4 (dk_at dksX4_isHeard_2 3 rfl rfl)
theorem dX4_isHeard_50 : decode cX4_isHeard 50 = .ok (.goto 4, 3) := dk_167 0 4 (dk_at dksX4_isHeard_2 4 rfl rfl)
theorem dX4_isHeard_53 : decode cX4_isHeard 53 = .ok (.iconst 0, 1) := dk_3 (dk_at dksX4_isHeard_2 7 rfl rfl)
theorem dX4_isHeard_54 : decode cX4_isHeard 54 = .ok (.istore 5, 2) := dk_54 5 (dk_at dksX4_isHeard_2 8 rfl rfl)
theorem dX4_isHeard_56 : decode cX4_isHeard 56 = .ok (.aload_n 0, 1) := dk_42 (dk_at dksX4_isHeard_2 10 rfl rfl)
theorem dX4_isHeard_57 : decode cX4_isHeard 57 = .ok (.getfield 35, 3) := dk_180 0 35 (dk_at dksX4_isHeard_2 11 rfl rfl)
theorem dX4_isHeard_60 : decode cX4_isHeard 60 = .ok (.bipush 12, 2) := dk_16 12 (dk_at dksX4_isHeard_2 14 rfl rfl)
theorem dX4_isHeard_62 : decode cX4_isHeard 62 = .ok (.iload 4, 2) := dk_21 4 (dk_at dksX4_isHeard_2 16 rfl rfl)
theorem dX4_isHeard_64 : decode cX4_isHeard 64 = .ok (.imul, 1) := dk_104 (dk_at dksX4_isHeard_2 18 rfl rfl)
theorem dX4_isHeard_65 : decode cX4_isHeard 65 = .ok (.aload_n 0, 1) := dk_42 (dk_at dksX4_isHeard_2 19 rfl rfl)
theorem dX4_isHeard_66 : decode cX4_isHeard 66 = .ok (.getfield 105, 3) := dk_180 0 105 (dk_at dksX4_isHeard_2 20 rfl rfl)
theorem dX4_isHeard_69 : decode cX4_isHeard 69 = .ok (.iconst 3, 1) := dk_6 (dk_at dksX4_isHeard_2 23 rfl rfl)
theorem dX4_isHeard_70 : decode cX4_isHeard 70 = .ok (.iload_n 3, 1) := dk_29 (dk_at dksX4_isHeard_3 0 rfl rfl)
theorem dX4_isHeard_71 : decode cX4_isHeard 71 = .ok (.imul, 1) := dk_104 (dk_at dksX4_isHeard_3 1 rfl rfl)
theorem dX4_isHeard_72 : decode cX4_isHeard 72 = .ok (.iconst 1, 1) := dk_4 (dk_at dksX4_isHeard_3 2 rfl rfl)
theorem dX4_isHeard_73 : decode cX4_isHeard 73 = .ok (.iadd, 1) := dk_96 (dk_at dksX4_isHeard_3 3 rfl rfl)
theorem dX4_isHeard_74 : decode cX4_isHeard 74 = .ok (.iaload, 1) := dk_46 (dk_at dksX4_isHeard_3 4 rfl rfl)
theorem dX4_isHeard_75 : decode cX4_isHeard 75 = .ok (.iadd, 1) := dk_96 (dk_at dksX4_isHeard_3 5 rfl rfl)
theorem dX4_isHeard_76 : decode cX4_isHeard 76 = .ok (.iaload, 1) := dk_46 (dk_at dksX4_isHeard_3 6 rfl rfl)
theorem dX4_isHeard_77 : decode cX4_isHeard 77 = .ok (.iload 5, 2) := dk_21 5 (dk_at dksX4_isHeard_3 7 rfl rfl)
theorem dX4_isHeard_79 : decode cX4_isHeard 79 = .ok (.ifCond .eq 7, 3) := dk_153 0 7 (dk_at dksX4_isHeard_3 9 rfl rfl)
theorem dX4_isHeard_82 : decode cX4_isHeard 82 = .ok (.iload_n 2, 1) := dk_28 (dk_at dksX4_isHeard_3 12 rfl rfl)
theorem dX4_isHeard_83 : decode cX4_isHeard 83 = .ok (.goto 4, 3) := dk_167 0 4 (dk_at dksX4_isHeard_3 13 rfl rfl)
theorem dX4_isHeard_86 : decode cX4_isHeard 86 = .ok (.iconst 0, 1) := dk_3 (dk_at dksX4_isHeard_3 16 rfl rfl)
theorem dX4_isHeard_87 : decode cX4_isHeard 87 = .ok (.isub, 1) := dk_100 (dk_at dksX4_isHeard_3 17 rfl rfl)
theorem dX4_isHeard_88 : decode cX4_isHeard 88 = .ok (.aload_n 0, 1) := dk_42 (dk_at dksX4_isHeard_3 18 rfl rfl)
theorem dX4_isHeard_89 : decode cX4_isHeard 89 = .ok (.getfield 105, 3) := dk_180 0 105 (dk_at dksX4_isHeard_3 19 rfl rfl)
theorem dX4_isHeard_92 : decode cX4_isHeard 92 = .ok (.iconst 3, 1) := dk_6 (dk_at dksX4_isHeard_3 22 rfl rfl)
theorem dX4_isHeard_93 : decode cX4_isHeard 93 = .ok (.iload_n 3, 1) := dk_29 (dk_at dksX4_isHeard_3 23 rfl rfl)
theorem dX4_isHeard_94 : decode cX4_isHeard 94 = .ok (.imul, 1) := dk_104 (dk_at dksX4_isHeard_4 0 rfl rfl)
theorem dX4_isHeard_95 : decode cX4_isHeard 95 = .ok (.iconst 2, 1) := dk_5 (dk_at dksX4_isHeard_4 1 rfl rfl)
theorem dX4_isHeard_96 : decode cX4_isHeard 96 = .ok (.iadd, 1) := dk_96 (dk_at dksX4_isHeard_4 2 rfl rfl)
theorem dX4_isHeard_97 : decode cX4_isHeard 97 = .ok (.iaload, 1) := dk_46 (dk_at dksX4_isHeard_4 3 rfl rfl)
theorem dX4_isHeard_98 : decode cX4_isHeard 98 = .ok (.if_icmp .eq 5, 3) := dk_159 0 5 (dk_at dksX4_isHeard_4 4 rfl rfl)
theorem dX4_isHeard_101 : decode cX4_isHeard 101 = .ok (.iconst 0, 1) := dk_3 (dk_at dksX4_isHeard_4 7 rfl rfl)
theorem dX4_isHeard_102 : decode cX4_isHeard 102 = .ok (.ireturn, 1) := dk_172 (dk_at dksX4_isHeard_4 8 rfl rfl)
theorem dX4_isHeard_103 : decode cX4_isHeard 103 = .ok (.iinc 3 1, 3) := dk_132 3 1 (dk_at dksX4_isHeard_4 9 rfl rfl)
theorem dX4_isHeard_106 : decode cX4_isHeard 106 = .ok (.goto (-104), 3) := dk_167 255 152 (dk_at dksX4_isHeard_4 12 rfl rfl)
theorem dX4_isHeard_109 : decode cX4_isHeard 109 = .ok (.iconst 1, 1) := dk_4 (dk_at dksX4_isHeard_4 15 rfl rfl)
theorem dX4_isHeard_110 : decode cX4_isHeard 110 = .ok (.ireturn, 1) := dk_172 (dk_at dksX4_isHeard_4 16 rfl rfl)
abbrev cX4_game : ByteArray := prog_14_method_108_code
def yX4_game : MethodName := ⟨RX4, "game", "(II)I"⟩
def dkwX4_game_7 : List UInt8 := [167, 0, 5, 21, 4, 172]
abbrev dktX4_game_7 : List UInt8 := dkwX4_game_7 ++ []
def dkwX4_game_6 : List UInt8 := [21, 5, 5, 108, 104, 21, 5, 5, 112, 96, 54, 4, 132, 5, 1, 167, 255, 147, 28, 154, 0, 7, 29]
abbrev dktX4_game_6 : List UInt8 := dkwX4_game_6 ++ dktX4_game_7
def dkwX4_game_5 : List UInt8 := [21, 5, 104, 4, 96, 46, 164, 0, 6, 167, 0, 26, 132, 3, 1, 21, 4, 2, 160, 0, 17, 16, 10]
abbrev dktX4_game_5 : List UInt8 := dkwX4_game_5 ++ dktX4_game_6
def dkwX4_game_4 : List UInt8 := [21, 5, 104, 46, 163, 0, 54, 42, 180, 0, 108, 5, 21, 7, 104, 4, 96, 46, 42, 180, 0, 108, 5]
abbrev dktX4_game_4 : List UInt8 := dkwX4_game_4 ++ dktX4_game_5
def dkwX4_game_3 : List UInt8 := [167, 0, 7, 21, 5, 4, 100, 54, 7, 42, 180, 0, 108, 5, 21, 6, 104, 46, 42, 180, 0, 108, 5]
abbrev dktX4_game_3 : List UInt8 := dkwX4_game_3 ++ dktX4_game_4
def dkwX4_game_2 : List UInt8 := [162, 0, 109, 21, 5, 5, 96, 7, 112, 54, 6, 21, 5, 5, 112, 154, 0, 10, 21, 5, 4, 96]
abbrev dktX4_game_2 : List UInt8 := dkwX4_game_2 ++ dktX4_game_3
def dkwX4_game_1 : List UInt8 := [182, 1, 14, 154, 0, 5, 3, 172, 42, 27, 182, 1, 148, 3, 62, 2, 54, 4, 3, 54, 5, 21, 5, 7]
abbrev dktX4_game_1 : List UInt8 := dkwX4_game_1 ++ dktX4_game_2
def dkwX4_game_0 : List UInt8 := [42, 3, 181, 0, 120, 42, 28, 4, 182, 1, 71, 153, 0, 18, 42, 27, 3, 16, 99, 184, 1, 41, 5]
abbrev dktX4_game_0 : List UInt8 := dkwX4_game_0 ++ dktX4_game_1
theorem dksX4_game_0 : cX4_game.data.toList.drop 0 = dktX4_game_0 := by decide +kernel
theorem dksX4_game_1 : cX4_game.data.toList.drop 23 = dktX4_game_1 := dk_seg dksX4_game_0 23 rfl rfl
theorem dksX4_game_2 : cX4_game.data.toList.drop 47 = dktX4_game_2 := dk_seg dksX4_game_1 24 rfl rfl
theorem dksX4_game_3 : cX4_game.data.toList.drop 69 = dktX4_game_3 := dk_seg dksX4_game_2 22 rfl rfl
theorem dksX4_game_4 : cX4_game.data.toList.drop 92 = dktX4_game_4 := dk_seg dksX4_game_3 23 rfl rfl
theorem dksX4_game_5 : cX4_game.data.toList.drop 115 = dktX4_game_5 := dk_seg dksX4_game_4 23 rfl rfl
theorem dksX4_game_6 : cX4_game.data.toList.drop 138 = dktX4_game_6 := dk_seg dksX4_game_5 23 rfl rfl
theorem dksX4_game_7 : cX4_game.data.toList.drop 161 = dktX4_game_7 := dk_seg dksX4_game_6 23 rfl rfl
theorem dX4_game_0 : decode cX4_game 0 = .ok (.aload_n 0, 1) := dk_42 (dk_at dksX4_game_0 0 rfl rfl)
theorem dX4_game_1 : decode cX4_game 1 = .ok (.iconst 0, 1) := dk_3 (dk_at dksX4_game_0 1 rfl rfl)
theorem dX4_game_2 : decode cX4_game 2 = .ok (.putfield 120, 3) := dk_181 0 120 (dk_at dksX4_game_0 2 rfl rfl)
theorem dX4_game_5 : decode cX4_game 5 = .ok (.aload_n 0, 1) := dk_42 (dk_at dksX4_game_0 5 rfl rfl)
theorem dX4_game_6 : decode cX4_game 6 = .ok (.iload_n 2, 1) := dk_28 (dk_at dksX4_game_0 6 rfl rfl)
theorem dX4_game_7 : decode cX4_game 7 = .ok (.iconst 1, 1) := dk_4 (dk_at dksX4_game_0 7 rfl rfl)
theorem dX4_game_8 : decode cX4_game 8 = .ok (.invokevirtual 327, 3) := dk_182 1 71 (dk_at dksX4_game_0 8 rfl rfl)
theorem dX4_game_11 : decode cX4_game 11 = .ok (.ifCond .eq 18, 3) := dk_153 0 18 (dk_at dksX4_game_0 11 rfl rfl)
theorem dX4_game_14 : decode cX4_game 14 = .ok (.aload_n 0, 1) := dk_42 (dk_at dksX4_game_0 14 rfl rfl)
theorem dX4_game_15 : decode cX4_game 15 = .ok (.iload_n 1, 1) := dk_27 (dk_at dksX4_game_0 15 rfl rfl)
theorem dX4_game_16 : decode cX4_game 16 = .ok (.iconst 0, 1) := dk_3 (dk_at dksX4_game_0 16 rfl rfl)
theorem dX4_game_17 : decode cX4_game 17 = .ok (.bipush 99, 2) := dk_16 99 (dk_at dksX4_game_0 17 rfl rfl)
theorem dX4_game_19 : decode cX4_game 19 = .ok (.invokestatic 297, 3) := dk_184 1 41 (dk_at dksX4_game_0 19 rfl rfl)
theorem dX4_game_22 : decode cX4_game 22 = .ok (.iconst 2, 1) := dk_5 (dk_at dksX4_game_0 22 rfl rfl)
theorem dX4_game_23 : decode cX4_game 23 = .ok (.invokevirtual 270, 3) := dk_182 1 14 (dk_at dksX4_game_1 0 rfl rfl)
theorem dX4_game_26 : decode cX4_game 26 = .ok (.ifCond .ne 5, 3) := dk_154 0 5 (dk_at dksX4_game_1 3 rfl rfl)
theorem dX4_game_29 : decode cX4_game 29 = .ok (.iconst 0, 1) := dk_3 (dk_at dksX4_game_1 6 rfl rfl)
theorem dX4_game_30 : decode cX4_game 30 = .ok (.ireturn, 1) := dk_172 (dk_at dksX4_game_1 7 rfl rfl)
theorem dX4_game_31 : decode cX4_game 31 = .ok (.aload_n 0, 1) := dk_42 (dk_at dksX4_game_1 8 rfl rfl)
theorem dX4_game_32 : decode cX4_game 32 = .ok (.iload_n 1, 1) := dk_27 (dk_at dksX4_game_1 9 rfl rfl)
theorem dX4_game_33 : decode cX4_game 33 = .ok (.invokevirtual 404, 3) := dk_182 1 148 (dk_at dksX4_game_1 10 rfl rfl)
theorem dX4_game_36 : decode cX4_game 36 = .ok (.iconst 0, 1) := dk_3 (dk_at dksX4_game_1 13 rfl rfl)
theorem dX4_game_37 : decode cX4_game 37 = .ok (.istore_n 3, 1) := dk_62 (dk_at dksX4_game_1 14 rfl rfl)
theorem dX4_game_38 : decode cX4_game 38 = .ok (.iconst (-1), 1) := dk_2 (dk_at dksX4_game_1 15 rfl rfl)
theorem dX4_game_39 : decode cX4_game 39 = .ok (.istore 4, 2) := dk_54 4 (dk_at dksX4_game_1 16 rfl rfl)
theorem dX4_game_41 : decode cX4_game 41 = .ok (.iconst 0, 1) := dk_3 (dk_at dksX4_game_1 18 rfl rfl)
theorem dX4_game_42 : decode cX4_game 42 = .ok (.istore 5, 2) := dk_54 5 (dk_at dksX4_game_1 19 rfl rfl)
theorem dX4_game_44 : decode cX4_game 44 = .ok (.iload 5, 2) := dk_21 5 (dk_at dksX4_game_1 21 rfl rfl)
theorem dX4_game_46 : decode cX4_game 46 = .ok (.iconst 4, 1) := dk_7 (dk_at dksX4_game_1 23 rfl rfl)
theorem dX4_game_47 : decode cX4_game 47 = .ok (.if_icmp .ge 109, 3) := dk_162 0 109 (dk_at dksX4_game_2 0 rfl rfl)
theorem dX4_game_50 : decode cX4_game 50 = .ok (.iload 5, 2) := dk_21 5 (dk_at dksX4_game_2 3 rfl rfl)
theorem dX4_game_52 : decode cX4_game 52 = .ok (.iconst 2, 1) := dk_5 (dk_at dksX4_game_2 5 rfl rfl)
theorem dX4_game_53 : decode cX4_game 53 = .ok (.iadd, 1) := dk_96 (dk_at dksX4_game_2 6 rfl rfl)
theorem dX4_game_54 : decode cX4_game 54 = .ok (.iconst 4, 1) := dk_7 (dk_at dksX4_game_2 7 rfl rfl)
theorem dX4_game_55 : decode cX4_game 55 = .ok (.irem, 1) := dk_112 (dk_at dksX4_game_2 8 rfl rfl)
theorem dX4_game_56 : decode cX4_game 56 = .ok (.istore 6, 2) := dk_54 6 (dk_at dksX4_game_2 9 rfl rfl)
theorem dX4_game_58 : decode cX4_game 58 = .ok (.iload 5, 2) := dk_21 5 (dk_at dksX4_game_2 11 rfl rfl)
theorem dX4_game_60 : decode cX4_game 60 = .ok (.iconst 2, 1) := dk_5 (dk_at dksX4_game_2 13 rfl rfl)
theorem dX4_game_61 : decode cX4_game 61 = .ok (.irem, 1) := dk_112 (dk_at dksX4_game_2 14 rfl rfl)
theorem dX4_game_62 : decode cX4_game 62 = .ok (.ifCond .ne 10, 3) := dk_154 0 10 (dk_at dksX4_game_2 15 rfl rfl)
theorem dX4_game_65 : decode cX4_game 65 = .ok (.iload 5, 2) := dk_21 5 (dk_at dksX4_game_2 18 rfl rfl)
theorem dX4_game_67 : decode cX4_game 67 = .ok (.iconst 1, 1) := dk_4 (dk_at dksX4_game_2 20 rfl rfl)
theorem dX4_game_68 : decode cX4_game 68 = .ok (.iadd, 1) := dk_96 (dk_at dksX4_game_2 21 rfl rfl)
theorem dX4_game_69 : decode cX4_game 69 = .ok (.goto 7, 3) := dk_167 0 7 (dk_at dksX4_game_3 0 rfl rfl)
theorem dX4_game_72 : decode cX4_game 72 = .ok (.iload 5, 2) := dk_21 5 (dk_at dksX4_game_3 3 rfl rfl)
theorem dX4_game_74 : decode cX4_game 74 = .ok (.iconst 1, 1) := dk_4 (dk_at dksX4_game_3 5 rfl rfl)
theorem dX4_game_75 : decode cX4_game 75 = .ok (.isub, 1) := dk_100 (dk_at dksX4_game_3 6 rfl rfl)
theorem dX4_game_76 : decode cX4_game 76 = .ok (.istore 7, 2) := dk_54 7 (dk_at dksX4_game_3 7 rfl rfl)
theorem dX4_game_78 : decode cX4_game 78 = .ok (.aload_n 0, 1) := dk_42 (dk_at dksX4_game_3 9 rfl rfl)
theorem dX4_game_79 : decode cX4_game 79 = .ok (.getfield 108, 3) := dk_180 0 108 (dk_at dksX4_game_3 10 rfl rfl)
theorem dX4_game_82 : decode cX4_game 82 = .ok (.iconst 2, 1) := dk_5 (dk_at dksX4_game_3 13 rfl rfl)
theorem dX4_game_83 : decode cX4_game 83 = .ok (.iload 6, 2) := dk_21 6 (dk_at dksX4_game_3 14 rfl rfl)
theorem dX4_game_85 : decode cX4_game 85 = .ok (.imul, 1) := dk_104 (dk_at dksX4_game_3 16 rfl rfl)
theorem dX4_game_86 : decode cX4_game 86 = .ok (.iaload, 1) := dk_46 (dk_at dksX4_game_3 17 rfl rfl)
theorem dX4_game_87 : decode cX4_game 87 = .ok (.aload_n 0, 1) := dk_42 (dk_at dksX4_game_3 18 rfl rfl)
theorem dX4_game_88 : decode cX4_game 88 = .ok (.getfield 108, 3) := dk_180 0 108 (dk_at dksX4_game_3 19 rfl rfl)
theorem dX4_game_91 : decode cX4_game 91 = .ok (.iconst 2, 1) := dk_5 (dk_at dksX4_game_3 22 rfl rfl)
theorem dX4_game_92 : decode cX4_game 92 = .ok (.iload 5, 2) := dk_21 5 (dk_at dksX4_game_4 0 rfl rfl)
theorem dX4_game_94 : decode cX4_game 94 = .ok (.imul, 1) := dk_104 (dk_at dksX4_game_4 2 rfl rfl)
theorem dX4_game_95 : decode cX4_game 95 = .ok (.iaload, 1) := dk_46 (dk_at dksX4_game_4 3 rfl rfl)
theorem dX4_game_96 : decode cX4_game 96 = .ok (.if_icmp .gt 54, 3) := dk_163 0 54 (dk_at dksX4_game_4 4 rfl rfl)
theorem dX4_game_99 : decode cX4_game 99 = .ok (.aload_n 0, 1) := dk_42 (dk_at dksX4_game_4 7 rfl rfl)
theorem dX4_game_100 : decode cX4_game 100 = .ok (.getfield 108, 3) := dk_180 0 108 (dk_at dksX4_game_4 8 rfl rfl)
theorem dX4_game_103 : decode cX4_game 103 = .ok (.iconst 2, 1) := dk_5 (dk_at dksX4_game_4 11 rfl rfl)
theorem dX4_game_104 : decode cX4_game 104 = .ok (.iload 7, 2) := dk_21 7 (dk_at dksX4_game_4 12 rfl rfl)
theorem dX4_game_106 : decode cX4_game 106 = .ok (.imul, 1) := dk_104 (dk_at dksX4_game_4 14 rfl rfl)
theorem dX4_game_107 : decode cX4_game 107 = .ok (.iconst 1, 1) := dk_4 (dk_at dksX4_game_4 15 rfl rfl)
theorem dX4_game_108 : decode cX4_game 108 = .ok (.iadd, 1) := dk_96 (dk_at dksX4_game_4 16 rfl rfl)
theorem dX4_game_109 : decode cX4_game 109 = .ok (.iaload, 1) := dk_46 (dk_at dksX4_game_4 17 rfl rfl)
theorem dX4_game_110 : decode cX4_game 110 = .ok (.aload_n 0, 1) := dk_42 (dk_at dksX4_game_4 18 rfl rfl)
theorem dX4_game_111 : decode cX4_game 111 = .ok (.getfield 108, 3) := dk_180 0 108 (dk_at dksX4_game_4 19 rfl rfl)
theorem dX4_game_114 : decode cX4_game 114 = .ok (.iconst 2, 1) := dk_5 (dk_at dksX4_game_4 22 rfl rfl)
theorem dX4_game_115 : decode cX4_game 115 = .ok (.iload 5, 2) := dk_21 5 (dk_at dksX4_game_5 0 rfl rfl)
theorem dX4_game_117 : decode cX4_game 117 = .ok (.imul, 1) := dk_104 (dk_at dksX4_game_5 2 rfl rfl)
theorem dX4_game_118 : decode cX4_game 118 = .ok (.iconst 1, 1) := dk_4 (dk_at dksX4_game_5 3 rfl rfl)
theorem dX4_game_119 : decode cX4_game 119 = .ok (.iadd, 1) := dk_96 (dk_at dksX4_game_5 4 rfl rfl)
theorem dX4_game_120 : decode cX4_game 120 = .ok (.iaload, 1) := dk_46 (dk_at dksX4_game_5 5 rfl rfl)
theorem dX4_game_121 : decode cX4_game 121 = .ok (.if_icmp .le 6, 3) := dk_164 0 6 (dk_at dksX4_game_5 6 rfl rfl)
theorem dX4_game_124 : decode cX4_game 124 = .ok (.goto 26, 3) := dk_167 0 26 (dk_at dksX4_game_5 9 rfl rfl)
theorem dX4_game_127 : decode cX4_game 127 = .ok (.iinc 3 1, 3) := dk_132 3 1 (dk_at dksX4_game_5 12 rfl rfl)
theorem dX4_game_130 : decode cX4_game 130 = .ok (.iload 4, 2) := dk_21 4 (dk_at dksX4_game_5 15 rfl rfl)
theorem dX4_game_132 : decode cX4_game 132 = .ok (.iconst (-1), 1) := dk_2 (dk_at dksX4_game_5 17 rfl rfl)
theorem dX4_game_133 : decode cX4_game 133 = .ok (.if_icmp .ne 17, 3) := dk_160 0 17 (dk_at dksX4_game_5 18 rfl rfl)
theorem dX4_game_136 : decode cX4_game 136 = .ok (.bipush 10, 2) := dk_16 10 (dk_at dksX4_game_5 21 rfl rfl)
theorem dX4_game_138 : decode cX4_game 138 = .ok (.iload 5, 2) := dk_21 5 (dk_at dksX4_game_6 0 rfl rfl)
theorem dX4_game_140 : decode cX4_game 140 = .ok (.iconst 2, 1) := dk_5 (dk_at dksX4_game_6 2 rfl rfl)
theorem dX4_game_141 : decode cX4_game 141 = .ok (.idiv, 1) := dk_108 (dk_at dksX4_game_6 3 rfl rfl)
theorem dX4_game_142 : decode cX4_game 142 = .ok (.imul, 1) := dk_104 (dk_at dksX4_game_6 4 rfl rfl)
theorem dX4_game_143 : decode cX4_game 143 = .ok (.iload 5, 2) := dk_21 5 (dk_at dksX4_game_6 5 rfl rfl)
theorem dX4_game_145 : decode cX4_game 145 = .ok (.iconst 2, 1) := dk_5 (dk_at dksX4_game_6 7 rfl rfl)
theorem dX4_game_146 : decode cX4_game 146 = .ok (.irem, 1) := dk_112 (dk_at dksX4_game_6 8 rfl rfl)
theorem dX4_game_147 : decode cX4_game 147 = .ok (.iadd, 1) := dk_96 (dk_at dksX4_game_6 9 rfl rfl)
theorem dX4_game_148 : decode cX4_game 148 = .ok (.istore 4, 2) := dk_54 4 (dk_at dksX4_game_6 10 rfl rfl)
theorem dX4_game_150 : decode cX4_game 150 = .ok (.iinc 5 1, 3) := dk_132 5 1 (dk_at dksX4_game_6 12 rfl rfl)
theorem dX4_game_153 : decode cX4_game 153 = .ok (.goto (-109), 3) := dk_167 255 147 (dk_at dksX4_game_6 15 rfl rfl)
theorem dX4_game_156 : decode cX4_game 156 = .ok (.iload_n 2, 1) := dk_28 (dk_at dksX4_game_6 18 rfl rfl)
theorem dX4_game_157 : decode cX4_game 157 = .ok (.ifCond .ne 7, 3) := dk_154 0 7 (dk_at dksX4_game_6 19 rfl rfl)
theorem dX4_game_160 : decode cX4_game 160 = .ok (.iload_n 3, 1) := dk_29 (dk_at dksX4_game_6 22 rfl rfl)
theorem dX4_game_161 : decode cX4_game 161 = .ok (.goto 5, 3) := dk_167 0 5 (dk_at dksX4_game_7 0 rfl rfl)
theorem dX4_game_164 : decode cX4_game 164 = .ok (.iload 4, 2) := dk_21 4 (dk_at dksX4_game_7 3 rfl rfl)
theorem dX4_game_166 : decode cX4_game 166 = .ok (.ireturn, 1) := dk_172 (dk_at dksX4_game_7 5 rfl rfl)
abbrev cX4_lays4 : ByteArray := prog_14_method_107_code
def yX4_lays4 : MethodName := ⟨RX4, "lays4", "(I)V"⟩
def dkwX4_lays4_10 : List UInt8 := [21, 6, 100, 79, 132, 3, 1, 167, 255, 31, 177]
abbrev dktX4_lays4_10 : List UInt8 := dkwX4_lays4_10 ++ []
def dkwX4_lays4_9 : List UInt8 := [42, 180, 0, 108, 5, 29, 104, 21, 6, 21, 7, 96, 79, 42, 180, 0, 108, 5, 29, 104, 4, 96, 21, 7]
abbrev dktX4_lays4_9 : List UInt8 := dkwX4_lays4_9 ++ dktX4_lays4_10
def dkwX4_lays4_8 : List UInt8 := [180, 0, 93, 3, 182, 1, 61, 182, 1, 65, 184, 1, 55, 28, 160, 0, 7, 27, 167, 0, 4, 3, 54, 7]
abbrev dktX4_lays4_8 : List UInt8 := dkwX4_lays4_8 ++ dktX4_lays4_9
def dkwX4_lays4_7 : List UInt8 := [167, 0, 12, 3, 42, 180, 0, 26, 21, 7, 46, 100, 96, 54, 6, 132, 7, 1, 167, 255, 185, 42, 42, 42]
abbrev dktX4_lays4_7 : List UInt8 := dkwX4_lays4_7 ++ dktX4_lays4_8
def dkwX4_lays4_6 : List UInt8 := [160, 0, 7, 3, 167, 0, 32, 42, 180, 0, 13, 21, 7, 46, 154, 0, 13, 42, 180, 0, 26, 21, 7, 46]
abbrev dktX4_lays4_6 : List UInt8 := dkwX4_lays4_6 ++ dktX4_lays4_7
def dkwX4_lays4_5 : List UInt8 := [162, 0, 68, 21, 6, 42, 180, 0, 93, 21, 7, 46, 154, 0, 14, 42, 180, 0, 13, 21, 7, 46, 5]
abbrev dktX4_lays4_5 : List UInt8 := dkwX4_lays4_5 ++ dktX4_lays4_6
def dkwX4_lays4_4 : List UInt8 := [159, 0, 11, 42, 180, 0, 93, 21, 5, 5, 79, 3, 54, 6, 3, 54, 7, 21, 7, 42, 180, 1, 21]
abbrev dktX4_lays4_4 : List UInt8 := dkwX4_lays4_4 ++ dktX4_lays4_5
def dkwX4_lays4_3 : List UInt8 := [167, 0, 4, 2, 54, 5, 21, 4, 2, 159, 0, 11, 42, 180, 0, 93, 21, 4, 5, 79, 21, 5, 2]
abbrev dktX4_lays4_3 : List UInt8 := dkwX4_lays4_3 ++ dktX4_lays4_4
def dkwX4_lays4_2 : List UInt8 := [182, 1, 98, 167, 0, 4, 2, 54, 4, 29, 5, 112, 154, 0, 15, 42, 42, 180, 0, 90, 4, 182, 1, 98]
abbrev dktX4_lays4_2 : List UInt8 := dkwX4_lays4_2 ++ dktX4_lays4_3
def dkwX4_lays4_1 : List UInt8 := [42, 42, 180, 0, 90, 42, 180, 0, 93, 182, 1, 27, 29, 5, 108, 154, 0, 15, 42, 42, 180, 0, 90, 3]
abbrev dktX4_lays4_1 : List UInt8 := dkwX4_lays4_1 ++ dktX4_lays4_2
def dkwX4_lays4_0 : List UInt8 := [42, 42, 42, 180, 0, 90, 3, 182, 1, 61, 182, 1, 65, 184, 1, 55, 61, 3, 62, 29, 7, 162, 0, 226]
abbrev dktX4_lays4_0 : List UInt8 := dkwX4_lays4_0 ++ dktX4_lays4_1
theorem dksX4_lays4_0 : cX4_lays4.data.toList.drop 0 = dktX4_lays4_0 := by decide +kernel
theorem dksX4_lays4_1 : cX4_lays4.data.toList.drop 24 = dktX4_lays4_1 := dk_seg dksX4_lays4_0 24 rfl rfl
theorem dksX4_lays4_2 : cX4_lays4.data.toList.drop 48 = dktX4_lays4_2 := dk_seg dksX4_lays4_1 24 rfl rfl
theorem dksX4_lays4_3 : cX4_lays4.data.toList.drop 72 = dktX4_lays4_3 := dk_seg dksX4_lays4_2 24 rfl rfl
theorem dksX4_lays4_4 : cX4_lays4.data.toList.drop 95 = dktX4_lays4_4 := dk_seg dksX4_lays4_3 23 rfl rfl
theorem dksX4_lays4_5 : cX4_lays4.data.toList.drop 118 = dktX4_lays4_5 := dk_seg dksX4_lays4_4 23 rfl rfl
theorem dksX4_lays4_6 : cX4_lays4.data.toList.drop 141 = dktX4_lays4_6 := dk_seg dksX4_lays4_5 23 rfl rfl
theorem dksX4_lays4_7 : cX4_lays4.data.toList.drop 165 = dktX4_lays4_7 := dk_seg dksX4_lays4_6 24 rfl rfl
theorem dksX4_lays4_8 : cX4_lays4.data.toList.drop 189 = dktX4_lays4_8 := dk_seg dksX4_lays4_7 24 rfl rfl
theorem dksX4_lays4_9 : cX4_lays4.data.toList.drop 213 = dktX4_lays4_9 := dk_seg dksX4_lays4_8 24 rfl rfl
theorem dksX4_lays4_10 : cX4_lays4.data.toList.drop 237 = dktX4_lays4_10 := dk_seg dksX4_lays4_9 24 rfl rfl
theorem dX4_lays4_0 : decode cX4_lays4 0 = .ok (.aload_n 0, 1) := dk_42 (dk_at dksX4_lays4_0 0 rfl rfl)
theorem dX4_lays4_1 : decode cX4_lays4 1 = .ok (.aload_n 0, 1) := dk_42 (dk_at dksX4_lays4_0 1 rfl rfl)
theorem dX4_lays4_2 : decode cX4_lays4 2 = .ok (.aload_n 0, 1) := dk_42 (dk_at dksX4_lays4_0 2 rfl rfl)
theorem dX4_lays4_3 : decode cX4_lays4 3 = .ok (.getfield 90, 3) := dk_180 0 90 (dk_at dksX4_lays4_0 3 rfl rfl)
theorem dX4_lays4_6 : decode cX4_lays4 6 = .ok (.iconst 0, 1) := dk_3 (dk_at dksX4_lays4_0 6 rfl rfl)
theorem dX4_lays4_7 : decode cX4_lays4 7 = .ok (.invokevirtual 317, 3) := dk_182 1 61 (dk_at dksX4_lays4_0 7 rfl rfl)
theorem dX4_lays4_10 : decode cX4_lays4 10 = .ok (.invokevirtual 321, 3) := dk_182 1 65 (dk_at dksX4_lays4_0 10 rfl rfl)
theorem dX4_lays4_13 : decode cX4_lays4 13 = .ok (.invokestatic 311, 3) := dk_184 1 55 (dk_at dksX4_lays4_0 13 rfl rfl)
theorem dX4_lays4_16 : decode cX4_lays4 16 = .ok (.istore_n 2, 1) := dk_61 (dk_at dksX4_lays4_0 16 rfl rfl)
theorem dX4_lays4_17 : decode cX4_lays4 17 = .ok (.iconst 0, 1) := dk_3 (dk_at dksX4_lays4_0 17 rfl rfl)
theorem dX4_lays4_18 : decode cX4_lays4 18 = .ok (.istore_n 3, 1) := dk_62 (dk_at dksX4_lays4_0 18 rfl rfl)
theorem dX4_lays4_19 : decode cX4_lays4 19 = .ok (.iload_n 3, 1) := dk_29 (dk_at dksX4_lays4_0 19 rfl rfl)
theorem dX4_lays4_20 : decode cX4_lays4 20 = .ok (.iconst 4, 1) := dk_7 (dk_at dksX4_lays4_0 20 rfl rfl)
theorem dX4_lays4_21 : decode cX4_lays4 21 = .ok (.if_icmp .ge 226, 3) := dk_162 0 226 (dk_at dksX4_lays4_0 21 rfl rfl)
theorem dX4_lays4_24 : decode cX4_lays4 24 = .ok (.aload_n 0, 1) := dk_42 (dk_at dksX4_lays4_1 0 rfl rfl)
theorem dX4_lays4_25 : decode cX4_lays4 25 = .ok (.aload_n 0, 1) := dk_42 (dk_at dksX4_lays4_1 1 rfl rfl)
theorem dX4_lays4_26 : decode cX4_lays4 26 = .ok (.getfield 90, 3) := dk_180 0 90 (dk_at dksX4_lays4_1 2 rfl rfl)
theorem dX4_lays4_29 : decode cX4_lays4 29 = .ok (.aload_n 0, 1) := dk_42 (dk_at dksX4_lays4_1 5 rfl rfl)
theorem dX4_lays4_30 : decode cX4_lays4 30 = .ok (.getfield 93, 3) := dk_180 0 93 (dk_at dksX4_lays4_1 6 rfl rfl)
theorem dX4_lays4_33 : decode cX4_lays4 33 = .ok (.invokevirtual 283, 3) := dk_182 1 27 (dk_at dksX4_lays4_1 9 rfl rfl)
theorem dX4_lays4_36 : decode cX4_lays4 36 = .ok (.iload_n 3, 1) := dk_29 (dk_at dksX4_lays4_1 12 rfl rfl)
theorem dX4_lays4_37 : decode cX4_lays4 37 = .ok (.iconst 2, 1) := dk_5 (dk_at dksX4_lays4_1 13 rfl rfl)
theorem dX4_lays4_38 : decode cX4_lays4 38 = .ok (.idiv, 1) := dk_108 (dk_at dksX4_lays4_1 14 rfl rfl)
theorem dX4_lays4_39 : decode cX4_lays4 39 = .ok (.ifCond .ne 15, 3) := dk_154 0 15 (dk_at dksX4_lays4_1 15 rfl rfl)
theorem dX4_lays4_42 : decode cX4_lays4 42 = .ok (.aload_n 0, 1) := dk_42 (dk_at dksX4_lays4_1 18 rfl rfl)
theorem dX4_lays4_43 : decode cX4_lays4 43 = .ok (.aload_n 0, 1) := dk_42 (dk_at dksX4_lays4_1 19 rfl rfl)
theorem dX4_lays4_44 : decode cX4_lays4 44 = .ok (.getfield 90, 3) := dk_180 0 90 (dk_at dksX4_lays4_1 20 rfl rfl)
theorem dX4_lays4_47 : decode cX4_lays4 47 = .ok (.iconst 0, 1) := dk_3 (dk_at dksX4_lays4_1 23 rfl rfl)
theorem dX4_lays4_48 : decode cX4_lays4 48 = .ok (.invokevirtual 354, 3) := dk_182 1 98 (dk_at dksX4_lays4_2 0 rfl rfl)
theorem dX4_lays4_51 : decode cX4_lays4 51 = .ok (.goto 4, 3) := dk_167 0 4 (dk_at dksX4_lays4_2 3 rfl rfl)
theorem dX4_lays4_54 : decode cX4_lays4 54 = .ok (.iconst (-1), 1) := dk_2 (dk_at dksX4_lays4_2 6 rfl rfl)
theorem dX4_lays4_55 : decode cX4_lays4 55 = .ok (.istore 4, 2) := dk_54 4 (dk_at dksX4_lays4_2 7 rfl rfl)
theorem dX4_lays4_57 : decode cX4_lays4 57 = .ok (.iload_n 3, 1) := dk_29 (dk_at dksX4_lays4_2 9 rfl rfl)
theorem dX4_lays4_58 : decode cX4_lays4 58 = .ok (.iconst 2, 1) := dk_5 (dk_at dksX4_lays4_2 10 rfl rfl)
theorem dX4_lays4_59 : decode cX4_lays4 59 = .ok (.irem, 1) := dk_112 (dk_at dksX4_lays4_2 11 rfl rfl)
theorem dX4_lays4_60 : decode cX4_lays4 60 = .ok (.ifCond .ne 15, 3) := dk_154 0 15 (dk_at dksX4_lays4_2 12 rfl rfl)
theorem dX4_lays4_63 : decode cX4_lays4 63 = .ok (.aload_n 0, 1) := dk_42 (dk_at dksX4_lays4_2 15 rfl rfl)
theorem dX4_lays4_64 : decode cX4_lays4 64 = .ok (.aload_n 0, 1) := dk_42 (dk_at dksX4_lays4_2 16 rfl rfl)
theorem dX4_lays4_65 : decode cX4_lays4 65 = .ok (.getfield 90, 3) := dk_180 0 90 (dk_at dksX4_lays4_2 17 rfl rfl)
theorem dX4_lays4_68 : decode cX4_lays4 68 = .ok (.iconst 1, 1) := dk_4 (dk_at dksX4_lays4_2 20 rfl rfl)
theorem dX4_lays4_69 : decode cX4_lays4 69 = .ok (.invokevirtual 354, 3) := dk_182 1 98 (dk_at dksX4_lays4_2 21 rfl rfl)
theorem dX4_lays4_72 : decode cX4_lays4 72 = .ok (.goto 4, 3) := dk_167 0 4 (dk_at dksX4_lays4_3 0 rfl rfl)
theorem dX4_lays4_75 : decode cX4_lays4 75 = .ok (.iconst (-1), 1) := dk_2 (dk_at dksX4_lays4_3 3 rfl rfl)
theorem dX4_lays4_76 : decode cX4_lays4 76 = .ok (.istore 5, 2) := dk_54 5 (dk_at dksX4_lays4_3 4 rfl rfl)
theorem dX4_lays4_78 : decode cX4_lays4 78 = .ok (.iload 4, 2) := dk_21 4 (dk_at dksX4_lays4_3 6 rfl rfl)
theorem dX4_lays4_80 : decode cX4_lays4 80 = .ok (.iconst (-1), 1) := dk_2 (dk_at dksX4_lays4_3 8 rfl rfl)
theorem dX4_lays4_81 : decode cX4_lays4 81 = .ok (.if_icmp .eq 11, 3) := dk_159 0 11 (dk_at dksX4_lays4_3 9 rfl rfl)
theorem dX4_lays4_84 : decode cX4_lays4 84 = .ok (.aload_n 0, 1) := dk_42 (dk_at dksX4_lays4_3 12 rfl rfl)
theorem dX4_lays4_85 : decode cX4_lays4 85 = .ok (.getfield 93, 3) := dk_180 0 93 (dk_at dksX4_lays4_3 13 rfl rfl)
theorem dX4_lays4_88 : decode cX4_lays4 88 = .ok (.iload 4, 2) := dk_21 4 (dk_at dksX4_lays4_3 16 rfl rfl)
theorem dX4_lays4_90 : decode cX4_lays4 90 = .ok (.iconst 2, 1) := dk_5 (dk_at dksX4_lays4_3 18 rfl rfl)
theorem dX4_lays4_91 : decode cX4_lays4 91 = .ok (.iastore, 1) := dk_79 (dk_at dksX4_lays4_3 19 rfl rfl)
theorem dX4_lays4_92 : decode cX4_lays4 92 = .ok (.iload 5, 2) := dk_21 5 (dk_at dksX4_lays4_3 20 rfl rfl)
theorem dX4_lays4_94 : decode cX4_lays4 94 = .ok (.iconst (-1), 1) := dk_2 (dk_at dksX4_lays4_3 22 rfl rfl)
theorem dX4_lays4_95 : decode cX4_lays4 95 = .ok (.if_icmp .eq 11, 3) := dk_159 0 11 (dk_at dksX4_lays4_4 0 rfl rfl)
theorem dX4_lays4_98 : decode cX4_lays4 98 = .ok (.aload_n 0, 1) := dk_42 (dk_at dksX4_lays4_4 3 rfl rfl)
theorem dX4_lays4_99 : decode cX4_lays4 99 = .ok (.getfield 93, 3) := dk_180 0 93 (dk_at dksX4_lays4_4 4 rfl rfl)
theorem dX4_lays4_102 : decode cX4_lays4 102 = .ok (.iload 5, 2) := dk_21 5 (dk_at dksX4_lays4_4 7 rfl rfl)
theorem dX4_lays4_104 : decode cX4_lays4 104 = .ok (.iconst 2, 1) := dk_5 (dk_at dksX4_lays4_4 9 rfl rfl)
theorem dX4_lays4_105 : decode cX4_lays4 105 = .ok (.iastore, 1) := dk_79 (dk_at dksX4_lays4_4 10 rfl rfl)
theorem dX4_lays4_106 : decode cX4_lays4 106 = .ok (.iconst 0, 1) := dk_3 (dk_at dksX4_lays4_4 11 rfl rfl)
theorem dX4_lays4_107 : decode cX4_lays4 107 = .ok (.istore 6, 2) := dk_54 6 (dk_at dksX4_lays4_4 12 rfl rfl)
theorem dX4_lays4_109 : decode cX4_lays4 109 = .ok (.iconst 0, 1) := dk_3 (dk_at dksX4_lays4_4 14 rfl rfl)
theorem dX4_lays4_110 : decode cX4_lays4 110 = .ok (.istore 7, 2) := dk_54 7 (dk_at dksX4_lays4_4 15 rfl rfl)
theorem dX4_lays4_112 : decode cX4_lays4 112 = .ok (.iload 7, 2) := dk_21 7 (dk_at dksX4_lays4_4 17 rfl rfl)
theorem dX4_lays4_114 : decode cX4_lays4 114 = .ok (.aload_n 0, 1) := dk_42 (dk_at dksX4_lays4_4 19 rfl rfl)
theorem dX4_lays4_115 : decode cX4_lays4 115 = .ok (.getfield 277, 3) := dk_180 1 21 (dk_at dksX4_lays4_4 20 rfl rfl)
theorem dX4_lays4_118 : decode cX4_lays4 118 = .ok (.if_icmp .ge 68, 3) := dk_162 0 68 (dk_at dksX4_lays4_5 0 rfl rfl)
theorem dX4_lays4_121 : decode cX4_lays4 121 = .ok (.iload 6, 2) := dk_21 6 (dk_at dksX4_lays4_5 3 rfl rfl)
theorem dX4_lays4_123 : decode cX4_lays4 123 = .ok (.aload_n 0, 1) := dk_42 (dk_at dksX4_lays4_5 5 rfl rfl)
theorem dX4_lays4_124 : decode cX4_lays4 124 = .ok (.getfield 93, 3) := dk_180 0 93 (dk_at dksX4_lays4_5 6 rfl rfl)
theorem dX4_lays4_127 : decode cX4_lays4 127 = .ok (.iload 7, 2) := dk_21 7 (dk_at dksX4_lays4_5 9 rfl rfl)
theorem dX4_lays4_129 : decode cX4_lays4 129 = .ok (.iaload, 1) := dk_46 (dk_at dksX4_lays4_5 11 rfl rfl)
theorem dX4_lays4_130 : decode cX4_lays4 130 = .ok (.ifCond .ne 14, 3) := dk_154 0 14 (dk_at dksX4_lays4_5 12 rfl rfl)
theorem dX4_lays4_133 : decode cX4_lays4 133 = .ok (.aload_n 0, 1) := dk_42 (dk_at dksX4_lays4_5 15 rfl rfl)
theorem dX4_lays4_134 : decode cX4_lays4 134 = .ok (.getfield 13, 3) := dk_180 0 13 (dk_at dksX4_lays4_5 16 rfl rfl)
theorem dX4_lays4_137 : decode cX4_lays4 137 = .ok (.iload 7, 2) := dk_21 7 (dk_at dksX4_lays4_5 19 rfl rfl)
theorem dX4_lays4_139 : decode cX4_lays4 139 = .ok (.iaload, 1) := dk_46 (dk_at dksX4_lays4_5 21 rfl rfl)
theorem dX4_lays4_140 : decode cX4_lays4 140 = .ok (.iconst 2, 1) := dk_5 (dk_at dksX4_lays4_5 22 rfl rfl)
theorem dX4_lays4_141 : decode cX4_lays4 141 = .ok (.if_icmp .ne 7, 3) := dk_160 0 7 (dk_at dksX4_lays4_6 0 rfl rfl)
theorem dX4_lays4_144 : decode cX4_lays4 144 = .ok (.iconst 0, 1) := dk_3 (dk_at dksX4_lays4_6 3 rfl rfl)
theorem dX4_lays4_145 : decode cX4_lays4 145 = .ok (.goto 32, 3) := dk_167 0 32 (dk_at dksX4_lays4_6 4 rfl rfl)
theorem dX4_lays4_148 : decode cX4_lays4 148 = .ok (.aload_n 0, 1) := dk_42 (dk_at dksX4_lays4_6 7 rfl rfl)
theorem dX4_lays4_149 : decode cX4_lays4 149 = .ok (.getfield 13, 3) := dk_180 0 13 (dk_at dksX4_lays4_6 8 rfl rfl)
theorem dX4_lays4_152 : decode cX4_lays4 152 = .ok (.iload 7, 2) := dk_21 7 (dk_at dksX4_lays4_6 11 rfl rfl)
theorem dX4_lays4_154 : decode cX4_lays4 154 = .ok (.iaload, 1) := dk_46 (dk_at dksX4_lays4_6 13 rfl rfl)
theorem dX4_lays4_155 : decode cX4_lays4 155 = .ok (.ifCond .ne 13, 3) := dk_154 0 13 (dk_at dksX4_lays4_6 14 rfl rfl)
theorem dX4_lays4_158 : decode cX4_lays4 158 = .ok (.aload_n 0, 1) := dk_42 (dk_at dksX4_lays4_6 17 rfl rfl)
theorem dX4_lays4_159 : decode cX4_lays4 159 = .ok (.getfield 26, 3) := dk_180 0 26 (dk_at dksX4_lays4_6 18 rfl rfl)
theorem dX4_lays4_162 : decode cX4_lays4 162 = .ok (.iload 7, 2) := dk_21 7 (dk_at dksX4_lays4_6 21 rfl rfl)
theorem dX4_lays4_164 : decode cX4_lays4 164 = .ok (.iaload, 1) := dk_46 (dk_at dksX4_lays4_6 23 rfl rfl)
theorem dX4_lays4_165 : decode cX4_lays4 165 = .ok (.goto 12, 3) := dk_167 0 12 (dk_at dksX4_lays4_7 0 rfl rfl)
theorem dX4_lays4_168 : decode cX4_lays4 168 = .ok (.iconst 0, 1) := dk_3 (dk_at dksX4_lays4_7 3 rfl rfl)
theorem dX4_lays4_169 : decode cX4_lays4 169 = .ok (.aload_n 0, 1) := dk_42 (dk_at dksX4_lays4_7 4 rfl rfl)
theorem dX4_lays4_170 : decode cX4_lays4 170 = .ok (.getfield 26, 3) := dk_180 0 26 (dk_at dksX4_lays4_7 5 rfl rfl)
theorem dX4_lays4_173 : decode cX4_lays4 173 = .ok (.iload 7, 2) := dk_21 7 (dk_at dksX4_lays4_7 8 rfl rfl)
theorem dX4_lays4_175 : decode cX4_lays4 175 = .ok (.iaload, 1) := dk_46 (dk_at dksX4_lays4_7 10 rfl rfl)
theorem dX4_lays4_176 : decode cX4_lays4 176 = .ok (.isub, 1) := dk_100 (dk_at dksX4_lays4_7 11 rfl rfl)
theorem dX4_lays4_177 : decode cX4_lays4 177 = .ok (.iadd, 1) := dk_96 (dk_at dksX4_lays4_7 12 rfl rfl)
theorem dX4_lays4_178 : decode cX4_lays4 178 = .ok (.istore 6, 2) := dk_54 6 (dk_at dksX4_lays4_7 13 rfl rfl)
theorem dX4_lays4_180 : decode cX4_lays4 180 = .ok (.iinc 7 1, 3) := dk_132 7 1 (dk_at dksX4_lays4_7 15 rfl rfl)
theorem dX4_lays4_183 : decode cX4_lays4 183 = .ok (.goto (-71), 3) := dk_167 255 185 (dk_at dksX4_lays4_7 18 rfl rfl)
theorem dX4_lays4_186 : decode cX4_lays4 186 = .ok (.aload_n 0, 1) := dk_42 (dk_at dksX4_lays4_7 21 rfl rfl)
theorem dX4_lays4_187 : decode cX4_lays4 187 = .ok (.aload_n 0, 1) := dk_42 (dk_at dksX4_lays4_7 22 rfl rfl)
theorem dX4_lays4_188 : decode cX4_lays4 188 = .ok (.aload_n 0, 1) := dk_42 (dk_at dksX4_lays4_7 23 rfl rfl)
theorem dX4_lays4_189 : decode cX4_lays4 189 = .ok (.getfield 93, 3) := dk_180 0 93 (dk_at dksX4_lays4_8 0 rfl rfl)
theorem dX4_lays4_192 : decode cX4_lays4 192 = .ok (.iconst 0, 1) := dk_3 (dk_at dksX4_lays4_8 3 rfl rfl)
theorem dX4_lays4_193 : decode cX4_lays4 193 = .ok (.invokevirtual 317, 3) := dk_182 1 61 (dk_at dksX4_lays4_8 4 rfl rfl)
theorem dX4_lays4_196 : decode cX4_lays4 196 = .ok (.invokevirtual 321, 3) := dk_182 1 65 (dk_at dksX4_lays4_8 7 rfl rfl)
theorem dX4_lays4_199 : decode cX4_lays4 199 = .ok (.invokestatic 311, 3) := dk_184 1 55 (dk_at dksX4_lays4_8 10 rfl rfl)
theorem dX4_lays4_202 : decode cX4_lays4 202 = .ok (.iload_n 2, 1) := dk_28 (dk_at dksX4_lays4_8 13 rfl rfl)
theorem dX4_lays4_203 : decode cX4_lays4 203 = .ok (.if_icmp .ne 7, 3) := dk_160 0 7 (dk_at dksX4_lays4_8 14 rfl rfl)
theorem dX4_lays4_206 : decode cX4_lays4 206 = .ok (.iload_n 1, 1) := dk_27 (dk_at dksX4_lays4_8 17 rfl rfl)
theorem dX4_lays4_207 : decode cX4_lays4 207 = .ok (.goto 4, 3) := dk_167 0 4 (dk_at dksX4_lays4_8 18 rfl rfl)
theorem dX4_lays4_210 : decode cX4_lays4 210 = .ok (.iconst 0, 1) := dk_3 (dk_at dksX4_lays4_8 21 rfl rfl)
theorem dX4_lays4_211 : decode cX4_lays4 211 = .ok (.istore 7, 2) := dk_54 7 (dk_at dksX4_lays4_8 22 rfl rfl)
theorem dX4_lays4_213 : decode cX4_lays4 213 = .ok (.aload_n 0, 1) := dk_42 (dk_at dksX4_lays4_9 0 rfl rfl)
theorem dX4_lays4_214 : decode cX4_lays4 214 = .ok (.getfield 108, 3) := dk_180 0 108 (dk_at dksX4_lays4_9 1 rfl rfl)
theorem dX4_lays4_217 : decode cX4_lays4 217 = .ok (.iconst 2, 1) := dk_5 (dk_at dksX4_lays4_9 4 rfl rfl)
theorem dX4_lays4_218 : decode cX4_lays4 218 = .ok (.iload_n 3, 1) := dk_29 (dk_at dksX4_lays4_9 5 rfl rfl)
theorem dX4_lays4_219 : decode cX4_lays4 219 = .ok (.imul, 1) := dk_104 (dk_at dksX4_lays4_9 6 rfl rfl)
theorem dX4_lays4_220 : decode cX4_lays4 220 = .ok (.iload 6, 2) := dk_21 6 (dk_at dksX4_lays4_9 7 rfl rfl)
theorem dX4_lays4_222 : decode cX4_lays4 222 = .ok (.iload 7, 2) := dk_21 7 (dk_at dksX4_lays4_9 9 rfl rfl)
theorem dX4_lays4_224 : decode cX4_lays4 224 = .ok (.iadd, 1) := dk_96 (dk_at dksX4_lays4_9 11 rfl rfl)
theorem dX4_lays4_225 : decode cX4_lays4 225 = .ok (.iastore, 1) := dk_79 (dk_at dksX4_lays4_9 12 rfl rfl)
theorem dX4_lays4_226 : decode cX4_lays4 226 = .ok (.aload_n 0, 1) := dk_42 (dk_at dksX4_lays4_9 13 rfl rfl)
theorem dX4_lays4_227 : decode cX4_lays4 227 = .ok (.getfield 108, 3) := dk_180 0 108 (dk_at dksX4_lays4_9 14 rfl rfl)
theorem dX4_lays4_230 : decode cX4_lays4 230 = .ok (.iconst 2, 1) := dk_5 (dk_at dksX4_lays4_9 17 rfl rfl)
theorem dX4_lays4_231 : decode cX4_lays4 231 = .ok (.iload_n 3, 1) := dk_29 (dk_at dksX4_lays4_9 18 rfl rfl)
theorem dX4_lays4_232 : decode cX4_lays4 232 = .ok (.imul, 1) := dk_104 (dk_at dksX4_lays4_9 19 rfl rfl)
theorem dX4_lays4_233 : decode cX4_lays4 233 = .ok (.iconst 1, 1) := dk_4 (dk_at dksX4_lays4_9 20 rfl rfl)
theorem dX4_lays4_234 : decode cX4_lays4 234 = .ok (.iadd, 1) := dk_96 (dk_at dksX4_lays4_9 21 rfl rfl)
theorem dX4_lays4_235 : decode cX4_lays4 235 = .ok (.iload 7, 2) := dk_21 7 (dk_at dksX4_lays4_9 22 rfl rfl)
theorem dX4_lays4_237 : decode cX4_lays4 237 = .ok (.iload 6, 2) := dk_21 6 (dk_at dksX4_lays4_10 0 rfl rfl)
theorem dX4_lays4_239 : decode cX4_lays4 239 = .ok (.isub, 1) := dk_100 (dk_at dksX4_lays4_10 2 rfl rfl)
theorem dX4_lays4_240 : decode cX4_lays4 240 = .ok (.iastore, 1) := dk_79 (dk_at dksX4_lays4_10 3 rfl rfl)
theorem dX4_lays4_241 : decode cX4_lays4 241 = .ok (.iinc 3 1, 3) := dk_132 3 1 (dk_at dksX4_lays4_10 4 rfl rfl)
theorem dX4_lays4_244 : decode cX4_lays4 244 = .ok (.goto (-225), 3) := dk_167 255 31 (dk_at dksX4_lays4_10 7 rfl rfl)
theorem dX4_lays4_247 : decode cX4_lays4 247 = .ok (.return_, 1) := dk_177 (dk_at dksX4_lays4_10 10 rfl rfl)
abbrev cX4_wars : ByteArray := prog_14_method_110_code
def yX4_wars : MethodName := ⟨RX4, "wars", "(III)I"⟩
def dkwX4_wars_8 : List UInt8 := [184, 1, 55, 172]
abbrev dktX4_wars_8 : List UInt8 := dkwX4_wars_8 ++ []
def dkwX4_wars_7 : List UInt8 := [180, 0, 90, 16, 15, 46, 100, 167, 0, 19, 42, 42, 42, 180, 0, 93, 3, 182, 1, 61, 182, 1, 65]
abbrev dktX4_wars_7 : List UInt8 := dkwX4_wars_7 ++ dktX4_wars_8
def dkwX4_wars_6 : List UInt8 := [182, 1, 61, 184, 1, 55, 167, 0, 42, 29, 4, 160, 0, 21, 42, 180, 0, 93, 16, 15, 46, 42]
abbrev dktX4_wars_6 : List UInt8 := dkwX4_wars_6 ++ dktX4_wars_7
def dkwX4_wars_5 : List UInt8 := [180, 0, 93, 182, 1, 107, 87, 132, 4, 1, 167, 255, 184, 29, 154, 0, 18, 42, 42, 180, 0, 93, 5]
abbrev dktX4_wars_5 : List UInt8 := dkwX4_wars_5 ++ dktX4_wars_6
def dkwX4_wars_4 : List UInt8 := [167, 0, 19, 42, 180, 0, 93, 21, 5, 46, 4, 160, 0, 7, 3, 167, 0, 4, 5, 79, 42, 42]
abbrev dktX4_wars_4 : List UInt8 := dkwX4_wars_4 ++ dktX4_wars_5
def dkwX4_wars_3 : List UInt8 := [182, 1, 155, 54, 5, 42, 180, 0, 93, 21, 5, 42, 180, 0, 93, 21, 5, 46, 154, 0, 7, 4]
abbrev dktX4_wars_3 : List UInt8 := dkwX4_wars_3 ++ dktX4_wars_4
def dkwX4_wars_2 : List UInt8 := [181, 1, 151, 3, 54, 4, 21, 4, 28, 162, 0, 72, 42, 180, 1, 21, 158, 0, 50, 42, 42, 180, 1, 21]
abbrev dktX4_wars_2 : List UInt8 := dkwX4_wars_2 ++ dktX4_wars_3
def dkwX4_wars_1 : List UInt8 := [182, 1, 14, 154, 0, 5, 3, 172, 42, 42, 180, 0, 90, 42, 180, 0, 93, 182, 1, 27, 42, 27]
abbrev dktX4_wars_1 : List UInt8 := dkwX4_wars_1 ++ dktX4_wars_2
def dkwX4_wars_0 : List UInt8 := [42, 3, 181, 0, 120, 42, 29, 5, 182, 1, 71, 153, 0, 18, 42, 28, 3, 16, 60, 184, 1, 41, 5]
abbrev dktX4_wars_0 : List UInt8 := dkwX4_wars_0 ++ dktX4_wars_1
theorem dksX4_wars_0 : cX4_wars.data.toList.drop 0 = dktX4_wars_0 := by decide +kernel
theorem dksX4_wars_1 : cX4_wars.data.toList.drop 23 = dktX4_wars_1 := dk_seg dksX4_wars_0 23 rfl rfl
theorem dksX4_wars_2 : cX4_wars.data.toList.drop 45 = dktX4_wars_2 := dk_seg dksX4_wars_1 22 rfl rfl
theorem dksX4_wars_3 : cX4_wars.data.toList.drop 69 = dktX4_wars_3 := dk_seg dksX4_wars_2 24 rfl rfl
theorem dksX4_wars_4 : cX4_wars.data.toList.drop 91 = dktX4_wars_4 := dk_seg dksX4_wars_3 22 rfl rfl
theorem dksX4_wars_5 : cX4_wars.data.toList.drop 113 = dktX4_wars_5 := dk_seg dksX4_wars_4 22 rfl rfl
theorem dksX4_wars_6 : cX4_wars.data.toList.drop 136 = dktX4_wars_6 := dk_seg dksX4_wars_5 23 rfl rfl
theorem dksX4_wars_7 : cX4_wars.data.toList.drop 158 = dktX4_wars_7 := dk_seg dksX4_wars_6 22 rfl rfl
theorem dksX4_wars_8 : cX4_wars.data.toList.drop 181 = dktX4_wars_8 := dk_seg dksX4_wars_7 23 rfl rfl
theorem dX4_wars_0 : decode cX4_wars 0 = .ok (.aload_n 0, 1) := dk_42 (dk_at dksX4_wars_0 0 rfl rfl)
theorem dX4_wars_1 : decode cX4_wars 1 = .ok (.iconst 0, 1) := dk_3 (dk_at dksX4_wars_0 1 rfl rfl)
theorem dX4_wars_2 : decode cX4_wars 2 = .ok (.putfield 120, 3) := dk_181 0 120 (dk_at dksX4_wars_0 2 rfl rfl)
theorem dX4_wars_5 : decode cX4_wars 5 = .ok (.aload_n 0, 1) := dk_42 (dk_at dksX4_wars_0 5 rfl rfl)
theorem dX4_wars_6 : decode cX4_wars 6 = .ok (.iload_n 3, 1) := dk_29 (dk_at dksX4_wars_0 6 rfl rfl)
theorem dX4_wars_7 : decode cX4_wars 7 = .ok (.iconst 2, 1) := dk_5 (dk_at dksX4_wars_0 7 rfl rfl)
theorem dX4_wars_8 : decode cX4_wars 8 = .ok (.invokevirtual 327, 3) := dk_182 1 71 (dk_at dksX4_wars_0 8 rfl rfl)
theorem dX4_wars_11 : decode cX4_wars 11 = .ok (.ifCond .eq 18, 3) := dk_153 0 18 (dk_at dksX4_wars_0 11 rfl rfl)
theorem dX4_wars_14 : decode cX4_wars 14 = .ok (.aload_n 0, 1) := dk_42 (dk_at dksX4_wars_0 14 rfl rfl)
theorem dX4_wars_15 : decode cX4_wars 15 = .ok (.iload_n 2, 1) := dk_28 (dk_at dksX4_wars_0 15 rfl rfl)
theorem dX4_wars_16 : decode cX4_wars 16 = .ok (.iconst 0, 1) := dk_3 (dk_at dksX4_wars_0 16 rfl rfl)
theorem dX4_wars_17 : decode cX4_wars 17 = .ok (.bipush 60, 2) := dk_16 60 (dk_at dksX4_wars_0 17 rfl rfl)
theorem dX4_wars_19 : decode cX4_wars 19 = .ok (.invokestatic 297, 3) := dk_184 1 41 (dk_at dksX4_wars_0 19 rfl rfl)
theorem dX4_wars_22 : decode cX4_wars 22 = .ok (.iconst 2, 1) := dk_5 (dk_at dksX4_wars_0 22 rfl rfl)
theorem dX4_wars_23 : decode cX4_wars 23 = .ok (.invokevirtual 270, 3) := dk_182 1 14 (dk_at dksX4_wars_1 0 rfl rfl)
theorem dX4_wars_26 : decode cX4_wars 26 = .ok (.ifCond .ne 5, 3) := dk_154 0 5 (dk_at dksX4_wars_1 3 rfl rfl)
theorem dX4_wars_29 : decode cX4_wars 29 = .ok (.iconst 0, 1) := dk_3 (dk_at dksX4_wars_1 6 rfl rfl)
theorem dX4_wars_30 : decode cX4_wars 30 = .ok (.ireturn, 1) := dk_172 (dk_at dksX4_wars_1 7 rfl rfl)
theorem dX4_wars_31 : decode cX4_wars 31 = .ok (.aload_n 0, 1) := dk_42 (dk_at dksX4_wars_1 8 rfl rfl)
theorem dX4_wars_32 : decode cX4_wars 32 = .ok (.aload_n 0, 1) := dk_42 (dk_at dksX4_wars_1 9 rfl rfl)
theorem dX4_wars_33 : decode cX4_wars 33 = .ok (.getfield 90, 3) := dk_180 0 90 (dk_at dksX4_wars_1 10 rfl rfl)
theorem dX4_wars_36 : decode cX4_wars 36 = .ok (.aload_n 0, 1) := dk_42 (dk_at dksX4_wars_1 13 rfl rfl)
theorem dX4_wars_37 : decode cX4_wars 37 = .ok (.getfield 93, 3) := dk_180 0 93 (dk_at dksX4_wars_1 14 rfl rfl)
theorem dX4_wars_40 : decode cX4_wars 40 = .ok (.invokevirtual 283, 3) := dk_182 1 27 (dk_at dksX4_wars_1 17 rfl rfl)
theorem dX4_wars_43 : decode cX4_wars 43 = .ok (.aload_n 0, 1) := dk_42 (dk_at dksX4_wars_1 20 rfl rfl)
theorem dX4_wars_44 : decode cX4_wars 44 = .ok (.iload_n 1, 1) := dk_27 (dk_at dksX4_wars_1 21 rfl rfl)
theorem dX4_wars_45 : decode cX4_wars 45 = .ok (.putfield 407, 3) := dk_181 1 151 (dk_at dksX4_wars_2 0 rfl rfl)
theorem dX4_wars_48 : decode cX4_wars 48 = .ok (.iconst 0, 1) := dk_3 (dk_at dksX4_wars_2 3 rfl rfl)
theorem dX4_wars_49 : decode cX4_wars 49 = .ok (.istore 4, 2) := dk_54 4 (dk_at dksX4_wars_2 4 rfl rfl)
theorem dX4_wars_51 : decode cX4_wars 51 = .ok (.iload 4, 2) := dk_21 4 (dk_at dksX4_wars_2 6 rfl rfl)
theorem dX4_wars_53 : decode cX4_wars 53 = .ok (.iload_n 2, 1) := dk_28 (dk_at dksX4_wars_2 8 rfl rfl)
theorem dX4_wars_54 : decode cX4_wars 54 = .ok (.if_icmp .ge 72, 3) := dk_162 0 72 (dk_at dksX4_wars_2 9 rfl rfl)
theorem dX4_wars_57 : decode cX4_wars 57 = .ok (.aload_n 0, 1) := dk_42 (dk_at dksX4_wars_2 12 rfl rfl)
theorem dX4_wars_58 : decode cX4_wars 58 = .ok (.getfield 277, 3) := dk_180 1 21 (dk_at dksX4_wars_2 13 rfl rfl)
theorem dX4_wars_61 : decode cX4_wars 61 = .ok (.ifCond .le 50, 3) := dk_158 0 50 (dk_at dksX4_wars_2 16 rfl rfl)
theorem dX4_wars_64 : decode cX4_wars 64 = .ok (.aload_n 0, 1) := dk_42 (dk_at dksX4_wars_2 19 rfl rfl)
theorem dX4_wars_65 : decode cX4_wars 65 = .ok (.aload_n 0, 1) := dk_42 (dk_at dksX4_wars_2 20 rfl rfl)
theorem dX4_wars_66 : decode cX4_wars 66 = .ok (.getfield 277, 3) := dk_180 1 21 (dk_at dksX4_wars_2 21 rfl rfl)
theorem dX4_wars_69 : decode cX4_wars 69 = .ok (.invokevirtual 411, 3) := dk_182 1 155 (dk_at dksX4_wars_3 0 rfl rfl)
theorem dX4_wars_72 : decode cX4_wars 72 = .ok (.istore 5, 2) := dk_54 5 (dk_at dksX4_wars_3 3 rfl rfl)
theorem dX4_wars_74 : decode cX4_wars 74 = .ok (.aload_n 0, 1) := dk_42 (dk_at dksX4_wars_3 5 rfl rfl)
theorem dX4_wars_75 : decode cX4_wars 75 = .ok (.getfield 93, 3) := dk_180 0 93 (dk_at dksX4_wars_3 6 rfl rfl)
theorem dX4_wars_78 : decode cX4_wars 78 = .ok (.iload 5, 2) := dk_21 5 (dk_at dksX4_wars_3 9 rfl rfl)
theorem dX4_wars_80 : decode cX4_wars 80 = .ok (.aload_n 0, 1) := dk_42 (dk_at dksX4_wars_3 11 rfl rfl)
theorem dX4_wars_81 : decode cX4_wars 81 = .ok (.getfield 93, 3) := dk_180 0 93 (dk_at dksX4_wars_3 12 rfl rfl)
theorem dX4_wars_84 : decode cX4_wars 84 = .ok (.iload 5, 2) := dk_21 5 (dk_at dksX4_wars_3 15 rfl rfl)
theorem dX4_wars_86 : decode cX4_wars 86 = .ok (.iaload, 1) := dk_46 (dk_at dksX4_wars_3 17 rfl rfl)
theorem dX4_wars_87 : decode cX4_wars 87 = .ok (.ifCond .ne 7, 3) := dk_154 0 7 (dk_at dksX4_wars_3 18 rfl rfl)
theorem dX4_wars_90 : decode cX4_wars 90 = .ok (.iconst 1, 1) := dk_4 (dk_at dksX4_wars_3 21 rfl rfl)
theorem dX4_wars_91 : decode cX4_wars 91 = .ok (.goto 19, 3) := dk_167 0 19 (dk_at dksX4_wars_4 0 rfl rfl)
theorem dX4_wars_94 : decode cX4_wars 94 = .ok (.aload_n 0, 1) := dk_42 (dk_at dksX4_wars_4 3 rfl rfl)
theorem dX4_wars_95 : decode cX4_wars 95 = .ok (.getfield 93, 3) := dk_180 0 93 (dk_at dksX4_wars_4 4 rfl rfl)
theorem dX4_wars_98 : decode cX4_wars 98 = .ok (.iload 5, 2) := dk_21 5 (dk_at dksX4_wars_4 7 rfl rfl)
theorem dX4_wars_100 : decode cX4_wars 100 = .ok (.iaload, 1) := dk_46 (dk_at dksX4_wars_4 9 rfl rfl)
theorem dX4_wars_101 : decode cX4_wars 101 = .ok (.iconst 1, 1) := dk_4 (dk_at dksX4_wars_4 10 rfl rfl)
theorem dX4_wars_102 : decode cX4_wars 102 = .ok (.if_icmp .ne 7, 3) := dk_160 0 7 (dk_at dksX4_wars_4 11 rfl rfl)
theorem dX4_wars_105 : decode cX4_wars 105 = .ok (.iconst 0, 1) := dk_3 (dk_at dksX4_wars_4 14 rfl rfl)
theorem dX4_wars_106 : decode cX4_wars 106 = .ok (.goto 4, 3) := dk_167 0 4 (dk_at dksX4_wars_4 15 rfl rfl)
theorem dX4_wars_109 : decode cX4_wars 109 = .ok (.iconst 2, 1) := dk_5 (dk_at dksX4_wars_4 18 rfl rfl)
theorem dX4_wars_110 : decode cX4_wars 110 = .ok (.iastore, 1) := dk_79 (dk_at dksX4_wars_4 19 rfl rfl)
theorem dX4_wars_111 : decode cX4_wars 111 = .ok (.aload_n 0, 1) := dk_42 (dk_at dksX4_wars_4 20 rfl rfl)
theorem dX4_wars_112 : decode cX4_wars 112 = .ok (.aload_n 0, 1) := dk_42 (dk_at dksX4_wars_4 21 rfl rfl)
theorem dX4_wars_113 : decode cX4_wars 113 = .ok (.getfield 93, 3) := dk_180 0 93 (dk_at dksX4_wars_5 0 rfl rfl)
theorem dX4_wars_116 : decode cX4_wars 116 = .ok (.invokevirtual 363, 3) := dk_182 1 107 (dk_at dksX4_wars_5 3 rfl rfl)
theorem dX4_wars_119 : decode cX4_wars 119 = .ok (.pop, 1) := dk_87 (dk_at dksX4_wars_5 6 rfl rfl)
theorem dX4_wars_120 : decode cX4_wars 120 = .ok (.iinc 4 1, 3) := dk_132 4 1 (dk_at dksX4_wars_5 7 rfl rfl)
theorem dX4_wars_123 : decode cX4_wars 123 = .ok (.goto (-72), 3) := dk_167 255 184 (dk_at dksX4_wars_5 10 rfl rfl)
theorem dX4_wars_126 : decode cX4_wars 126 = .ok (.iload_n 3, 1) := dk_29 (dk_at dksX4_wars_5 13 rfl rfl)
theorem dX4_wars_127 : decode cX4_wars 127 = .ok (.ifCond .ne 18, 3) := dk_154 0 18 (dk_at dksX4_wars_5 14 rfl rfl)
theorem dX4_wars_130 : decode cX4_wars 130 = .ok (.aload_n 0, 1) := dk_42 (dk_at dksX4_wars_5 17 rfl rfl)
theorem dX4_wars_131 : decode cX4_wars 131 = .ok (.aload_n 0, 1) := dk_42 (dk_at dksX4_wars_5 18 rfl rfl)
theorem dX4_wars_132 : decode cX4_wars 132 = .ok (.getfield 93, 3) := dk_180 0 93 (dk_at dksX4_wars_5 19 rfl rfl)
theorem dX4_wars_135 : decode cX4_wars 135 = .ok (.iconst 2, 1) := dk_5 (dk_at dksX4_wars_5 22 rfl rfl)
theorem dX4_wars_136 : decode cX4_wars 136 = .ok (.invokevirtual 317, 3) := dk_182 1 61 (dk_at dksX4_wars_6 0 rfl rfl)
theorem dX4_wars_139 : decode cX4_wars 139 = .ok (.invokestatic 311, 3) := dk_184 1 55 (dk_at dksX4_wars_6 3 rfl rfl)
theorem dX4_wars_142 : decode cX4_wars 142 = .ok (.goto 42, 3) := dk_167 0 42 (dk_at dksX4_wars_6 6 rfl rfl)
theorem dX4_wars_145 : decode cX4_wars 145 = .ok (.iload_n 3, 1) := dk_29 (dk_at dksX4_wars_6 9 rfl rfl)
theorem dX4_wars_146 : decode cX4_wars 146 = .ok (.iconst 1, 1) := dk_4 (dk_at dksX4_wars_6 10 rfl rfl)
theorem dX4_wars_147 : decode cX4_wars 147 = .ok (.if_icmp .ne 21, 3) := dk_160 0 21 (dk_at dksX4_wars_6 11 rfl rfl)
theorem dX4_wars_150 : decode cX4_wars 150 = .ok (.aload_n 0, 1) := dk_42 (dk_at dksX4_wars_6 14 rfl rfl)
theorem dX4_wars_151 : decode cX4_wars 151 = .ok (.getfield 93, 3) := dk_180 0 93 (dk_at dksX4_wars_6 15 rfl rfl)
theorem dX4_wars_154 : decode cX4_wars 154 = .ok (.bipush 15, 2) := dk_16 15 (dk_at dksX4_wars_6 18 rfl rfl)
theorem dX4_wars_156 : decode cX4_wars 156 = .ok (.iaload, 1) := dk_46 (dk_at dksX4_wars_6 20 rfl rfl)
theorem dX4_wars_157 : decode cX4_wars 157 = .ok (.aload_n 0, 1) := dk_42 (dk_at dksX4_wars_6 21 rfl rfl)
theorem dX4_wars_158 : decode cX4_wars 158 = .ok (.getfield 90, 3) := dk_180 0 90 (dk_at dksX4_wars_7 0 rfl rfl)
theorem dX4_wars_161 : decode cX4_wars 161 = .ok (.bipush 15, 2) := dk_16 15 (dk_at dksX4_wars_7 3 rfl rfl)
theorem dX4_wars_163 : decode cX4_wars 163 = .ok (.iaload, 1) := dk_46 (dk_at dksX4_wars_7 5 rfl rfl)
theorem dX4_wars_164 : decode cX4_wars 164 = .ok (.isub, 1) := dk_100 (dk_at dksX4_wars_7 6 rfl rfl)
theorem dX4_wars_165 : decode cX4_wars 165 = .ok (.goto 19, 3) := dk_167 0 19 (dk_at dksX4_wars_7 7 rfl rfl)
theorem dX4_wars_168 : decode cX4_wars 168 = .ok (.aload_n 0, 1) := dk_42 (dk_at dksX4_wars_7 10 rfl rfl)
theorem dX4_wars_169 : decode cX4_wars 169 = .ok (.aload_n 0, 1) := dk_42 (dk_at dksX4_wars_7 11 rfl rfl)
theorem dX4_wars_170 : decode cX4_wars 170 = .ok (.aload_n 0, 1) := dk_42 (dk_at dksX4_wars_7 12 rfl rfl)
theorem dX4_wars_171 : decode cX4_wars 171 = .ok (.getfield 93, 3) := dk_180 0 93 (dk_at dksX4_wars_7 13 rfl rfl)
theorem dX4_wars_174 : decode cX4_wars 174 = .ok (.iconst 0, 1) := dk_3 (dk_at dksX4_wars_7 16 rfl rfl)
theorem dX4_wars_175 : decode cX4_wars 175 = .ok (.invokevirtual 317, 3) := dk_182 1 61 (dk_at dksX4_wars_7 17 rfl rfl)
theorem dX4_wars_178 : decode cX4_wars 178 = .ok (.invokevirtual 321, 3) := dk_182 1 65 (dk_at dksX4_wars_7 20 rfl rfl)
theorem dX4_wars_181 : decode cX4_wars 181 = .ok (.invokestatic 311, 3) := dk_184 1 55 (dk_at dksX4_wars_8 0 rfl rfl)
theorem dX4_wars_184 : decode cX4_wars 184 = .ok (.ireturn, 1) := dk_172 (dk_at dksX4_wars_8 3 rfl rfl)
abbrev cX4_draw : ByteArray := prog_14_method_109_code
def yX4_draw : MethodName := ⟨RX4, "draw", "(I)I"⟩
def dkwX4_draw_1 : List UInt8 := [17, 127, 255, 126, 27, 112, 172]
abbrev dktX4_draw_1 : List UInt8 := dkwX4_draw_1 ++ []
def dkwX4_draw_0 : List UInt8 := [42, 42, 180, 1, 151, 19, 1, 154, 104, 17, 48, 57, 96, 181, 1, 151, 42, 180, 1, 151, 16, 16, 122]
abbrev dktX4_draw_0 : List UInt8 := dkwX4_draw_0 ++ dktX4_draw_1
theorem dksX4_draw_0 : cX4_draw.data.toList.drop 0 = dktX4_draw_0 := by decide +kernel
theorem dksX4_draw_1 : cX4_draw.data.toList.drop 23 = dktX4_draw_1 := dk_seg dksX4_draw_0 23 rfl rfl
theorem dX4_draw_0 : decode cX4_draw 0 = .ok (.aload_n 0, 1) := dk_42 (dk_at dksX4_draw_0 0 rfl rfl)
theorem dX4_draw_1 : decode cX4_draw 1 = .ok (.aload_n 0, 1) := dk_42 (dk_at dksX4_draw_0 1 rfl rfl)
theorem dX4_draw_2 : decode cX4_draw 2 = .ok (.getfield 407, 3) := dk_180 1 151 (dk_at dksX4_draw_0 2 rfl rfl)
theorem dX4_draw_5 : decode cX4_draw 5 = .ok (.ldc_w 410, 3) := dk_19 1 154 (dk_at dksX4_draw_0 5 rfl rfl)
theorem dX4_draw_8 : decode cX4_draw 8 = .ok (.imul, 1) := dk_104 (dk_at dksX4_draw_0 8 rfl rfl)
theorem dX4_draw_9 : decode cX4_draw 9 = .ok (.sipush 12345, 3) := dk_17 48 57 (dk_at dksX4_draw_0 9 rfl rfl)
theorem dX4_draw_12 : decode cX4_draw 12 = .ok (.iadd, 1) := dk_96 (dk_at dksX4_draw_0 12 rfl rfl)
theorem dX4_draw_13 : decode cX4_draw 13 = .ok (.putfield 407, 3) := dk_181 1 151 (dk_at dksX4_draw_0 13 rfl rfl)
theorem dX4_draw_16 : decode cX4_draw 16 = .ok (.aload_n 0, 1) := dk_42 (dk_at dksX4_draw_0 16 rfl rfl)
theorem dX4_draw_17 : decode cX4_draw 17 = .ok (.getfield 407, 3) := dk_180 1 151 (dk_at dksX4_draw_0 17 rfl rfl)
theorem dX4_draw_20 : decode cX4_draw 20 = .ok (.bipush 16, 2) := dk_16 16 (dk_at dksX4_draw_0 20 rfl rfl)
theorem dX4_draw_22 : decode cX4_draw 22 = .ok (.ishr, 1) := dk_122 (dk_at dksX4_draw_0 22 rfl rfl)
theorem dX4_draw_23 : decode cX4_draw 23 = .ok (.sipush 32767, 3) := dk_17 127 255 (dk_at dksX4_draw_1 0 rfl rfl)
theorem dX4_draw_26 : decode cX4_draw 26 = .ok (.iand, 1) := dk_126 (dk_at dksX4_draw_1 3 rfl rfl)
theorem dX4_draw_27 : decode cX4_draw 27 = .ok (.iload_n 1, 1) := dk_27 (dk_at dksX4_draw_1 4 rfl rfl)
theorem dX4_draw_28 : decode cX4_draw 28 = .ok (.irem, 1) := dk_112 (dk_at dksX4_draw_1 5 rfl rfl)
theorem dX4_draw_29 : decode cX4_draw 29 = .ok (.ireturn, 1) := dk_172 (dk_at dksX4_draw_1 6 rfl rfl)
abbrev cX4_image : ByteArray := prog_14_method_111_code
def yX4_image : MethodName := ⟨RX4, "image", "()V"⟩
def dkwX4_image_2 : List UInt8 := [182, 1, 27, 42, 42, 180, 0, 105, 42, 180, 0, 117, 182, 1, 27, 177]
abbrev dktX4_image_2 : List UInt8 := dkwX4_image_2 ++ []
def dkwX4_image_1 : List UInt8 := [181, 1, 161, 42, 42, 180, 0, 90, 42, 180, 0, 111, 182, 1, 27, 42, 42, 180, 0, 96, 42, 180, 0, 114]
abbrev dktX4_image_1 : List UInt8 := dkwX4_image_1 ++ dktX4_image_2
def dkwX4_image_0 : List UInt8 := [42, 3, 181, 0, 120, 42, 4, 181, 1, 37, 42, 42, 180, 1, 31, 181, 1, 158, 42, 42, 180, 1, 34]
abbrev dktX4_image_0 : List UInt8 := dkwX4_image_0 ++ dktX4_image_1
theorem dksX4_image_0 : cX4_image.data.toList.drop 0 = dktX4_image_0 := by decide +kernel
theorem dksX4_image_1 : cX4_image.data.toList.drop 23 = dktX4_image_1 := dk_seg dksX4_image_0 23 rfl rfl
theorem dksX4_image_2 : cX4_image.data.toList.drop 47 = dktX4_image_2 := dk_seg dksX4_image_1 24 rfl rfl
theorem dX4_image_0 : decode cX4_image 0 = .ok (.aload_n 0, 1) := dk_42 (dk_at dksX4_image_0 0 rfl rfl)
theorem dX4_image_1 : decode cX4_image 1 = .ok (.iconst 0, 1) := dk_3 (dk_at dksX4_image_0 1 rfl rfl)
theorem dX4_image_2 : decode cX4_image 2 = .ok (.putfield 120, 3) := dk_181 0 120 (dk_at dksX4_image_0 2 rfl rfl)
theorem dX4_image_5 : decode cX4_image 5 = .ok (.aload_n 0, 1) := dk_42 (dk_at dksX4_image_0 5 rfl rfl)
theorem dX4_image_6 : decode cX4_image 6 = .ok (.iconst 1, 1) := dk_4 (dk_at dksX4_image_0 6 rfl rfl)
theorem dX4_image_7 : decode cX4_image 7 = .ok (.putfield 293, 3) := dk_181 1 37 (dk_at dksX4_image_0 7 rfl rfl)
theorem dX4_image_10 : decode cX4_image 10 = .ok (.aload_n 0, 1) := dk_42 (dk_at dksX4_image_0 10 rfl rfl)
theorem dX4_image_11 : decode cX4_image 11 = .ok (.aload_n 0, 1) := dk_42 (dk_at dksX4_image_0 11 rfl rfl)
theorem dX4_image_12 : decode cX4_image 12 = .ok (.getfield 287, 3) := dk_180 1 31 (dk_at dksX4_image_0 12 rfl rfl)
theorem dX4_image_15 : decode cX4_image 15 = .ok (.putfield 414, 3) := dk_181 1 158 (dk_at dksX4_image_0 15 rfl rfl)
theorem dX4_image_18 : decode cX4_image 18 = .ok (.aload_n 0, 1) := dk_42 (dk_at dksX4_image_0 18 rfl rfl)
theorem dX4_image_19 : decode cX4_image 19 = .ok (.aload_n 0, 1) := dk_42 (dk_at dksX4_image_0 19 rfl rfl)
theorem dX4_image_20 : decode cX4_image 20 = .ok (.getfield 290, 3) := dk_180 1 34 (dk_at dksX4_image_0 20 rfl rfl)
theorem dX4_image_23 : decode cX4_image 23 = .ok (.putfield 417, 3) := dk_181 1 161 (dk_at dksX4_image_1 0 rfl rfl)
theorem dX4_image_26 : decode cX4_image 26 = .ok (.aload_n 0, 1) := dk_42 (dk_at dksX4_image_1 3 rfl rfl)
theorem dX4_image_27 : decode cX4_image 27 = .ok (.aload_n 0, 1) := dk_42 (dk_at dksX4_image_1 4 rfl rfl)
theorem dX4_image_28 : decode cX4_image 28 = .ok (.getfield 90, 3) := dk_180 0 90 (dk_at dksX4_image_1 5 rfl rfl)
theorem dX4_image_31 : decode cX4_image 31 = .ok (.aload_n 0, 1) := dk_42 (dk_at dksX4_image_1 8 rfl rfl)
theorem dX4_image_32 : decode cX4_image 32 = .ok (.getfield 111, 3) := dk_180 0 111 (dk_at dksX4_image_1 9 rfl rfl)
theorem dX4_image_35 : decode cX4_image 35 = .ok (.invokevirtual 283, 3) := dk_182 1 27 (dk_at dksX4_image_1 12 rfl rfl)
theorem dX4_image_38 : decode cX4_image 38 = .ok (.aload_n 0, 1) := dk_42 (dk_at dksX4_image_1 15 rfl rfl)
theorem dX4_image_39 : decode cX4_image 39 = .ok (.aload_n 0, 1) := dk_42 (dk_at dksX4_image_1 16 rfl rfl)
theorem dX4_image_40 : decode cX4_image 40 = .ok (.getfield 96, 3) := dk_180 0 96 (dk_at dksX4_image_1 17 rfl rfl)
theorem dX4_image_43 : decode cX4_image 43 = .ok (.aload_n 0, 1) := dk_42 (dk_at dksX4_image_1 20 rfl rfl)
theorem dX4_image_44 : decode cX4_image 44 = .ok (.getfield 114, 3) := dk_180 0 114 (dk_at dksX4_image_1 21 rfl rfl)
theorem dX4_image_47 : decode cX4_image 47 = .ok (.invokevirtual 283, 3) := dk_182 1 27 (dk_at dksX4_image_2 0 rfl rfl)
theorem dX4_image_50 : decode cX4_image 50 = .ok (.aload_n 0, 1) := dk_42 (dk_at dksX4_image_2 3 rfl rfl)
theorem dX4_image_51 : decode cX4_image 51 = .ok (.aload_n 0, 1) := dk_42 (dk_at dksX4_image_2 4 rfl rfl)
theorem dX4_image_52 : decode cX4_image 52 = .ok (.getfield 105, 3) := dk_180 0 105 (dk_at dksX4_image_2 5 rfl rfl)
theorem dX4_image_55 : decode cX4_image 55 = .ok (.aload_n 0, 1) := dk_42 (dk_at dksX4_image_2 8 rfl rfl)
theorem dX4_image_56 : decode cX4_image 56 = .ok (.getfield 117, 3) := dk_180 0 117 (dk_at dksX4_image_2 9 rfl rfl)
theorem dX4_image_59 : decode cX4_image 59 = .ok (.invokevirtual 283, 3) := dk_182 1 27 (dk_at dksX4_image_2 12 rfl rfl)
theorem dX4_image_62 : decode cX4_image 62 = .ok (.return_, 1) := dk_177 (dk_at dksX4_image_2 15 rfl rfl)
abbrev cX4_restore : ByteArray := prog_14_method_112_code
def yX4_restore : MethodName := ⟨RX4, "restore", "()Z"⟩
def dkwX4_restore_2 : List UInt8 := [180, 0, 96, 182, 1, 27, 42, 42, 180, 0, 117, 42, 180, 0, 105, 182, 1, 27, 4, 172]
abbrev dktX4_restore_2 : List UInt8 := dkwX4_restore_2 ++ []
def dkwX4_restore_1 : List UInt8 := [180, 1, 161, 181, 1, 34, 42, 42, 180, 0, 111, 42, 180, 0, 90, 182, 1, 27, 42, 42, 180, 0, 114, 42]
abbrev dktX4_restore_1 : List UInt8 := dkwX4_restore_1 ++ dktX4_restore_2
def dkwX4_restore_0 : List UInt8 := [42, 3, 181, 0, 120, 42, 180, 1, 37, 154, 0, 5, 3, 172, 42, 42, 180, 1, 158, 181, 1, 31, 42, 42]
abbrev dktX4_restore_0 : List UInt8 := dkwX4_restore_0 ++ dktX4_restore_1
theorem dksX4_restore_0 : cX4_restore.data.toList.drop 0 = dktX4_restore_0 := by decide +kernel
theorem dksX4_restore_1 : cX4_restore.data.toList.drop 24 = dktX4_restore_1 := dk_seg dksX4_restore_0 24 rfl rfl
theorem dksX4_restore_2 : cX4_restore.data.toList.drop 48 = dktX4_restore_2 := dk_seg dksX4_restore_1 24 rfl rfl
theorem dX4_restore_0 : decode cX4_restore 0 = .ok (.aload_n 0, 1) := dk_42 (dk_at dksX4_restore_0 0 rfl rfl)
theorem dX4_restore_1 : decode cX4_restore 1 = .ok (.iconst 0, 1) := dk_3 (dk_at dksX4_restore_0 1 rfl rfl)
theorem dX4_restore_2 : decode cX4_restore 2 = .ok (.putfield 120, 3) := dk_181 0 120 (dk_at dksX4_restore_0 2 rfl rfl)
theorem dX4_restore_5 : decode cX4_restore 5 = .ok (.aload_n 0, 1) := dk_42 (dk_at dksX4_restore_0 5 rfl rfl)
theorem dX4_restore_6 : decode cX4_restore 6 = .ok (.getfield 293, 3) := dk_180 1 37 (dk_at dksX4_restore_0 6 rfl rfl)
theorem dX4_restore_9 : decode cX4_restore 9 = .ok (.ifCond .ne 5, 3) := dk_154 0 5 (dk_at dksX4_restore_0 9 rfl rfl)
theorem dX4_restore_12 : decode cX4_restore 12 = .ok (.iconst 0, 1) := dk_3 (dk_at dksX4_restore_0 12 rfl rfl)
theorem dX4_restore_13 : decode cX4_restore 13 = .ok (.ireturn, 1) := dk_172 (dk_at dksX4_restore_0 13 rfl rfl)
theorem dX4_restore_14 : decode cX4_restore 14 = .ok (.aload_n 0, 1) := dk_42 (dk_at dksX4_restore_0 14 rfl rfl)
theorem dX4_restore_15 : decode cX4_restore 15 = .ok (.aload_n 0, 1) := dk_42 (dk_at dksX4_restore_0 15 rfl rfl)
theorem dX4_restore_16 : decode cX4_restore 16 = .ok (.getfield 414, 3) := dk_180 1 158 (dk_at dksX4_restore_0 16 rfl rfl)
theorem dX4_restore_19 : decode cX4_restore 19 = .ok (.putfield 287, 3) := dk_181 1 31 (dk_at dksX4_restore_0 19 rfl rfl)
theorem dX4_restore_22 : decode cX4_restore 22 = .ok (.aload_n 0, 1) := dk_42 (dk_at dksX4_restore_0 22 rfl rfl)
theorem dX4_restore_23 : decode cX4_restore 23 = .ok (.aload_n 0, 1) := dk_42 (dk_at dksX4_restore_0 23 rfl rfl)
theorem dX4_restore_24 : decode cX4_restore 24 = .ok (.getfield 417, 3) := dk_180 1 161 (dk_at dksX4_restore_1 0 rfl rfl)
theorem dX4_restore_27 : decode cX4_restore 27 = .ok (.putfield 290, 3) := dk_181 1 34 (dk_at dksX4_restore_1 3 rfl rfl)
theorem dX4_restore_30 : decode cX4_restore 30 = .ok (.aload_n 0, 1) := dk_42 (dk_at dksX4_restore_1 6 rfl rfl)
theorem dX4_restore_31 : decode cX4_restore 31 = .ok (.aload_n 0, 1) := dk_42 (dk_at dksX4_restore_1 7 rfl rfl)
theorem dX4_restore_32 : decode cX4_restore 32 = .ok (.getfield 111, 3) := dk_180 0 111 (dk_at dksX4_restore_1 8 rfl rfl)
theorem dX4_restore_35 : decode cX4_restore 35 = .ok (.aload_n 0, 1) := dk_42 (dk_at dksX4_restore_1 11 rfl rfl)
theorem dX4_restore_36 : decode cX4_restore 36 = .ok (.getfield 90, 3) := dk_180 0 90 (dk_at dksX4_restore_1 12 rfl rfl)
theorem dX4_restore_39 : decode cX4_restore 39 = .ok (.invokevirtual 283, 3) := dk_182 1 27 (dk_at dksX4_restore_1 15 rfl rfl)
theorem dX4_restore_42 : decode cX4_restore 42 = .ok (.aload_n 0, 1) := dk_42 (dk_at dksX4_restore_1 18 rfl rfl)
theorem dX4_restore_43 : decode cX4_restore 43 = .ok (.aload_n 0, 1) := dk_42 (dk_at dksX4_restore_1 19 rfl rfl)
theorem dX4_restore_44 : decode cX4_restore 44 = .ok (.getfield 114, 3) := dk_180 0 114 (dk_at dksX4_restore_1 20 rfl rfl)
theorem dX4_restore_47 : decode cX4_restore 47 = .ok (.aload_n 0, 1) := dk_42 (dk_at dksX4_restore_1 23 rfl rfl)
theorem dX4_restore_48 : decode cX4_restore 48 = .ok (.getfield 96, 3) := dk_180 0 96 (dk_at dksX4_restore_2 0 rfl rfl)
theorem dX4_restore_51 : decode cX4_restore 51 = .ok (.invokevirtual 283, 3) := dk_182 1 27 (dk_at dksX4_restore_2 3 rfl rfl)
theorem dX4_restore_54 : decode cX4_restore 54 = .ok (.aload_n 0, 1) := dk_42 (dk_at dksX4_restore_2 6 rfl rfl)
theorem dX4_restore_55 : decode cX4_restore 55 = .ok (.aload_n 0, 1) := dk_42 (dk_at dksX4_restore_2 7 rfl rfl)
theorem dX4_restore_56 : decode cX4_restore 56 = .ok (.getfield 117, 3) := dk_180 0 117 (dk_at dksX4_restore_2 8 rfl rfl)
theorem dX4_restore_59 : decode cX4_restore 59 = .ok (.aload_n 0, 1) := dk_42 (dk_at dksX4_restore_2 11 rfl rfl)
theorem dX4_restore_60 : decode cX4_restore 60 = .ok (.getfield 105, 3) := dk_180 0 105 (dk_at dksX4_restore_2 12 rfl rfl)
theorem dX4_restore_63 : decode cX4_restore 63 = .ok (.invokevirtual 283, 3) := dk_182 1 27 (dk_at dksX4_restore_2 15 rfl rfl)
theorem dX4_restore_66 : decode cX4_restore 66 = .ok (.iconst 1, 1) := dk_4 (dk_at dksX4_restore_2 18 rfl rfl)
theorem dX4_restore_67 : decode cX4_restore 67 = .ok (.ireturn, 1) := dk_172 (dk_at dksX4_restore_2 19 rfl rfl)
theorem q106 : (Jvm.Cond.initialized "ValleyMassModel") ∈ lw_all := lw_g (lw_at lw_m1 7 rfl) rfl
theorem q352 : (Jvm.Cond.selects "ValleyMassModel" ({ cls := "java/lang/Object", name := "getClass", desc := "()Ljava/lang/Class;" } : Jvm.MethodName) ({ cls := "java/lang/Object", name := "getClass", desc := "()Ljava/lang/Class;" } : Jvm.MethodName)) ∈ lw_all := lw_g (lw_at lw_m2 13 rfl) rfl
theorem q1576 : (Jvm.Cond.instantiable "ValleyMassModel" (63 : Nat)) ∈ lw_all := lw_g (lw_at lw_m7 37 rfl) rfl
theorem q1578 : (Jvm.Cond.instanceMethod ({ cls := "ValleyMassModel", name := "<init>", desc := "()V" } : Jvm.MethodName)) ∈ lw_all := lw_g (lw_at lw_m7 39 rfl) rfl
theorem q1579 : (Jvm.Cond.code ({ cls := "ValleyMassModel", name := "<init>", desc := "()V" } : Jvm.MethodName) prog_14_method_1_code (1 : Nat) (Option.none : Option Jvm.ClassFile.FieldType)) ∈ lw_all := lw_g (lw_at lw_m7 40 rfl) rfl
theorem q1580 : (Jvm.Cond.methodLink "ValleyMassModel" (1 : Nat) ({ cls := "java/lang/Object", name := "<init>", desc := "()V" } : Jvm.MethodName)) ∈ lw_all := lw_g (lw_at lw_m7 41 rfl) rfl
theorem q1581 : (Jvm.Cond.fieldLink "ValleyMassModel" (120 : Nat) "ValleyMassModel" "thrown" "I") ∈ lw_all := lw_g (lw_at lw_m7 42 rfl) rfl
theorem q1582 : (Jvm.Cond.fieldLink "ValleyMassModel" (277 : Nat) "ValleyMassModel" "singers" "I") ∈ lw_all := lw_g (lw_at lw_m7 43 rfl) rfl
theorem q1583 : (Jvm.Cond.fieldLink "ValleyMassModel" (280 : Nat) "ValleyMassModel" "pieces" "I") ∈ lw_all := lw_g (lw_at lw_m7 44 rfl) rfl
theorem q1584 : (Jvm.Cond.fieldLink "ValleyMassModel" (7 : Nat) "ValleyMassModel" "every" "I") ∈ lw_all := lw_g (lw_at lw_m7 45 rfl) rfl
theorem q1585 : (Jvm.Cond.fieldLink "ValleyMassModel" (13 : Nat) "ValleyMassModel" "side" "[I") ∈ lw_all := lw_g (lw_at lw_m7 46 rfl) rfl
theorem q1586 : (Jvm.Cond.fieldLink "ValleyMassModel" (17 : Nat) "ValleyMassModel" "part" "[I") ∈ lw_all := lw_g (lw_at lw_m7 47 rfl) rfl
theorem q1587 : (Jvm.Cond.fieldLink "ValleyMassModel" (20 : Nat) "ValleyMassModel" "lowest" "[I") ∈ lw_all := lw_g (lw_at lw_m7 48 rfl) rfl
theorem q1588 : (Jvm.Cond.fieldLink "ValleyMassModel" (23 : Nat) "ValleyMassModel" "highest" "[I") ∈ lw_all := lw_g (lw_at lw_m7 49 rfl) rfl
theorem q1589 : (Jvm.Cond.fieldLink "ValleyMassModel" (26 : Nat) "ValleyMassModel" "skill" "[I") ∈ lw_all := lw_g (lw_at lw_m7 50 rfl) rfl
theorem q1590 : (Jvm.Cond.fieldLink "ValleyMassModel" (29 : Nat) "ValleyMassModel" "needs" "[I") ∈ lw_all := lw_g (lw_at lw_m7 51 rfl) rfl
theorem q1591 : (Jvm.Cond.fieldLink "ValleyMassModel" (32 : Nat) "ValleyMassModel" "long2" "[I") ∈ lw_all := lw_g (lw_at lw_m7 52 rfl) rfl
theorem q1592 : (Jvm.Cond.fieldLink "ValleyMassModel" (35 : Nat) "ValleyMassModel" "note" "[I") ∈ lw_all := lw_g (lw_at lw_m7 53 rfl) rfl
theorem q1593 : (Jvm.Cond.fieldLink "ValleyMassModel" (38 : Nat) "ValleyMassModel" "ruleAt" "[I") ∈ lw_all := lw_g (lw_at lw_m7 54 rfl) rfl
theorem q1594 : (Jvm.Cond.fieldLink "ValleyMassModel" (41 : Nat) "ValleyMassModel" "code" "[I") ∈ lw_all := lw_g (lw_at lw_m7 55 rfl) rfl
theorem q1595 : (Jvm.Cond.fieldLink "ValleyMassModel" (44 : Nat) "ValleyMassModel" "tape" "[I") ∈ lw_all := lw_g (lw_at lw_m7 56 rfl) rfl
theorem q1596 : (Jvm.Cond.fieldLink "ValleyMassModel" (123 : Nat) "ValleyMassModel" "taped" "I") ∈ lw_all := lw_g (lw_at lw_m7 57 rfl) rfl
theorem q1597 : (Jvm.Cond.fieldLink "ValleyMassModel" (176 : Nat) "ValleyMassModel" "faultKind" "I") ∈ lw_all := lw_g (lw_at lw_m7 58 rfl) rfl
theorem q1598 : (Jvm.Cond.fieldLink "ValleyMassModel" (47 : Nat) "ValleyMassModel" "faultPlace" "I") ∈ lw_all := lw_g (lw_at lw_m7 59 rfl) rfl
theorem q1599 : (Jvm.Cond.fieldLink "ValleyMassModel" (50 : Nat) "ValleyMassModel" "refused" "[I") ∈ lw_all := lw_g (lw_at lw_m7 60 rfl) rfl
theorem q1600 : (Jvm.Cond.fieldLink "ValleyMassModel" (130 : Nat) "ValleyMassModel" "long1" "I") ∈ lw_all := lw_g (lw_at lw_m7 61 rfl) rfl
theorem q1601 : (Jvm.Cond.fieldLink "ValleyMassModel" (133 : Nat) "ValleyMassModel" "next" "I") ∈ lw_all := lw_g (lw_at lw_m7 62 rfl) rfl
theorem q1602 : (Jvm.Cond.fieldLink "ValleyMassModel" (153 : Nat) "ValleyMassModel" "sort" "I") ∈ lw_all := lw_g (lw_at lw_m7 63 rfl) rfl
theorem q1603 : (Jvm.Cond.fieldLink "ValleyMassModel" (140 : Nat) "ValleyMassModel" "place" "I") ∈ lw_all := lw_g (lw_at lw_m7 64 rfl) rfl
theorem q1604 : (Jvm.Cond.fieldLink "ValleyMassModel" (163 : Nat) "ValleyMassModel" "long0" "I") ∈ lw_all := lw_g (lw_at lw_m7 65 rfl) rfl
theorem q1605 : (Jvm.Cond.fieldLink "ValleyMassModel" (147 : Nat) "ValleyMassModel" "value" "I") ∈ lw_all := lw_g (lw_at lw_m7 66 rfl) rfl
theorem q1606 : (Jvm.Cond.fieldLink "ValleyMassModel" (150 : Nat) "ValleyMassModel" "sign" "I") ∈ lw_all := lw_g (lw_at lw_m7 67 rfl) rfl
theorem q1607 : (Jvm.Cond.fieldLink "ValleyMassModel" (143 : Nat) "ValleyMassModel" "word" "J") ∈ lw_all := lw_g (lw_at lw_m7 68 rfl) rfl
theorem q1608 : (Jvm.Cond.fieldLink "ValleyMassModel" (241 : Nat) "ValleyMassModel" "newSingers" "I") ∈ lw_all := lw_g (lw_at lw_m7 69 rfl) rfl
theorem q1609 : (Jvm.Cond.fieldLink "ValleyMassModel" (248 : Nat) "ValleyMassModel" "newPieces" "I") ∈ lw_all := lw_g (lw_at lw_m7 70 rfl) rfl
theorem q1610 : (Jvm.Cond.fieldLink "ValleyMassModel" (261 : Nat) "ValleyMassModel" "newEvery" "I") ∈ lw_all := lw_g (lw_at lw_m7 71 rfl) rfl
theorem q1611 : (Jvm.Cond.fieldLink "ValleyMassModel" (189 : Nat) "ValleyMassModel" "top" "I") ∈ lw_all := lw_g (lw_at lw_m7 72 rfl) rfl
theorem q1612 : (Jvm.Cond.fieldLink "ValleyMassModel" (208 : Nat) "ValleyMassModel" "firstValue" "I") ∈ lw_all := lw_g (lw_at lw_m7 73 rfl) rfl
theorem q1613 : (Jvm.Cond.fieldLink "ValleyMassModel" (211 : Nat) "ValleyMassModel" "lastValue" "I") ∈ lw_all := lw_g (lw_at lw_m7 74 rfl) rfl
theorem q1614 : (Jvm.Cond.fieldLink "ValleyMassModel" (192 : Nat) "ValleyMassModel" "waiting" "I") ∈ lw_all := lw_g (lw_at lw_m7 75 rfl) rfl
theorem q1615 : (Jvm.Cond.fieldLink "ValleyMassModel" (214 : Nat) "ValleyMassModel" "depth" "I") ∈ lw_all := lw_g (lw_at lw_m7 76 rfl) rfl
theorem q1616 : (Jvm.Cond.fieldLink "ValleyMassModel" (53 : Nat) "ValleyMassModel" "newSide" "[I") ∈ lw_all := lw_g (lw_at lw_m7 77 rfl) rfl
theorem q1617 : (Jvm.Cond.fieldLink "ValleyMassModel" (56 : Nat) "ValleyMassModel" "newPart" "[I") ∈ lw_all := lw_g (lw_at lw_m7 78 rfl) rfl
theorem q1618 : (Jvm.Cond.fieldLink "ValleyMassModel" (59 : Nat) "ValleyMassModel" "newLowest" "[I") ∈ lw_all := lw_g (lw_at lw_m7 79 rfl) rfl
theorem q1619 : (Jvm.Cond.fieldLink "ValleyMassModel" (62 : Nat) "ValleyMassModel" "newHighest" "[I") ∈ lw_all := lw_g (lw_at lw_m7 80 rfl) rfl
theorem q1620 : (Jvm.Cond.fieldLink "ValleyMassModel" (65 : Nat) "ValleyMassModel" "newSkill" "[I") ∈ lw_all := lw_g (lw_at lw_m7 81 rfl) rfl
theorem q1621 : (Jvm.Cond.fieldLink "ValleyMassModel" (68 : Nat) "ValleyMassModel" "newNeeds" "[I") ∈ lw_all := lw_g (lw_at lw_m7 82 rfl) rfl
theorem q1622 : (Jvm.Cond.fieldLink "ValleyMassModel" (71 : Nat) "ValleyMassModel" "newLong" "[I") ∈ lw_all := lw_g (lw_at lw_m7 83 rfl) rfl
theorem q1623 : (Jvm.Cond.fieldLink "ValleyMassModel" (74 : Nat) "ValleyMassModel" "newNote" "[I") ∈ lw_all := lw_g (lw_at lw_m7 84 rfl) rfl
theorem q1624 : (Jvm.Cond.fieldLink "ValleyMassModel" (77 : Nat) "ValleyMassModel" "newRuleAt" "[I") ∈ lw_all := lw_g (lw_at lw_m7 85 rfl) rfl
theorem q1625 : (Jvm.Cond.fieldLink "ValleyMassModel" (80 : Nat) "ValleyMassModel" "readCode" "[I") ∈ lw_all := lw_g (lw_at lw_m7 86 rfl) rfl
theorem q1626 : (Jvm.Cond.fieldLink "ValleyMassModel" (83 : Nat) "ValleyMassModel" "waits" "[I") ∈ lw_all := lw_g (lw_at lw_m7 87 rfl) rfl
theorem q1627 : (Jvm.Cond.fieldLink "ValleyMassModel" (86 : Nat) "ValleyMassModel" "tested" "[Z") ∈ lw_all := lw_g (lw_at lw_m7 88 rfl) rfl
theorem q1628 : (Jvm.Cond.fieldLink "ValleyMassModel" (90 : Nat) "ValleyMassModel" "now" "[I") ∈ lw_all := lw_g (lw_at lw_m7 89 rfl) rfl
theorem q1629 : (Jvm.Cond.fieldLink "ValleyMassModel" (93 : Nat) "ValleyMassModel" "then" "[I") ∈ lw_all := lw_g (lw_at lw_m7 90 rfl) rfl
theorem q1630 : (Jvm.Cond.fieldLink "ValleyMassModel" (96 : Nat) "ValleyMassModel" "ahead" "[I") ∈ lw_all := lw_g (lw_at lw_m7 91 rfl) rfl
theorem q1631 : (Jvm.Cond.fieldLink "ValleyMassModel" (287 : Nat) "ValleyMassModel" "acts" "I") ∈ lw_all := lw_g (lw_at lw_m7 92 rfl) rfl
theorem q1632 : (Jvm.Cond.fieldLink "ValleyMassModel" (99 : Nat) "ValleyMassModel" "told" "[I") ∈ lw_all := lw_g (lw_at lw_m7 93 rfl) rfl
theorem q1633 : (Jvm.Cond.fieldLink "ValleyMassModel" (102 : Nat) "ValleyMassModel" "pile" "[I") ∈ lw_all := lw_g (lw_at lw_m7 94 rfl) rfl
theorem q1634 : (Jvm.Cond.fieldLink "ValleyMassModel" (290 : Nat) "ValleyMassModel" "heardMany" "I") ∈ lw_all := lw_g (lw_at lw_m7 95 rfl) rfl
theorem q1635 : (Jvm.Cond.fieldLink "ValleyMassModel" (105 : Nat) "ValleyMassModel" "heard" "[I") ∈ lw_all := lw_g (lw_at lw_m7 96 rfl) rfl
theorem q1636 : (Jvm.Cond.fieldLink "ValleyMassModel" (108 : Nat) "ValleyMassModel" "gain" "[I") ∈ lw_all := lw_g (lw_at lw_m7 97 rfl) rfl
theorem q1637 : (Jvm.Cond.fieldLink "ValleyMassModel" (407 : Nat) "ValleyMassModel" "its" "I") ∈ lw_all := lw_g (lw_at lw_m7 98 rfl) rfl
theorem q1638 : (Jvm.Cond.fieldLink "ValleyMassModel" (293 : Nat) "ValleyMassModel" "hasImage" "Z") ∈ lw_all := lw_g (lw_at lw_m7 99 rfl) rfl
theorem q1639 : (Jvm.Cond.fieldLink "ValleyMassModel" (414 : Nat) "ValleyMassModel" "imageActs" "I") ∈ lw_all := lw_g (lw_at lw_m7 100 rfl) rfl
theorem q1640 : (Jvm.Cond.fieldLink "ValleyMassModel" (417 : Nat) "ValleyMassModel" "imageHeard" "I") ∈ lw_all := lw_g (lw_at lw_m7 101 rfl) rfl
theorem q1641 : (Jvm.Cond.fieldLink "ValleyMassModel" (111 : Nat) "ValleyMassModel" "imageNow" "[I") ∈ lw_all := lw_g (lw_at lw_m7 102 rfl) rfl
theorem q1642 : (Jvm.Cond.fieldLink "ValleyMassModel" (114 : Nat) "ValleyMassModel" "imageAhead" "[I") ∈ lw_all := lw_g (lw_at lw_m7 103 rfl) rfl
theorem q1643 : (Jvm.Cond.fieldLink "ValleyMassModel" (117 : Nat) "ValleyMassModel" "imageHears" "[I") ∈ lw_all := lw_g (lw_at lw_m7 104 rfl) rfl
theorem q1644 : (Jvm.Cond.lays "ValleyMassModel" "ValleyMassModel" "thrown" "I") ∈ lw_all := lw_g (lw_at lw_m7 105 rfl) rfl
theorem q1645 : (Jvm.Cond.soleField "ValleyMassModel" "thrown") ∈ lw_all := lw_g (lw_at lw_m7 106 rfl) rfl
theorem q1646 : (Jvm.Cond.lays "ValleyMassModel" "ValleyMassModel" "singers" "I") ∈ lw_all := lw_g (lw_at lw_m7 107 rfl) rfl
theorem q1647 : (Jvm.Cond.soleField "ValleyMassModel" "singers") ∈ lw_all := lw_g (lw_at lw_m7 108 rfl) rfl
theorem q1648 : (Jvm.Cond.lays "ValleyMassModel" "ValleyMassModel" "pieces" "I") ∈ lw_all := lw_g (lw_at lw_m7 109 rfl) rfl
theorem q1649 : (Jvm.Cond.soleField "ValleyMassModel" "pieces") ∈ lw_all := lw_g (lw_at lw_m7 110 rfl) rfl
theorem q1650 : (Jvm.Cond.lays "ValleyMassModel" "ValleyMassModel" "every" "I") ∈ lw_all := lw_g (lw_at lw_m7 111 rfl) rfl
theorem q1651 : (Jvm.Cond.soleField "ValleyMassModel" "every") ∈ lw_all := lw_g (lw_at lw_m7 112 rfl) rfl
theorem q1652 : (Jvm.Cond.laysFinal "ValleyMassModel" "ValleyMassModel" "side" "[I") ∈ lw_all := lw_g (lw_at lw_m7 113 rfl) rfl
theorem q1653 : (Jvm.Cond.soleField "ValleyMassModel" "side") ∈ lw_all := lw_g (lw_at lw_m7 114 rfl) rfl
theorem q1654 : (Jvm.Cond.laysFinal "ValleyMassModel" "ValleyMassModel" "part" "[I") ∈ lw_all := lw_g (lw_at lw_m7 115 rfl) rfl
theorem q1655 : (Jvm.Cond.soleField "ValleyMassModel" "part") ∈ lw_all := lw_g (lw_at lw_m7 116 rfl) rfl
theorem q1656 : (Jvm.Cond.laysFinal "ValleyMassModel" "ValleyMassModel" "lowest" "[I") ∈ lw_all := lw_g (lw_at lw_m7 117 rfl) rfl
theorem q1657 : (Jvm.Cond.soleField "ValleyMassModel" "lowest") ∈ lw_all := lw_g (lw_at lw_m7 118 rfl) rfl
theorem q1658 : (Jvm.Cond.laysFinal "ValleyMassModel" "ValleyMassModel" "highest" "[I") ∈ lw_all := lw_g (lw_at lw_m7 119 rfl) rfl
theorem q1659 : (Jvm.Cond.soleField "ValleyMassModel" "highest") ∈ lw_all := lw_g (lw_at lw_m7 120 rfl) rfl
theorem q1660 : (Jvm.Cond.laysFinal "ValleyMassModel" "ValleyMassModel" "skill" "[I") ∈ lw_all := lw_g (lw_at lw_m7 121 rfl) rfl
theorem q1661 : (Jvm.Cond.soleField "ValleyMassModel" "skill") ∈ lw_all := lw_g (lw_at lw_m7 122 rfl) rfl
theorem q1662 : (Jvm.Cond.laysFinal "ValleyMassModel" "ValleyMassModel" "needs" "[I") ∈ lw_all := lw_g (lw_at lw_m7 123 rfl) rfl
theorem q1663 : (Jvm.Cond.soleField "ValleyMassModel" "needs") ∈ lw_all := lw_g (lw_at lw_m7 124 rfl) rfl
theorem q1664 : (Jvm.Cond.laysFinal "ValleyMassModel" "ValleyMassModel" "long2" "[I") ∈ lw_all := lw_g (lw_at lw_m7 125 rfl) rfl
theorem q1665 : (Jvm.Cond.soleField "ValleyMassModel" "long2") ∈ lw_all := lw_g (lw_at lw_m7 126 rfl) rfl
theorem q1666 : (Jvm.Cond.laysFinal "ValleyMassModel" "ValleyMassModel" "note" "[I") ∈ lw_all := lw_g (lw_at lw_m7 127 rfl) rfl
theorem q1667 : (Jvm.Cond.soleField "ValleyMassModel" "note") ∈ lw_all := lw_g (lw_at lw_m7 128 rfl) rfl
theorem q1668 : (Jvm.Cond.laysFinal "ValleyMassModel" "ValleyMassModel" "ruleAt" "[I") ∈ lw_all := lw_g (lw_at lw_m7 129 rfl) rfl
theorem q1669 : (Jvm.Cond.soleField "ValleyMassModel" "ruleAt") ∈ lw_all := lw_g (lw_at lw_m7 130 rfl) rfl
theorem q1670 : (Jvm.Cond.laysFinal "ValleyMassModel" "ValleyMassModel" "code" "[I") ∈ lw_all := lw_g (lw_at lw_m7 131 rfl) rfl
theorem q1671 : (Jvm.Cond.soleField "ValleyMassModel" "code") ∈ lw_all := lw_g (lw_at lw_m7 132 rfl) rfl
theorem q1672 : (Jvm.Cond.laysFinal "ValleyMassModel" "ValleyMassModel" "tape" "[I") ∈ lw_all := lw_g (lw_at lw_m7 133 rfl) rfl
theorem q1673 : (Jvm.Cond.soleField "ValleyMassModel" "tape") ∈ lw_all := lw_g (lw_at lw_m7 134 rfl) rfl
theorem q1674 : (Jvm.Cond.lays "ValleyMassModel" "ValleyMassModel" "taped" "I") ∈ lw_all := lw_g (lw_at lw_m7 135 rfl) rfl
theorem q1675 : (Jvm.Cond.soleField "ValleyMassModel" "taped") ∈ lw_all := lw_g (lw_at lw_m7 136 rfl) rfl
theorem q1676 : (Jvm.Cond.lays "ValleyMassModel" "ValleyMassModel" "faultKind" "I") ∈ lw_all := lw_g (lw_at lw_m7 137 rfl) rfl
theorem q1677 : (Jvm.Cond.soleField "ValleyMassModel" "faultKind") ∈ lw_all := lw_g (lw_at lw_m7 138 rfl) rfl
theorem q1678 : (Jvm.Cond.lays "ValleyMassModel" "ValleyMassModel" "faultPlace" "I") ∈ lw_all := lw_g (lw_at lw_m7 139 rfl) rfl
theorem q1679 : (Jvm.Cond.soleField "ValleyMassModel" "faultPlace") ∈ lw_all := lw_g (lw_at lw_m7 140 rfl) rfl
theorem q1680 : (Jvm.Cond.laysFinal "ValleyMassModel" "ValleyMassModel" "refused" "[I") ∈ lw_all := lw_g (lw_at lw_m7 141 rfl) rfl
theorem q1681 : (Jvm.Cond.soleField "ValleyMassModel" "refused") ∈ lw_all := lw_g (lw_at lw_m7 142 rfl) rfl
theorem q1682 : (Jvm.Cond.lays "ValleyMassModel" "ValleyMassModel" "long1" "I") ∈ lw_all := lw_g (lw_at lw_m7 143 rfl) rfl
theorem q1683 : (Jvm.Cond.soleField "ValleyMassModel" "long1") ∈ lw_all := lw_g (lw_at lw_m7 144 rfl) rfl
theorem q1684 : (Jvm.Cond.lays "ValleyMassModel" "ValleyMassModel" "next" "I") ∈ lw_all := lw_g (lw_at lw_m7 145 rfl) rfl
theorem q1685 : (Jvm.Cond.soleField "ValleyMassModel" "next") ∈ lw_all := lw_g (lw_at lw_m7 146 rfl) rfl
theorem q1686 : (Jvm.Cond.lays "ValleyMassModel" "ValleyMassModel" "sort" "I") ∈ lw_all := lw_g (lw_at lw_m7 147 rfl) rfl
theorem q1687 : (Jvm.Cond.soleField "ValleyMassModel" "sort") ∈ lw_all := lw_g (lw_at lw_m7 148 rfl) rfl
theorem q1688 : (Jvm.Cond.lays "ValleyMassModel" "ValleyMassModel" "place" "I") ∈ lw_all := lw_g (lw_at lw_m7 149 rfl) rfl
theorem q1689 : (Jvm.Cond.soleField "ValleyMassModel" "place") ∈ lw_all := lw_g (lw_at lw_m7 150 rfl) rfl
theorem q1690 : (Jvm.Cond.lays "ValleyMassModel" "ValleyMassModel" "long0" "I") ∈ lw_all := lw_g (lw_at lw_m7 151 rfl) rfl
theorem q1691 : (Jvm.Cond.soleField "ValleyMassModel" "long0") ∈ lw_all := lw_g (lw_at lw_m7 152 rfl) rfl
theorem q1692 : (Jvm.Cond.lays "ValleyMassModel" "ValleyMassModel" "value" "I") ∈ lw_all := lw_g (lw_at lw_m7 153 rfl) rfl
theorem q1693 : (Jvm.Cond.soleField "ValleyMassModel" "value") ∈ lw_all := lw_g (lw_at lw_m7 154 rfl) rfl
theorem q1694 : (Jvm.Cond.lays "ValleyMassModel" "ValleyMassModel" "sign" "I") ∈ lw_all := lw_g (lw_at lw_m7 155 rfl) rfl
theorem q1695 : (Jvm.Cond.soleField "ValleyMassModel" "sign") ∈ lw_all := lw_g (lw_at lw_m7 156 rfl) rfl
theorem q1696 : (Jvm.Cond.lays "ValleyMassModel" "ValleyMassModel" "word" "J") ∈ lw_all := lw_g (lw_at lw_m7 157 rfl) rfl
theorem q1697 : (Jvm.Cond.soleField "ValleyMassModel" "word") ∈ lw_all := lw_g (lw_at lw_m7 158 rfl) rfl
theorem q1698 : (Jvm.Cond.lays "ValleyMassModel" "ValleyMassModel" "newSingers" "I") ∈ lw_all := lw_g (lw_at lw_m7 159 rfl) rfl
theorem q1699 : (Jvm.Cond.soleField "ValleyMassModel" "newSingers") ∈ lw_all := lw_g (lw_at lw_m7 160 rfl) rfl
theorem q1700 : (Jvm.Cond.lays "ValleyMassModel" "ValleyMassModel" "newPieces" "I") ∈ lw_all := lw_g (lw_at lw_m7 161 rfl) rfl
theorem q1701 : (Jvm.Cond.soleField "ValleyMassModel" "newPieces") ∈ lw_all := lw_g (lw_at lw_m7 162 rfl) rfl
theorem q1702 : (Jvm.Cond.lays "ValleyMassModel" "ValleyMassModel" "newEvery" "I") ∈ lw_all := lw_g (lw_at lw_m7 163 rfl) rfl
theorem q1703 : (Jvm.Cond.soleField "ValleyMassModel" "newEvery") ∈ lw_all := lw_g (lw_at lw_m7 164 rfl) rfl
theorem q1704 : (Jvm.Cond.lays "ValleyMassModel" "ValleyMassModel" "top" "I") ∈ lw_all := lw_g (lw_at lw_m7 165 rfl) rfl
theorem q1705 : (Jvm.Cond.soleField "ValleyMassModel" "top") ∈ lw_all := lw_g (lw_at lw_m7 166 rfl) rfl
theorem q1706 : (Jvm.Cond.lays "ValleyMassModel" "ValleyMassModel" "firstValue" "I") ∈ lw_all := lw_g (lw_at lw_m7 167 rfl) rfl
theorem q1707 : (Jvm.Cond.soleField "ValleyMassModel" "firstValue") ∈ lw_all := lw_g (lw_at lw_m7 168 rfl) rfl
theorem q1708 : (Jvm.Cond.lays "ValleyMassModel" "ValleyMassModel" "lastValue" "I") ∈ lw_all := lw_g (lw_at lw_m7 169 rfl) rfl
theorem q1709 : (Jvm.Cond.soleField "ValleyMassModel" "lastValue") ∈ lw_all := lw_g (lw_at lw_m7 170 rfl) rfl
theorem q1710 : (Jvm.Cond.lays "ValleyMassModel" "ValleyMassModel" "waiting" "I") ∈ lw_all := lw_g (lw_at lw_m7 171 rfl) rfl
theorem q1711 : (Jvm.Cond.soleField "ValleyMassModel" "waiting") ∈ lw_all := lw_g (lw_at lw_m7 172 rfl) rfl
theorem q1712 : (Jvm.Cond.lays "ValleyMassModel" "ValleyMassModel" "depth" "I") ∈ lw_all := lw_g (lw_at lw_m7 173 rfl) rfl
theorem q1713 : (Jvm.Cond.soleField "ValleyMassModel" "depth") ∈ lw_all := lw_g (lw_at lw_m7 174 rfl) rfl
theorem q1714 : (Jvm.Cond.laysFinal "ValleyMassModel" "ValleyMassModel" "newSide" "[I") ∈ lw_all := lw_g (lw_at lw_m7 175 rfl) rfl
theorem q1715 : (Jvm.Cond.soleField "ValleyMassModel" "newSide") ∈ lw_all := lw_g (lw_at lw_m7 176 rfl) rfl
theorem q1716 : (Jvm.Cond.laysFinal "ValleyMassModel" "ValleyMassModel" "newPart" "[I") ∈ lw_all := lw_g (lw_at lw_m7 177 rfl) rfl
theorem q1717 : (Jvm.Cond.soleField "ValleyMassModel" "newPart") ∈ lw_all := lw_g (lw_at lw_m7 178 rfl) rfl
theorem q1718 : (Jvm.Cond.laysFinal "ValleyMassModel" "ValleyMassModel" "newLowest" "[I") ∈ lw_all := lw_g (lw_at lw_m7 179 rfl) rfl
theorem q1719 : (Jvm.Cond.soleField "ValleyMassModel" "newLowest") ∈ lw_all := lw_g (lw_at lw_m7 180 rfl) rfl
theorem q1720 : (Jvm.Cond.laysFinal "ValleyMassModel" "ValleyMassModel" "newHighest" "[I") ∈ lw_all := lw_g (lw_at lw_m7 181 rfl) rfl
theorem q1721 : (Jvm.Cond.soleField "ValleyMassModel" "newHighest") ∈ lw_all := lw_g (lw_at lw_m7 182 rfl) rfl
theorem q1722 : (Jvm.Cond.laysFinal "ValleyMassModel" "ValleyMassModel" "newSkill" "[I") ∈ lw_all := lw_g (lw_at lw_m7 183 rfl) rfl
theorem q1723 : (Jvm.Cond.soleField "ValleyMassModel" "newSkill") ∈ lw_all := lw_g (lw_at lw_m7 184 rfl) rfl
theorem q1724 : (Jvm.Cond.laysFinal "ValleyMassModel" "ValleyMassModel" "newNeeds" "[I") ∈ lw_all := lw_g (lw_at lw_m7 185 rfl) rfl
theorem q1725 : (Jvm.Cond.soleField "ValleyMassModel" "newNeeds") ∈ lw_all := lw_g (lw_at lw_m7 186 rfl) rfl
theorem q1726 : (Jvm.Cond.laysFinal "ValleyMassModel" "ValleyMassModel" "newLong" "[I") ∈ lw_all := lw_g (lw_at lw_m7 187 rfl) rfl
theorem q1727 : (Jvm.Cond.soleField "ValleyMassModel" "newLong") ∈ lw_all := lw_g (lw_at lw_m7 188 rfl) rfl
theorem q1728 : (Jvm.Cond.laysFinal "ValleyMassModel" "ValleyMassModel" "newNote" "[I") ∈ lw_all := lw_g (lw_at lw_m7 189 rfl) rfl
theorem q1729 : (Jvm.Cond.soleField "ValleyMassModel" "newNote") ∈ lw_all := lw_g (lw_at lw_m7 190 rfl) rfl
theorem q1730 : (Jvm.Cond.laysFinal "ValleyMassModel" "ValleyMassModel" "newRuleAt" "[I") ∈ lw_all := lw_g (lw_at lw_m7 191 rfl) rfl
theorem q1731 : (Jvm.Cond.soleField "ValleyMassModel" "newRuleAt") ∈ lw_all := lw_g (lw_at lw_m7 192 rfl) rfl
theorem q1732 : (Jvm.Cond.laysFinal "ValleyMassModel" "ValleyMassModel" "readCode" "[I") ∈ lw_all := lw_g (lw_at lw_m7 193 rfl) rfl
theorem q1733 : (Jvm.Cond.soleField "ValleyMassModel" "readCode") ∈ lw_all := lw_g (lw_at lw_m7 194 rfl) rfl
theorem q1734 : (Jvm.Cond.laysFinal "ValleyMassModel" "ValleyMassModel" "waits" "[I") ∈ lw_all := lw_g (lw_at lw_m7 195 rfl) rfl
theorem q1735 : (Jvm.Cond.soleField "ValleyMassModel" "waits") ∈ lw_all := lw_g (lw_at lw_m7 196 rfl) rfl
theorem q1736 : (Jvm.Cond.laysFinal "ValleyMassModel" "ValleyMassModel" "tested" "[Z") ∈ lw_all := lw_g (lw_at lw_m7 197 rfl) rfl
theorem q1737 : (Jvm.Cond.soleField "ValleyMassModel" "tested") ∈ lw_all := lw_g (lw_at lw_m7 198 rfl) rfl
theorem q1738 : (Jvm.Cond.laysFinal "ValleyMassModel" "ValleyMassModel" "now" "[I") ∈ lw_all := lw_g (lw_at lw_m7 199 rfl) rfl
theorem q1739 : (Jvm.Cond.soleField "ValleyMassModel" "now") ∈ lw_all := lw_g (lw_at lw_m7 200 rfl) rfl
theorem q1740 : (Jvm.Cond.laysFinal "ValleyMassModel" "ValleyMassModel" "then" "[I") ∈ lw_all := lw_g (lw_at lw_m7 201 rfl) rfl
theorem q1741 : (Jvm.Cond.soleField "ValleyMassModel" "then") ∈ lw_all := lw_g (lw_at lw_m7 202 rfl) rfl
theorem q1742 : (Jvm.Cond.laysFinal "ValleyMassModel" "ValleyMassModel" "ahead" "[I") ∈ lw_all := lw_g (lw_at lw_m7 203 rfl) rfl
theorem q1743 : (Jvm.Cond.soleField "ValleyMassModel" "ahead") ∈ lw_all := lw_g (lw_at lw_m7 204 rfl) rfl
theorem q1744 : (Jvm.Cond.lays "ValleyMassModel" "ValleyMassModel" "acts" "I") ∈ lw_all := lw_g (lw_at lw_m7 205 rfl) rfl
theorem q1745 : (Jvm.Cond.soleField "ValleyMassModel" "acts") ∈ lw_all := lw_g (lw_at lw_m7 206 rfl) rfl
theorem q1746 : (Jvm.Cond.laysFinal "ValleyMassModel" "ValleyMassModel" "told" "[I") ∈ lw_all := lw_g (lw_at lw_m7 207 rfl) rfl
theorem q1747 : (Jvm.Cond.soleField "ValleyMassModel" "told") ∈ lw_all := lw_g (lw_at lw_m7 208 rfl) rfl
theorem q1748 : (Jvm.Cond.laysFinal "ValleyMassModel" "ValleyMassModel" "pile" "[I") ∈ lw_all := lw_g (lw_at lw_m7 209 rfl) rfl
theorem q1749 : (Jvm.Cond.soleField "ValleyMassModel" "pile") ∈ lw_all := lw_g (lw_at lw_m7 210 rfl) rfl
theorem q1750 : (Jvm.Cond.lays "ValleyMassModel" "ValleyMassModel" "heardMany" "I") ∈ lw_all := lw_g (lw_at lw_m7 211 rfl) rfl
theorem q1751 : (Jvm.Cond.soleField "ValleyMassModel" "heardMany") ∈ lw_all := lw_g (lw_at lw_m7 212 rfl) rfl
theorem q1752 : (Jvm.Cond.laysFinal "ValleyMassModel" "ValleyMassModel" "heard" "[I") ∈ lw_all := lw_g (lw_at lw_m7 213 rfl) rfl
theorem q1753 : (Jvm.Cond.soleField "ValleyMassModel" "heard") ∈ lw_all := lw_g (lw_at lw_m7 214 rfl) rfl
theorem q1754 : (Jvm.Cond.laysFinal "ValleyMassModel" "ValleyMassModel" "gain" "[I") ∈ lw_all := lw_g (lw_at lw_m7 215 rfl) rfl
theorem q1755 : (Jvm.Cond.soleField "ValleyMassModel" "gain") ∈ lw_all := lw_g (lw_at lw_m7 216 rfl) rfl
theorem q1756 : (Jvm.Cond.lays "ValleyMassModel" "ValleyMassModel" "its" "I") ∈ lw_all := lw_g (lw_at lw_m7 217 rfl) rfl
theorem q1757 : (Jvm.Cond.soleField "ValleyMassModel" "its") ∈ lw_all := lw_g (lw_at lw_m7 218 rfl) rfl
theorem q1758 : (Jvm.Cond.lays "ValleyMassModel" "ValleyMassModel" "hasImage" "Z") ∈ lw_all := lw_g (lw_at lw_m7 219 rfl) rfl
theorem q1759 : (Jvm.Cond.soleField "ValleyMassModel" "hasImage") ∈ lw_all := lw_g (lw_at lw_m7 220 rfl) rfl
theorem q1760 : (Jvm.Cond.lays "ValleyMassModel" "ValleyMassModel" "imageActs" "I") ∈ lw_all := lw_g (lw_at lw_m7 221 rfl) rfl
theorem q1761 : (Jvm.Cond.soleField "ValleyMassModel" "imageActs") ∈ lw_all := lw_g (lw_at lw_m7 222 rfl) rfl
theorem q1762 : (Jvm.Cond.lays "ValleyMassModel" "ValleyMassModel" "imageHeard" "I") ∈ lw_all := lw_g (lw_at lw_m7 223 rfl) rfl
theorem q1763 : (Jvm.Cond.soleField "ValleyMassModel" "imageHeard") ∈ lw_all := lw_g (lw_at lw_m7 224 rfl) rfl
theorem q1764 : (Jvm.Cond.laysFinal "ValleyMassModel" "ValleyMassModel" "imageNow" "[I") ∈ lw_all := lw_g (lw_at lw_m7 225 rfl) rfl
theorem q1765 : (Jvm.Cond.soleField "ValleyMassModel" "imageNow") ∈ lw_all := lw_g (lw_at lw_m7 226 rfl) rfl
theorem q1766 : (Jvm.Cond.laysFinal "ValleyMassModel" "ValleyMassModel" "imageAhead" "[I") ∈ lw_all := lw_g (lw_at lw_m7 227 rfl) rfl
theorem q1767 : (Jvm.Cond.soleField "ValleyMassModel" "imageAhead") ∈ lw_all := lw_g (lw_at lw_m7 228 rfl) rfl
theorem q1768 : (Jvm.Cond.laysFinal "ValleyMassModel" "ValleyMassModel" "imageHears" "[I") ∈ lw_all := lw_g (lw_at lw_m7 229 rfl) rfl
theorem q1769 : (Jvm.Cond.soleField "ValleyMassModel" "imageHears") ∈ lw_all := lw_g (lw_at lw_m7 230 rfl) rfl
theorem q1770 : (Jvm.Cond.superclass "ValleyMassModel" "java/lang/Object") ∈ lw_all := lw_g (lw_at lw_m7 231 rfl) rfl
theorem q1773 : (Jvm.Cond.instanceMethod ({ cls := "ValleyMassModel", name := "thrown", desc := "()I" } : Jvm.MethodName)) ∈ lw_all := lw_g (lw_at lw_m7 234 rfl) rfl
theorem q1774 : (Jvm.Cond.selects "ValleyMassModel" ({ cls := "ValleyMassModel", name := "thrown", desc := "()I" } : Jvm.MethodName) ({ cls := "ValleyMassModel", name := "thrown", desc := "()I" } : Jvm.MethodName)) ∈ lw_all := lw_g (lw_at lw_m7 235 rfl) rfl
theorem q1775 : (Jvm.Cond.code ({ cls := "ValleyMassModel", name := "thrown", desc := "()I" } : Jvm.MethodName) prog_14_method_2_code (1 : Nat) (Option.some Jvm.ClassFile.FieldType.int)) ∈ lw_all := lw_g (lw_at lw_m7 236 rfl) rfl
theorem q1777 : (Jvm.Cond.instanceMethod ({ cls := "ValleyMassModel", name := "feed", desc := "(IIIII)I" } : Jvm.MethodName)) ∈ lw_all := lw_g (lw_at lw_m7 238 rfl) rfl
theorem q1778 : (Jvm.Cond.selects "ValleyMassModel" ({ cls := "ValleyMassModel", name := "feed", desc := "(IIIII)I" } : Jvm.MethodName) ({ cls := "ValleyMassModel", name := "feed", desc := "(IIIII)I" } : Jvm.MethodName)) ∈ lw_all := lw_g (lw_at lw_m7 239 rfl) rfl
theorem q1779 : (Jvm.Cond.code ({ cls := "ValleyMassModel", name := "feed", desc := "(IIIII)I" } : Jvm.MethodName) prog_14_method_7_code (6 : Nat) (Option.some Jvm.ClassFile.FieldType.int)) ∈ lw_all := lw_g (lw_at lw_m8 0 rfl) rfl
theorem q1780 : (Jvm.Cond.methodLink "ValleyMassModel" (126 : Nat) ({ cls := "ValleyMassModel", name := "lays", desc := "(I)V" } : Jvm.MethodName)) ∈ lw_all := lw_g (lw_at lw_m8 1 rfl) rfl
theorem q1781 : (Jvm.Cond.privateMethod ({ cls := "ValleyMassModel", name := "lays", desc := "(I)V" } : Jvm.MethodName)) ∈ lw_tbl := lw_at lw_m8 2 rfl
theorem q1782 : (Jvm.Cond.instanceMethod ({ cls := "ValleyMassModel", name := "lays", desc := "(I)V" } : Jvm.MethodName)) ∈ lw_all := lw_g (lw_at lw_m8 3 rfl) rfl
theorem q1783 : (Jvm.Cond.code ({ cls := "ValleyMassModel", name := "lays", desc := "(I)V" } : Jvm.MethodName) prog_14_method_8_code (3 : Nat) (Option.none : Option Jvm.ClassFile.FieldType)) ∈ lw_all := lw_g (lw_at lw_m8 4 rfl) rfl
theorem q1785 : (Jvm.Cond.instanceMethod ({ cls := "ValleyMassModel", name := "valley", desc := "(I)I" } : Jvm.MethodName)) ∈ lw_all := lw_g (lw_at lw_m8 6 rfl) rfl
theorem q1786 : (Jvm.Cond.selects "ValleyMassModel" ({ cls := "ValleyMassModel", name := "valley", desc := "(I)I" } : Jvm.MethodName) ({ cls := "ValleyMassModel", name := "valley", desc := "(I)I" } : Jvm.MethodName)) ∈ lw_all := lw_g (lw_at lw_m8 7 rfl) rfl
theorem q1787 : (Jvm.Cond.code ({ cls := "ValleyMassModel", name := "valley", desc := "(I)I" } : Jvm.MethodName) prog_14_method_36_code (3 : Nat) (Option.some Jvm.ClassFile.FieldType.int)) ∈ lw_all := lw_g (lw_at lw_m8 8 rfl) rfl
theorem q1788 : (Jvm.Cond.methodLink "ValleyMassModel" (270 : Nat) ({ cls := "ValleyMassModel", name := "right", desc := "(ZI)Z" } : Jvm.MethodName)) ∈ lw_all := lw_g (lw_at lw_m8 9 rfl) rfl
theorem q1789 : (Jvm.Cond.privateMethod ({ cls := "ValleyMassModel", name := "right", desc := "(ZI)Z" } : Jvm.MethodName)) ∈ lw_tbl := lw_at lw_m8 10 rfl
theorem q1790 : (Jvm.Cond.instanceMethod ({ cls := "ValleyMassModel", name := "right", desc := "(ZI)Z" } : Jvm.MethodName)) ∈ lw_all := lw_g (lw_at lw_m8 11 rfl) rfl
theorem q1791 : (Jvm.Cond.code ({ cls := "ValleyMassModel", name := "right", desc := "(ZI)Z" } : Jvm.MethodName) prog_14_method_3_code (3 : Nat) (Option.some Jvm.ClassFile.FieldType.boolean)) ∈ lw_all := lw_g (lw_at lw_m8 12 rfl) rfl
theorem q1792 : (Jvm.Cond.methodLink "ValleyMassModel" (183 : Nat) ({ cls := "ValleyMassModel", name := "goes", desc := "()V" } : Jvm.MethodName)) ∈ lw_all := lw_g (lw_at lw_m8 13 rfl) rfl
theorem q1793 : (Jvm.Cond.privateMethod ({ cls := "ValleyMassModel", name := "goes", desc := "()V" } : Jvm.MethodName)) ∈ lw_tbl := lw_at lw_m8 14 rfl
theorem q1794 : (Jvm.Cond.instanceMethod ({ cls := "ValleyMassModel", name := "goes", desc := "()V" } : Jvm.MethodName)) ∈ lw_all := lw_g (lw_at lw_m8 15 rfl) rfl
theorem q1795 : (Jvm.Cond.code ({ cls := "ValleyMassModel", name := "goes", desc := "()V" } : Jvm.MethodName) prog_14_method_12_code (2 : Nat) (Option.none : Option Jvm.ClassFile.FieldType)) ∈ lw_all := lw_g (lw_at lw_m8 16 rfl) rfl
theorem q1796 : (Jvm.Cond.methodLink "ValleyMassModel" (136 : Nat) ({ cls := "ValleyMassModel", name := "byteAt", desc := "(I)I" } : Jvm.MethodName)) ∈ lw_all := lw_g (lw_at lw_m8 17 rfl) rfl
theorem q1797 : (Jvm.Cond.privateMethod ({ cls := "ValleyMassModel", name := "byteAt", desc := "(I)I" } : Jvm.MethodName)) ∈ lw_tbl := lw_at lw_m8 18 rfl
theorem q1798 : (Jvm.Cond.instanceMethod ({ cls := "ValleyMassModel", name := "byteAt", desc := "(I)I" } : Jvm.MethodName)) ∈ lw_all := lw_g (lw_at lw_m8 19 rfl) rfl
theorem q1799 : (Jvm.Cond.code ({ cls := "ValleyMassModel", name := "byteAt", desc := "(I)I" } : Jvm.MethodName) prog_14_method_9_code (2 : Nat) (Option.some Jvm.ClassFile.FieldType.int)) ∈ lw_all := lw_g (lw_at lw_m8 20 rfl) rfl
theorem q1800 : (Jvm.Cond.methodLink "ValleyMassModel" (156 : Nat) ({ cls := "ValleyMassModel", name := "isLetter", desc := "(I)Z" } : Jvm.MethodName)) ∈ lw_all := lw_g (lw_at lw_m8 21 rfl) rfl
theorem q1801 : (Jvm.Cond.static ({ cls := "ValleyMassModel", name := "isLetter", desc := "(I)Z" } : Jvm.MethodName)) ∈ lw_all := lw_g (lw_at lw_m8 22 rfl) rfl
theorem q1802 : (Jvm.Cond.code ({ cls := "ValleyMassModel", name := "isLetter", desc := "(I)Z" } : Jvm.MethodName) prog_14_method_10_code (1 : Nat) (Option.some Jvm.ClassFile.FieldType.boolean)) ∈ lw_all := lw_g (lw_at lw_m8 23 rfl) rfl
theorem q1803 : (Jvm.Cond.methodLink "ValleyMassModel" (160 : Nat) ({ cls := "ValleyMassModel", name := "isDigit", desc := "(I)Z" } : Jvm.MethodName)) ∈ lw_all := lw_g (lw_at lw_m8 24 rfl) rfl
theorem q1804 : (Jvm.Cond.static ({ cls := "ValleyMassModel", name := "isDigit", desc := "(I)Z" } : Jvm.MethodName)) ∈ lw_all := lw_g (lw_at lw_m8 25 rfl) rfl
theorem q1805 : (Jvm.Cond.code ({ cls := "ValleyMassModel", name := "isDigit", desc := "(I)Z" } : Jvm.MethodName) prog_14_method_11_code (1 : Nat) (Option.some Jvm.ClassFile.FieldType.boolean)) ∈ lw_all := lw_g (lw_at lw_m8 26 rfl) rfl
theorem q1806 : (Jvm.Cond.methodLink "ValleyMassModel" (179 : Nat) ({ cls := "ValleyMassModel", name := "isGood", desc := "()Z" } : Jvm.MethodName)) ∈ lw_all := lw_g (lw_at lw_m8 27 rfl) rfl
theorem q1807 : (Jvm.Cond.privateMethod ({ cls := "ValleyMassModel", name := "isGood", desc := "()Z" } : Jvm.MethodName)) ∈ lw_tbl := lw_at lw_m8 28 rfl
theorem q1808 : (Jvm.Cond.instanceMethod ({ cls := "ValleyMassModel", name := "isGood", desc := "()Z" } : Jvm.MethodName)) ∈ lw_all := lw_g (lw_at lw_m8 29 rfl) rfl
theorem q1809 : (Jvm.Cond.code ({ cls := "ValleyMassModel", name := "isGood", desc := "()Z" } : Jvm.MethodName) prog_14_method_17_code (1 : Nat) (Option.some Jvm.ClassFile.FieldType.boolean)) ∈ lw_all := lw_g (lw_at lw_m8 30 rfl) rfl
theorem q1810 : (Jvm.Cond.methodLink "ValleyMassModel" (274 : Nat) ({ cls := "ValleyMassModel", name := "line", desc := "()V" } : Jvm.MethodName)) ∈ lw_all := lw_g (lw_at lw_m8 31 rfl) rfl
theorem q1811 : (Jvm.Cond.privateMethod ({ cls := "ValleyMassModel", name := "line", desc := "()V" } : Jvm.MethodName)) ∈ lw_tbl := lw_at lw_m8 32 rfl
theorem q1812 : (Jvm.Cond.instanceMethod ({ cls := "ValleyMassModel", name := "line", desc := "()V" } : Jvm.MethodName)) ∈ lw_all := lw_g (lw_at lw_m8 33 rfl) rfl
theorem q1813 : (Jvm.Cond.code ({ cls := "ValleyMassModel", name := "line", desc := "()V" } : Jvm.MethodName) prog_14_method_35_code (2 : Nat) (Option.none : Option Jvm.ClassFile.FieldType)) ∈ lw_all := lw_g (lw_at lw_m8 34 rfl) rfl
theorem q1814 : (Jvm.Cond.methodLink "ValleyMassModel" (204 : Nat) ({ cls := "ValleyMassModel", name := "knownWord", desc := "()I" } : Jvm.MethodName)) ∈ lw_all := lw_g (lw_at lw_m8 35 rfl) rfl
theorem q1815 : (Jvm.Cond.privateMethod ({ cls := "ValleyMassModel", name := "knownWord", desc := "()I" } : Jvm.MethodName)) ∈ lw_tbl := lw_at lw_m8 36 rfl
theorem q1816 : (Jvm.Cond.instanceMethod ({ cls := "ValleyMassModel", name := "knownWord", desc := "()I" } : Jvm.MethodName)) ∈ lw_all := lw_g (lw_at lw_m8 37 rfl) rfl
theorem q1817 : (Jvm.Cond.code ({ cls := "ValleyMassModel", name := "knownWord", desc := "()I" } : Jvm.MethodName) prog_14_method_15_code (2 : Nat) (Option.some Jvm.ClassFile.FieldType.int)) ∈ lw_all := lw_g (lw_at lw_m8 38 rfl) rfl
theorem q1818 : (Jvm.Cond.methodLink "ValleyMassModel" (172 : Nat) ({ cls := "ValleyMassModel", name := "letters", desc := "(I)J" } : Jvm.MethodName)) ∈ lw_all := lw_g (lw_at lw_m8 39 rfl) rfl
theorem q1819 : (Jvm.Cond.static ({ cls := "ValleyMassModel", name := "letters", desc := "(I)J" } : Jvm.MethodName)) ∈ lw_all := lw_g (lw_at lw_m8 40 rfl) rfl
theorem q1820 : (Jvm.Cond.code ({ cls := "ValleyMassModel", name := "letters", desc := "(I)J" } : Jvm.MethodName) prog_14_method_14_code (1 : Nat) (Option.some Jvm.ClassFile.FieldType.long)) ∈ lw_all := lw_g (lw_at lw_m8 41 rfl) rfl
theorem q1821 : (Jvm.Cond.methodLink "ValleyMassModel" (168 : Nat) ({ cls := "ValleyMassModel", name := "spelled", desc := "(IIIIIII)J" } : Jvm.MethodName)) ∈ lw_all := lw_g (lw_at lw_m8 42 rfl) rfl
theorem q1822 : (Jvm.Cond.static ({ cls := "ValleyMassModel", name := "spelled", desc := "(IIIIIII)J" } : Jvm.MethodName)) ∈ lw_all := lw_g (lw_at lw_m8 43 rfl) rfl
theorem q1823 : (Jvm.Cond.code ({ cls := "ValleyMassModel", name := "spelled", desc := "(IIIIIII)J" } : Jvm.MethodName) prog_14_method_13_code (9 : Nat) (Option.some Jvm.ClassFile.FieldType.long)) ∈ lw_all := lw_g (lw_at lw_m8 44 rfl) rfl
theorem q1824 : (Jvm.Cond.constantLong "ValleyMassModel" (166 : Nat) (96 : Int64)) ∈ lw_all := lw_g (lw_at lw_m8 45 rfl) rfl
theorem q1825 : (Jvm.Cond.methodLink "ValleyMassModel" (255 : Nat) ({ cls := "ValleyMassModel", name := "readsSinger", desc := "(I)V" } : Jvm.MethodName)) ∈ lw_all := lw_g (lw_at lw_m8 46 rfl) rfl
theorem q1826 : (Jvm.Cond.privateMethod ({ cls := "ValleyMassModel", name := "readsSinger", desc := "(I)V" } : Jvm.MethodName)) ∈ lw_tbl := lw_at lw_m8 47 rfl
theorem q1827 : (Jvm.Cond.instanceMethod ({ cls := "ValleyMassModel", name := "readsSinger", desc := "(I)V" } : Jvm.MethodName)) ∈ lw_all := lw_g (lw_at lw_m8 48 rfl) rfl
theorem q1828 : (Jvm.Cond.code ({ cls := "ValleyMassModel", name := "readsSinger", desc := "(I)V" } : Jvm.MethodName) prog_14_method_32_code (4 : Nat) (Option.none : Option Jvm.ClassFile.FieldType)) ∈ lw_all := lw_g (lw_at lw_m8 49 rfl) rfl
theorem q1829 : (Jvm.Cond.methodLink "ValleyMassModel" (186 : Nat) ({ cls := "ValleyMassModel", name := "wrong", desc := "(I)V" } : Jvm.MethodName)) ∈ lw_all := lw_g (lw_at lw_m8 50 rfl) rfl
theorem q1830 : (Jvm.Cond.privateMethod ({ cls := "ValleyMassModel", name := "wrong", desc := "(I)V" } : Jvm.MethodName)) ∈ lw_tbl := lw_at lw_m8 51 rfl
theorem q1831 : (Jvm.Cond.instanceMethod ({ cls := "ValleyMassModel", name := "wrong", desc := "(I)V" } : Jvm.MethodName)) ∈ lw_all := lw_g (lw_at lw_m8 52 rfl) rfl
theorem q1832 : (Jvm.Cond.code ({ cls := "ValleyMassModel", name := "wrong", desc := "(I)V" } : Jvm.MethodName) prog_14_method_16_code (2 : Nat) (Option.none : Option Jvm.ClassFile.FieldType)) ∈ lw_all := lw_g (lw_at lw_m8 53 rfl) rfl
theorem q1833 : (Jvm.Cond.methodLink "ValleyMassModel" (244 : Nat) ({ cls := "ValleyMassModel", name := "number", desc := "(II)I" } : Jvm.MethodName)) ∈ lw_all := lw_g (lw_at lw_m8 54 rfl) rfl
theorem q1834 : (Jvm.Cond.privateMethod ({ cls := "ValleyMassModel", name := "number", desc := "(II)I" } : Jvm.MethodName)) ∈ lw_tbl := lw_at lw_m8 55 rfl
theorem q1835 : (Jvm.Cond.instanceMethod ({ cls := "ValleyMassModel", name := "number", desc := "(II)I" } : Jvm.MethodName)) ∈ lw_all := lw_g (lw_at lw_m8 56 rfl) rfl
theorem q1836 : (Jvm.Cond.code ({ cls := "ValleyMassModel", name := "number", desc := "(II)I" } : Jvm.MethodName) prog_14_method_20_code (4 : Nat) (Option.some Jvm.ClassFile.FieldType.int)) ∈ lw_all := lw_g (lw_at lw_m8 57 rfl) rfl
theorem q1837 : (Jvm.Cond.methodLink "ValleyMassModel" (258 : Nat) ({ cls := "ValleyMassModel", name := "readsRow", desc := "(I)V" } : Jvm.MethodName)) ∈ lw_all := lw_g (lw_at lw_m8 58 rfl) rfl
theorem q1838 : (Jvm.Cond.privateMethod ({ cls := "ValleyMassModel", name := "readsRow", desc := "(I)V" } : Jvm.MethodName)) ∈ lw_tbl := lw_at lw_m8 59 rfl
theorem q1839 : (Jvm.Cond.instanceMethod ({ cls := "ValleyMassModel", name := "readsRow", desc := "(I)V" } : Jvm.MethodName)) ∈ lw_all := lw_g (lw_at lw_m8 60 rfl) rfl
theorem q1840 : (Jvm.Cond.code ({ cls := "ValleyMassModel", name := "readsRow", desc := "(I)V" } : Jvm.MethodName) prog_14_method_33_code (6 : Nat) (Option.none : Option Jvm.ClassFile.FieldType)) ∈ lw_all := lw_g (lw_at lw_m8 61 rfl) rfl
theorem q1841 : (Jvm.Cond.methodLink "ValleyMassModel" (264 : Nat) ({ cls := "ValleyMassModel", name := "readsRule", desc := "(I)V" } : Jvm.MethodName)) ∈ lw_all := lw_g (lw_at lw_m8 62 rfl) rfl
theorem q1842 : (Jvm.Cond.privateMethod ({ cls := "ValleyMassModel", name := "readsRule", desc := "(I)V" } : Jvm.MethodName)) ∈ lw_tbl := lw_at lw_m8 63 rfl
theorem q1843 : (Jvm.Cond.instanceMethod ({ cls := "ValleyMassModel", name := "readsRule", desc := "(I)V" } : Jvm.MethodName)) ∈ lw_all := lw_g (lw_at lw_m8 64 rfl) rfl
theorem q1844 : (Jvm.Cond.code ({ cls := "ValleyMassModel", name := "readsRule", desc := "(I)V" } : Jvm.MethodName) prog_14_method_34_code (4 : Nat) (Option.none : Option Jvm.ClassFile.FieldType)) ∈ lw_all := lw_g (lw_at lw_m8 65 rfl) rfl
theorem q1845 : (Jvm.Cond.methodLink "ValleyMassModel" (251 : Nat) ({ cls := "ValleyMassModel", name := "expression", desc := "(II)V" } : Jvm.MethodName)) ∈ lw_all := lw_g (lw_at lw_m8 66 rfl) rfl
theorem q1846 : (Jvm.Cond.privateMethod ({ cls := "ValleyMassModel", name := "expression", desc := "(II)V" } : Jvm.MethodName)) ∈ lw_tbl := lw_at lw_m8 67 rfl
theorem q1847 : (Jvm.Cond.instanceMethod ({ cls := "ValleyMassModel", name := "expression", desc := "(II)V" } : Jvm.MethodName)) ∈ lw_all := lw_g (lw_at lw_m8 68 rfl) rfl
theorem q1848 : (Jvm.Cond.code ({ cls := "ValleyMassModel", name := "expression", desc := "(II)V" } : Jvm.MethodName) prog_14_method_31_code (5 : Nat) (Option.none : Option Jvm.ClassFile.FieldType)) ∈ lw_all := lw_g (lw_at lw_m8 69 rfl) rfl
theorem q1849 : (Jvm.Cond.methodLink "ValleyMassModel" (223 : Nat) ({ cls := "ValleyMassModel", name := "deeper", desc := "()V" } : Jvm.MethodName)) ∈ lw_all := lw_g (lw_at lw_m8 70 rfl) rfl
theorem q1850 : (Jvm.Cond.privateMethod ({ cls := "ValleyMassModel", name := "deeper", desc := "()V" } : Jvm.MethodName)) ∈ lw_tbl := lw_at lw_m8 71 rfl
theorem q1851 : (Jvm.Cond.instanceMethod ({ cls := "ValleyMassModel", name := "deeper", desc := "()V" } : Jvm.MethodName)) ∈ lw_all := lw_g (lw_at lw_m8 72 rfl) rfl
theorem q1852 : (Jvm.Cond.code ({ cls := "ValleyMassModel", name := "deeper", desc := "()V" } : Jvm.MethodName) prog_14_method_27_code (1 : Nat) (Option.none : Option Jvm.ClassFile.FieldType)) ∈ lw_all := lw_g (lw_at lw_m8 73 rfl) rfl
theorem q1853 : (Jvm.Cond.methodLink "ValleyMassModel" (217 : Nat) ({ cls := "ValleyMassModel", name := "isSign", desc := "(I)Z" } : Jvm.MethodName)) ∈ lw_all := lw_g (lw_at lw_m8 74 rfl) rfl
theorem q1854 : (Jvm.Cond.privateMethod ({ cls := "ValleyMassModel", name := "isSign", desc := "(I)Z" } : Jvm.MethodName)) ∈ lw_tbl := lw_at lw_m8 75 rfl
theorem q1855 : (Jvm.Cond.instanceMethod ({ cls := "ValleyMassModel", name := "isSign", desc := "(I)Z" } : Jvm.MethodName)) ∈ lw_all := lw_g (lw_at lw_m8 76 rfl) rfl
theorem q1856 : (Jvm.Cond.code ({ cls := "ValleyMassModel", name := "isSign", desc := "(I)Z" } : Jvm.MethodName) prog_14_method_18_code (2 : Nat) (Option.some Jvm.ClassFile.FieldType.boolean)) ∈ lw_all := lw_g (lw_at lw_m8 77 rfl) rfl
theorem q1857 : (Jvm.Cond.methodLink "ValleyMassModel" (231 : Nat) ({ cls := "ValleyMassModel", name := "operand", desc := "(Z)V" } : Jvm.MethodName)) ∈ lw_all := lw_g (lw_at lw_m8 78 rfl) rfl
theorem q1858 : (Jvm.Cond.privateMethod ({ cls := "ValleyMassModel", name := "operand", desc := "(Z)V" } : Jvm.MethodName)) ∈ lw_tbl := lw_at lw_m8 79 rfl
theorem q1859 : (Jvm.Cond.instanceMethod ({ cls := "ValleyMassModel", name := "operand", desc := "(Z)V" } : Jvm.MethodName)) ∈ lw_all := lw_g (lw_at lw_m8 80 rfl) rfl
theorem q1860 : (Jvm.Cond.code ({ cls := "ValleyMassModel", name := "operand", desc := "(Z)V" } : Jvm.MethodName) prog_14_method_28_code (5 : Nat) (Option.none : Option Jvm.ClassFile.FieldType)) ∈ lw_all := lw_g (lw_at lw_m8 81 rfl) rfl
theorem q1861 : (Jvm.Cond.methodLink "ValleyMassModel" (220 : Nat) ({ cls := "ValleyMassModel", name := "waitsFor", desc := "(I)V" } : Jvm.MethodName)) ∈ lw_all := lw_g (lw_at lw_m8 82 rfl) rfl
theorem q1862 : (Jvm.Cond.privateMethod ({ cls := "ValleyMassModel", name := "waitsFor", desc := "(I)V" } : Jvm.MethodName)) ∈ lw_tbl := lw_at lw_m8 83 rfl
theorem q1863 : (Jvm.Cond.instanceMethod ({ cls := "ValleyMassModel", name := "waitsFor", desc := "(I)V" } : Jvm.MethodName)) ∈ lw_all := lw_g (lw_at lw_m8 84 rfl) rfl
theorem q1864 : (Jvm.Cond.code ({ cls := "ValleyMassModel", name := "waitsFor", desc := "(I)V" } : Jvm.MethodName) prog_14_method_25_code (2 : Nat) (Option.none : Option Jvm.ClassFile.FieldType)) ∈ lw_all := lw_g (lw_at lw_m8 85 rfl) rfl
theorem q1865 : (Jvm.Cond.methodLink "ValleyMassModel" (226 : Nat) ({ cls := "ValleyMassModel", name := "part", desc := "()V" } : Jvm.MethodName)) ∈ lw_all := lw_g (lw_at lw_m8 86 rfl) rfl
theorem q1866 : (Jvm.Cond.privateMethod ({ cls := "ValleyMassModel", name := "part", desc := "()V" } : Jvm.MethodName)) ∈ lw_tbl := lw_at lw_m8 87 rfl
theorem q1867 : (Jvm.Cond.instanceMethod ({ cls := "ValleyMassModel", name := "part", desc := "()V" } : Jvm.MethodName)) ∈ lw_all := lw_g (lw_at lw_m8 88 rfl) rfl
theorem q1868 : (Jvm.Cond.code ({ cls := "ValleyMassModel", name := "part", desc := "()V" } : Jvm.MethodName) prog_14_method_26_code (2 : Nat) (Option.none : Option Jvm.ClassFile.FieldType)) ∈ lw_all := lw_g (lw_at lw_m8 89 rfl) rfl
theorem q1869 : (Jvm.Cond.methodLink "ValleyMassModel" (201 : Nat) ({ cls := "ValleyMassModel", name := "puts", desc := "(I)V" } : Jvm.MethodName)) ∈ lw_all := lw_g (lw_at lw_m8 90 rfl) rfl
theorem q1870 : (Jvm.Cond.privateMethod ({ cls := "ValleyMassModel", name := "puts", desc := "(I)V" } : Jvm.MethodName)) ∈ lw_tbl := lw_at lw_m8 91 rfl
theorem q1871 : (Jvm.Cond.instanceMethod ({ cls := "ValleyMassModel", name := "puts", desc := "(I)V" } : Jvm.MethodName)) ∈ lw_all := lw_g (lw_at lw_m8 92 rfl) rfl
theorem q1872 : (Jvm.Cond.code ({ cls := "ValleyMassModel", name := "puts", desc := "(I)V" } : Jvm.MethodName) prog_14_method_21_code (2 : Nat) (Option.none : Option Jvm.ClassFile.FieldType)) ∈ lw_all := lw_g (lw_at lw_m8 93 rfl) rfl
theorem q1873 : (Jvm.Cond.methodLink "ValleyMassModel" (228 : Nat) ({ cls := "ValleyMassModel", name := "drops", desc := "(I)V" } : Jvm.MethodName)) ∈ lw_all := lw_g (lw_at lw_m8 94 rfl) rfl
theorem q1874 : (Jvm.Cond.privateMethod ({ cls := "ValleyMassModel", name := "drops", desc := "(I)V" } : Jvm.MethodName)) ∈ lw_tbl := lw_at lw_m8 95 rfl
theorem q1875 : (Jvm.Cond.instanceMethod ({ cls := "ValleyMassModel", name := "drops", desc := "(I)V" } : Jvm.MethodName)) ∈ lw_all := lw_g (lw_at lw_m8 96 rfl) rfl
theorem q1876 : (Jvm.Cond.code ({ cls := "ValleyMassModel", name := "drops", desc := "(I)V" } : Jvm.MethodName) prog_14_method_24_code (2 : Nat) (Option.none : Option Jvm.ClassFile.FieldType)) ∈ lw_all := lw_g (lw_at lw_m8 97 rfl) rfl
theorem q1877 : (Jvm.Cond.methodLink "ValleyMassModel" (195 : Nat) ({ cls := "ValleyMassModel", name := "isOpen", desc := "(I)Z" } : Jvm.MethodName)) ∈ lw_all := lw_g (lw_at lw_m8 98 rfl) rfl
theorem q1878 : (Jvm.Cond.static ({ cls := "ValleyMassModel", name := "isOpen", desc := "(I)Z" } : Jvm.MethodName)) ∈ lw_all := lw_g (lw_at lw_m8 99 rfl) rfl
theorem q1879 : (Jvm.Cond.code ({ cls := "ValleyMassModel", name := "isOpen", desc := "(I)Z" } : Jvm.MethodName) prog_14_method_22_code (1 : Nat) (Option.some Jvm.ClassFile.FieldType.boolean)) ∈ lw_all := lw_g (lw_at lw_m8 100 rfl) rfl
theorem q1880 : (Jvm.Cond.methodLink "ValleyMassModel" (198 : Nat) ({ cls := "ValleyMassModel", name := "strength", desc := "(I)I" } : Jvm.MethodName)) ∈ lw_all := lw_g (lw_at lw_m8 101 rfl) rfl
theorem q1881 : (Jvm.Cond.static ({ cls := "ValleyMassModel", name := "strength", desc := "(I)I" } : Jvm.MethodName)) ∈ lw_all := lw_g (lw_at lw_m8 102 rfl) rfl
theorem q1882 : (Jvm.Cond.code ({ cls := "ValleyMassModel", name := "strength", desc := "(I)I" } : Jvm.MethodName) prog_14_method_23_code (1 : Nat) (Option.some Jvm.ClassFile.FieldType.int)) ∈ lw_all := lw_g (lw_at lw_m8 103 rfl) rfl
theorem q1883 : (Jvm.Cond.methodLink "ValleyMassModel" (235 : Nat) ({ cls := "ValleyMassModel", name := "isOpened", desc := "()Z" } : Jvm.MethodName)) ∈ lw_all := lw_g (lw_at lw_m8 104 rfl) rfl
theorem q1884 : (Jvm.Cond.privateMethod ({ cls := "ValleyMassModel", name := "isOpened", desc := "()Z" } : Jvm.MethodName)) ∈ lw_tbl := lw_at lw_m8 105 rfl
theorem q1885 : (Jvm.Cond.instanceMethod ({ cls := "ValleyMassModel", name := "isOpened", desc := "()Z" } : Jvm.MethodName)) ∈ lw_all := lw_g (lw_at lw_m8 106 rfl) rfl
theorem q1886 : (Jvm.Cond.code ({ cls := "ValleyMassModel", name := "isOpened", desc := "()Z" } : Jvm.MethodName) prog_14_method_29_code (2 : Nat) (Option.some Jvm.ClassFile.FieldType.boolean)) ∈ lw_all := lw_g (lw_at lw_m8 107 rfl) rfl
theorem q1887 : (Jvm.Cond.methodLink "ValleyMassModel" (238 : Nat) ({ cls := "ValleyMassModel", name := "closes", desc := "()V" } : Jvm.MethodName)) ∈ lw_all := lw_g (lw_at lw_m8 108 rfl) rfl
theorem q1888 : (Jvm.Cond.privateMethod ({ cls := "ValleyMassModel", name := "closes", desc := "()V" } : Jvm.MethodName)) ∈ lw_tbl := lw_at lw_m8 109 rfl
theorem q1889 : (Jvm.Cond.instanceMethod ({ cls := "ValleyMassModel", name := "closes", desc := "()V" } : Jvm.MethodName)) ∈ lw_all := lw_g (lw_at lw_m8 110 rfl) rfl
theorem q1890 : (Jvm.Cond.code ({ cls := "ValleyMassModel", name := "closes", desc := "()V" } : Jvm.MethodName) prog_14_method_30_code (1 : Nat) (Option.none : Option Jvm.ClassFile.FieldType)) ∈ lw_all := lw_g (lw_at lw_m8 111 rfl) rfl
theorem q1891 : (Jvm.Cond.methodLink "ValleyMassModel" (267 : Nat) ({ cls := "ValleyMassModel", name := "need", desc := "(Z)V" } : Jvm.MethodName)) ∈ lw_all := lw_g (lw_at lw_m8 112 rfl) rfl
theorem q1892 : (Jvm.Cond.privateMethod ({ cls := "ValleyMassModel", name := "need", desc := "(Z)V" } : Jvm.MethodName)) ∈ lw_tbl := lw_at lw_m8 113 rfl
theorem q1893 : (Jvm.Cond.instanceMethod ({ cls := "ValleyMassModel", name := "need", desc := "(Z)V" } : Jvm.MethodName)) ∈ lw_all := lw_g (lw_at lw_m8 114 rfl) rfl
theorem q1894 : (Jvm.Cond.code ({ cls := "ValleyMassModel", name := "need", desc := "(Z)V" } : Jvm.MethodName) prog_14_method_19_code (2 : Nat) (Option.none : Option Jvm.ClassFile.FieldType)) ∈ lw_all := lw_g (lw_at lw_m8 115 rfl) rfl
theorem q1895 : (Jvm.Cond.methodLink "ValleyMassModel" (283 : Nat) ({ cls := "ValleyMassModel", name := "copies", desc := "([I[I)V" } : Jvm.MethodName)) ∈ lw_all := lw_g (lw_at lw_m8 116 rfl) rfl
theorem q1896 : (Jvm.Cond.privateMethod ({ cls := "ValleyMassModel", name := "copies", desc := "([I[I)V" } : Jvm.MethodName)) ∈ lw_tbl := lw_at lw_m8 117 rfl
theorem q1897 : (Jvm.Cond.instanceMethod ({ cls := "ValleyMassModel", name := "copies", desc := "([I[I)V" } : Jvm.MethodName)) ∈ lw_all := lw_g (lw_at lw_m8 118 rfl) rfl
theorem q1898 : (Jvm.Cond.code ({ cls := "ValleyMassModel", name := "copies", desc := "([I[I)V" } : Jvm.MethodName) prog_14_method_5_code (4 : Nat) (Option.none : Option Jvm.ClassFile.FieldType)) ∈ lw_all := lw_g (lw_at lw_m8 119 rfl) rfl
theorem q1900 : (Jvm.Cond.instanceMethod ({ cls := "ValleyMassModel", name := "fault", desc := "()I" } : Jvm.MethodName)) ∈ lw_all := lw_g (lw_at lw_m8 121 rfl) rfl
theorem q1901 : (Jvm.Cond.selects "ValleyMassModel" ({ cls := "ValleyMassModel", name := "fault", desc := "()I" } : Jvm.MethodName) ({ cls := "ValleyMassModel", name := "fault", desc := "()I" } : Jvm.MethodName)) ∈ lw_all := lw_g (lw_at lw_m8 122 rfl) rfl
theorem q1902 : (Jvm.Cond.code ({ cls := "ValleyMassModel", name := "fault", desc := "()I" } : Jvm.MethodName) prog_14_method_37_code (1 : Nat) (Option.some Jvm.ClassFile.FieldType.int)) ∈ lw_all := lw_g (lw_at lw_m8 123 rfl) rfl
theorem q1904 : (Jvm.Cond.instanceMethod ({ cls := "ValleyMassModel", name := "undo", desc := "()I" } : Jvm.MethodName)) ∈ lw_all := lw_g (lw_at lw_m8 125 rfl) rfl
theorem q1905 : (Jvm.Cond.selects "ValleyMassModel" ({ cls := "ValleyMassModel", name := "undo", desc := "()I" } : Jvm.MethodName) ({ cls := "ValleyMassModel", name := "undo", desc := "()I" } : Jvm.MethodName)) ∈ lw_all := lw_g (lw_at lw_m8 126 rfl) rfl
theorem q1906 : (Jvm.Cond.code ({ cls := "ValleyMassModel", name := "undo", desc := "()I" } : Jvm.MethodName) prog_14_method_40_code (2 : Nat) (Option.some Jvm.ClassFile.FieldType.int)) ∈ lw_all := lw_g (lw_at lw_m8 127 rfl) rfl
theorem q1908 : (Jvm.Cond.instanceMethod ({ cls := "ValleyMassModel", name := "count", desc := "(I)I" } : Jvm.MethodName)) ∈ lw_all := lw_g (lw_at lw_m8 129 rfl) rfl
theorem q1909 : (Jvm.Cond.selects "ValleyMassModel" ({ cls := "ValleyMassModel", name := "count", desc := "(I)I" } : Jvm.MethodName) ({ cls := "ValleyMassModel", name := "count", desc := "(I)I" } : Jvm.MethodName)) ∈ lw_all := lw_g (lw_at lw_m8 130 rfl) rfl
theorem q1910 : (Jvm.Cond.code ({ cls := "ValleyMassModel", name := "count", desc := "(I)I" } : Jvm.MethodName) prog_14_method_48_code (2 : Nat) (Option.some Jvm.ClassFile.FieldType.int)) ∈ lw_all := lw_g (lw_at lw_m8 131 rfl) rfl
theorem q1911 : (Jvm.Cond.methodLink "ValleyMassModel" (297 : Nat) ({ cls := "ValleyMassModel", name := "within", desc := "(III)Z" } : Jvm.MethodName)) ∈ lw_all := lw_g (lw_at lw_m8 132 rfl) rfl
theorem q1912 : (Jvm.Cond.static ({ cls := "ValleyMassModel", name := "within", desc := "(III)Z" } : Jvm.MethodName)) ∈ lw_all := lw_g (lw_at lw_m8 133 rfl) rfl
theorem q1913 : (Jvm.Cond.code ({ cls := "ValleyMassModel", name := "within", desc := "(III)Z" } : Jvm.MethodName) prog_14_method_4_code (3 : Nat) (Option.some Jvm.ClassFile.FieldType.boolean)) ∈ lw_all := lw_g (lw_at lw_m8 134 rfl) rfl
theorem q1914 : (Jvm.Cond.methodLink "ValleyMassModel" (317 : Nat) ({ cls := "ValleyMassModel", name := "areSo", desc := "([II)I" } : Jvm.MethodName)) ∈ lw_all := lw_g (lw_at lw_m8 135 rfl) rfl
theorem q1915 : (Jvm.Cond.privateMethod ({ cls := "ValleyMassModel", name := "areSo", desc := "([II)I" } : Jvm.MethodName)) ∈ lw_tbl := lw_at lw_m8 136 rfl
theorem q1916 : (Jvm.Cond.instanceMethod ({ cls := "ValleyMassModel", name := "areSo", desc := "([II)I" } : Jvm.MethodName)) ∈ lw_all := lw_g (lw_at lw_m8 137 rfl) rfl
theorem q1917 : (Jvm.Cond.code ({ cls := "ValleyMassModel", name := "areSo", desc := "([II)I" } : Jvm.MethodName) prog_14_method_41_code (5 : Nat) (Option.some Jvm.ClassFile.FieldType.int)) ∈ lw_all := lw_g (lw_at lw_m8 138 rfl) rfl
theorem q1918 : (Jvm.Cond.methodLink "ValleyMassModel" (321 : Nat) ({ cls := "ValleyMassModel", name := "sungBy", desc := "(I)I" } : Jvm.MethodName)) ∈ lw_all := lw_g (lw_at lw_m8 139 rfl) rfl
theorem q1919 : (Jvm.Cond.privateMethod ({ cls := "ValleyMassModel", name := "sungBy", desc := "(I)I" } : Jvm.MethodName)) ∈ lw_tbl := lw_at lw_m8 140 rfl
theorem q1920 : (Jvm.Cond.instanceMethod ({ cls := "ValleyMassModel", name := "sungBy", desc := "(I)I" } : Jvm.MethodName)) ∈ lw_all := lw_g (lw_at lw_m8 141 rfl) rfl
theorem q1921 : (Jvm.Cond.code ({ cls := "ValleyMassModel", name := "sungBy", desc := "(I)I" } : Jvm.MethodName) prog_14_method_47_code (4 : Nat) (Option.some Jvm.ClassFile.FieldType.int)) ∈ lw_all := lw_g (lw_at lw_m8 142 rfl) rfl
theorem q1922 : (Jvm.Cond.methodLink "ValleyMassModel" (314 : Nat) ({ cls := "ValleyMassModel", name := "canBeSung", desc := "(III)Z" } : Jvm.MethodName)) ∈ lw_all := lw_g (lw_at lw_m8 143 rfl) rfl
theorem q1923 : (Jvm.Cond.privateMethod ({ cls := "ValleyMassModel", name := "canBeSung", desc := "(III)Z" } : Jvm.MethodName)) ∈ lw_tbl := lw_at lw_m8 144 rfl
theorem q1924 : (Jvm.Cond.instanceMethod ({ cls := "ValleyMassModel", name := "canBeSung", desc := "(III)Z" } : Jvm.MethodName)) ∈ lw_all := lw_g (lw_at lw_m8 145 rfl) rfl
theorem q1925 : (Jvm.Cond.code ({ cls := "ValleyMassModel", name := "canBeSung", desc := "(III)Z" } : Jvm.MethodName) prog_14_method_46_code (5 : Nat) (Option.some Jvm.ClassFile.FieldType.boolean)) ∈ lw_all := lw_g (lw_at lw_m8 146 rfl) rfl
theorem q1926 : (Jvm.Cond.methodLink "ValleyMassModel" (304 : Nat) ({ cls := "ValleyMassModel", name := "hasRows", desc := "(I)Z" } : Jvm.MethodName)) ∈ lw_all := lw_g (lw_at lw_m8 147 rfl) rfl
theorem q1927 : (Jvm.Cond.privateMethod ({ cls := "ValleyMassModel", name := "hasRows", desc := "(I)Z" } : Jvm.MethodName)) ∈ lw_tbl := lw_at lw_m8 148 rfl
theorem q1928 : (Jvm.Cond.instanceMethod ({ cls := "ValleyMassModel", name := "hasRows", desc := "(I)Z" } : Jvm.MethodName)) ∈ lw_all := lw_g (lw_at lw_m8 149 rfl) rfl
theorem q1929 : (Jvm.Cond.code ({ cls := "ValleyMassModel", name := "hasRows", desc := "(I)Z" } : Jvm.MethodName) prog_14_method_45_code (2 : Nat) (Option.some Jvm.ClassFile.FieldType.boolean)) ∈ lw_all := lw_g (lw_at lw_m8 150 rfl) rfl
theorem q1930 : (Jvm.Cond.methodLink "ValleyMassModel" (307 : Nat) ({ cls := "ValleyMassModel", name := "ableOf", desc := "(III)I" } : Jvm.MethodName)) ∈ lw_all := lw_g (lw_at lw_m8 151 rfl) rfl
theorem q1931 : (Jvm.Cond.privateMethod ({ cls := "ValleyMassModel", name := "ableOf", desc := "(III)I" } : Jvm.MethodName)) ∈ lw_tbl := lw_at lw_m8 152 rfl
theorem q1932 : (Jvm.Cond.instanceMethod ({ cls := "ValleyMassModel", name := "ableOf", desc := "(III)I" } : Jvm.MethodName)) ∈ lw_all := lw_g (lw_at lw_m8 153 rfl) rfl
theorem q1933 : (Jvm.Cond.code ({ cls := "ValleyMassModel", name := "ableOf", desc := "(III)I" } : Jvm.MethodName) prog_14_method_44_code (6 : Nat) (Option.some Jvm.ClassFile.FieldType.int)) ∈ lw_all := lw_g (lw_at lw_m8 154 rfl) rfl
theorem q1934 : (Jvm.Cond.methodLink "ValleyMassModel" (301 : Nat) ({ cls := "ValleyMassModel", name := "hasAll", desc := "(III)Z" } : Jvm.MethodName)) ∈ lw_all := lw_g (lw_at lw_m8 155 rfl) rfl
theorem q1935 : (Jvm.Cond.privateMethod ({ cls := "ValleyMassModel", name := "hasAll", desc := "(III)Z" } : Jvm.MethodName)) ∈ lw_tbl := lw_at lw_m8 156 rfl
theorem q1936 : (Jvm.Cond.instanceMethod ({ cls := "ValleyMassModel", name := "hasAll", desc := "(III)Z" } : Jvm.MethodName)) ∈ lw_all := lw_g (lw_at lw_m8 157 rfl) rfl
theorem q1937 : (Jvm.Cond.code ({ cls := "ValleyMassModel", name := "hasAll", desc := "(III)Z" } : Jvm.MethodName) prog_14_method_43_code (5 : Nat) (Option.some Jvm.ClassFile.FieldType.boolean)) ∈ lw_all := lw_g (lw_at lw_m8 158 rfl) rfl
theorem q1938 : (Jvm.Cond.methodLink "ValleyMassModel" (311 : Nat) ({ cls := "ValleyMassModel", name := "bits", desc := "(I)I" } : Jvm.MethodName)) ∈ lw_all := lw_g (lw_at lw_m8 159 rfl) rfl
theorem q1939 : (Jvm.Cond.static ({ cls := "ValleyMassModel", name := "bits", desc := "(I)I" } : Jvm.MethodName)) ∈ lw_all := lw_g (lw_at lw_m8 160 rfl) rfl
theorem q1940 : (Jvm.Cond.code ({ cls := "ValleyMassModel", name := "bits", desc := "(I)I" } : Jvm.MethodName) prog_14_method_6_code (3 : Nat) (Option.some Jvm.ClassFile.FieldType.int)) ∈ lw_all := lw_g (lw_at lw_m8 161 rfl) rfl
theorem q1942 : (Jvm.Cond.instanceMethod ({ cls := "ValleyMassModel", name := "singer", desc := "(II)I" } : Jvm.MethodName)) ∈ lw_all := lw_g (lw_at lw_m8 163 rfl) rfl
theorem q1943 : (Jvm.Cond.selects "ValleyMassModel" ({ cls := "ValleyMassModel", name := "singer", desc := "(II)I" } : Jvm.MethodName) ({ cls := "ValleyMassModel", name := "singer", desc := "(II)I" } : Jvm.MethodName)) ∈ lw_all := lw_g (lw_at lw_m8 164 rfl) rfl
theorem q1944 : (Jvm.Cond.code ({ cls := "ValleyMassModel", name := "singer", desc := "(II)I" } : Jvm.MethodName) prog_14_method_52_code (3 : Nat) (Option.some Jvm.ClassFile.FieldType.int)) ∈ lw_all := lw_g (lw_at lw_m8 165 rfl) rfl
theorem q1945 : (Jvm.Cond.methodLink "ValleyMassModel" (324 : Nat) ({ cls := "ValleyMassModel", name := "isSinger", desc := "(I)Z" } : Jvm.MethodName)) ∈ lw_all := lw_g (lw_at lw_m8 166 rfl) rfl
theorem q1946 : (Jvm.Cond.privateMethod ({ cls := "ValleyMassModel", name := "isSinger", desc := "(I)Z" } : Jvm.MethodName)) ∈ lw_tbl := lw_at lw_m8 167 rfl
theorem q1947 : (Jvm.Cond.instanceMethod ({ cls := "ValleyMassModel", name := "isSinger", desc := "(I)Z" } : Jvm.MethodName)) ∈ lw_all := lw_g (lw_at lw_m8 168 rfl) rfl
theorem q1948 : (Jvm.Cond.code ({ cls := "ValleyMassModel", name := "isSinger", desc := "(I)Z" } : Jvm.MethodName) prog_14_method_49_code (2 : Nat) (Option.some Jvm.ClassFile.FieldType.boolean)) ∈ lw_all := lw_g (lw_at lw_m8 169 rfl) rfl
theorem q1949 : (Jvm.Cond.methodLink "ValleyMassModel" (327 : Nat) ({ cls := "ValleyMassModel", name := "isWhat", desc := "(II)Z" } : Jvm.MethodName)) ∈ lw_all := lw_g (lw_at lw_m8 170 rfl) rfl
theorem q1950 : (Jvm.Cond.privateMethod ({ cls := "ValleyMassModel", name := "isWhat", desc := "(II)Z" } : Jvm.MethodName)) ∈ lw_tbl := lw_at lw_m8 171 rfl
theorem q1951 : (Jvm.Cond.instanceMethod ({ cls := "ValleyMassModel", name := "isWhat", desc := "(II)Z" } : Jvm.MethodName)) ∈ lw_all := lw_g (lw_at lw_m8 172 rfl) rfl
theorem q1952 : (Jvm.Cond.code ({ cls := "ValleyMassModel", name := "isWhat", desc := "(II)Z" } : Jvm.MethodName) prog_14_method_51_code (3 : Nat) (Option.some Jvm.ClassFile.FieldType.boolean)) ∈ lw_all := lw_g (lw_at lw_m8 173 rfl) rfl
theorem q1954 : (Jvm.Cond.instanceMethod ({ cls := "ValleyMassModel", name := "row", desc := "(III)I" } : Jvm.MethodName)) ∈ lw_all := lw_g (lw_at lw_m8 175 rfl) rfl
theorem q1955 : (Jvm.Cond.selects "ValleyMassModel" ({ cls := "ValleyMassModel", name := "row", desc := "(III)I" } : Jvm.MethodName) ({ cls := "ValleyMassModel", name := "row", desc := "(III)I" } : Jvm.MethodName)) ∈ lw_all := lw_g (lw_at lw_m8 176 rfl) rfl
theorem q1956 : (Jvm.Cond.code ({ cls := "ValleyMassModel", name := "row", desc := "(III)I" } : Jvm.MethodName) prog_14_method_54_code (5 : Nat) (Option.some Jvm.ClassFile.FieldType.int)) ∈ lw_all := lw_g (lw_at lw_m8 177 rfl) rfl
theorem q1957 : (Jvm.Cond.methodLink "ValleyMassModel" (331 : Nat) ({ cls := "ValleyMassModel", name := "isPiece", desc := "(I)Z" } : Jvm.MethodName)) ∈ lw_all := lw_g (lw_at lw_m8 178 rfl) rfl
theorem q1958 : (Jvm.Cond.privateMethod ({ cls := "ValleyMassModel", name := "isPiece", desc := "(I)Z" } : Jvm.MethodName)) ∈ lw_tbl := lw_at lw_m8 179 rfl
theorem q1959 : (Jvm.Cond.instanceMethod ({ cls := "ValleyMassModel", name := "isPiece", desc := "(I)Z" } : Jvm.MethodName)) ∈ lw_all := lw_g (lw_at lw_m8 180 rfl) rfl
theorem q1960 : (Jvm.Cond.code ({ cls := "ValleyMassModel", name := "isPiece", desc := "(I)Z" } : Jvm.MethodName) prog_14_method_50_code (2 : Nat) (Option.some Jvm.ClassFile.FieldType.boolean)) ∈ lw_all := lw_g (lw_at lw_m8 181 rfl) rfl
theorem q1961 : (Jvm.Cond.methodLink "ValleyMassModel" (334 : Nat) ({ cls := "ValleyMassModel", name := "notesOf", desc := "(I)I" } : Jvm.MethodName)) ∈ lw_all := lw_g (lw_at lw_m8 182 rfl) rfl
theorem q1962 : (Jvm.Cond.privateMethod ({ cls := "ValleyMassModel", name := "notesOf", desc := "(I)I" } : Jvm.MethodName)) ∈ lw_tbl := lw_at lw_m8 183 rfl
theorem q1963 : (Jvm.Cond.instanceMethod ({ cls := "ValleyMassModel", name := "notesOf", desc := "(I)I" } : Jvm.MethodName)) ∈ lw_all := lw_g (lw_at lw_m8 184 rfl) rfl
theorem q1964 : (Jvm.Cond.code ({ cls := "ValleyMassModel", name := "notesOf", desc := "(I)I" } : Jvm.MethodName) prog_14_method_53_code (2 : Nat) (Option.some Jvm.ClassFile.FieldType.int)) ∈ lw_all := lw_g (lw_at lw_m8 185 rfl) rfl
theorem q1966 : (Jvm.Cond.instanceMethod ({ cls := "ValleyMassModel", name := "able", desc := "(II)I" } : Jvm.MethodName)) ∈ lw_all := lw_g (lw_at lw_m8 187 rfl) rfl
theorem q1967 : (Jvm.Cond.selects "ValleyMassModel" ({ cls := "ValleyMassModel", name := "able", desc := "(II)I" } : Jvm.MethodName) ({ cls := "ValleyMassModel", name := "able", desc := "(II)I" } : Jvm.MethodName)) ∈ lw_all := lw_g (lw_at lw_m8 188 rfl) rfl
theorem q1968 : (Jvm.Cond.code ({ cls := "ValleyMassModel", name := "able", desc := "(II)I" } : Jvm.MethodName) prog_14_method_55_code (3 : Nat) (Option.some Jvm.ClassFile.FieldType.int)) ∈ lw_all := lw_g (lw_at lw_m8 189 rfl) rfl
theorem q1970 : (Jvm.Cond.instanceMethod ({ cls := "ValleyMassModel", name := "days", desc := "(I)I" } : Jvm.MethodName)) ∈ lw_all := lw_g (lw_at lw_m8 191 rfl) rfl
theorem q1971 : (Jvm.Cond.selects "ValleyMassModel" ({ cls := "ValleyMassModel", name := "days", desc := "(I)I" } : Jvm.MethodName) ({ cls := "ValleyMassModel", name := "days", desc := "(I)I" } : Jvm.MethodName)) ∈ lw_all := lw_g (lw_at lw_m8 192 rfl) rfl
theorem q1972 : (Jvm.Cond.code ({ cls := "ValleyMassModel", name := "days", desc := "(I)I" } : Jvm.MethodName) prog_14_method_62_code (3 : Nat) (Option.some Jvm.ClassFile.FieldType.int)) ∈ lw_all := lw_g (lw_at lw_m8 193 rfl) rfl
theorem q1973 : (Jvm.Cond.methodLink "ValleyMassModel" (357 : Nat) ({ cls := "ValleyMassModel", name := "refuses", desc := "(I)I" } : Jvm.MethodName)) ∈ lw_all := lw_g (lw_at lw_m8 194 rfl) rfl
theorem q1974 : (Jvm.Cond.privateMethod ({ cls := "ValleyMassModel", name := "refuses", desc := "(I)I" } : Jvm.MethodName)) ∈ lw_tbl := lw_at lw_m8 195 rfl
theorem q1975 : (Jvm.Cond.instanceMethod ({ cls := "ValleyMassModel", name := "refuses", desc := "(I)I" } : Jvm.MethodName)) ∈ lw_all := lw_g (lw_at lw_m8 196 rfl) rfl
theorem q1976 : (Jvm.Cond.code ({ cls := "ValleyMassModel", name := "refuses", desc := "(I)I" } : Jvm.MethodName) prog_14_method_39_code (2 : Nat) (Option.some Jvm.ClassFile.FieldType.int)) ∈ lw_all := lw_g (lw_at lw_m8 197 rfl) rfl
theorem q1977 : (Jvm.Cond.methodLink "ValleyMassModel" (360 : Nat) ({ cls := "ValleyMassModel", name := "keeps", desc := "()V" } : Jvm.MethodName)) ∈ lw_all := lw_g (lw_at lw_m8 198 rfl) rfl
theorem q1978 : (Jvm.Cond.privateMethod ({ cls := "ValleyMassModel", name := "keeps", desc := "()V" } : Jvm.MethodName)) ∈ lw_tbl := lw_at lw_m8 199 rfl
theorem q1979 : (Jvm.Cond.instanceMethod ({ cls := "ValleyMassModel", name := "keeps", desc := "()V" } : Jvm.MethodName)) ∈ lw_all := lw_g (lw_at lw_m8 200 rfl) rfl
theorem q1980 : (Jvm.Cond.code ({ cls := "ValleyMassModel", name := "keeps", desc := "()V" } : Jvm.MethodName) prog_14_method_38_code (2 : Nat) (Option.none : Option Jvm.ClassFile.FieldType)) ∈ lw_all := lw_g (lw_at lw_m8 201 rfl) rfl
theorem q1981 : (Jvm.Cond.methodLink "ValleyMassModel" (363 : Nat) ({ cls := "ValleyMassModel", name := "dayGoes", desc := "([I)I" } : Jvm.MethodName)) ∈ lw_all := lw_g (lw_at lw_m8 202 rfl) rfl
theorem q1982 : (Jvm.Cond.privateMethod ({ cls := "ValleyMassModel", name := "dayGoes", desc := "([I)I" } : Jvm.MethodName)) ∈ lw_tbl := lw_at lw_m8 203 rfl
theorem q1983 : (Jvm.Cond.instanceMethod ({ cls := "ValleyMassModel", name := "dayGoes", desc := "([I)I" } : Jvm.MethodName)) ∈ lw_all := lw_g (lw_at lw_m8 204 rfl) rfl
theorem q1984 : (Jvm.Cond.code ({ cls := "ValleyMassModel", name := "dayGoes", desc := "([I)I" } : Jvm.MethodName) prog_14_method_61_code (5 : Nat) (Option.some Jvm.ClassFile.FieldType.int)) ∈ lw_all := lw_g (lw_at lw_m8 205 rfl) rfl
theorem q1985 : (Jvm.Cond.methodLink "ValleyMassModel" (350 : Nat) ({ cls := "ValleyMassModel", name := "isHolding", desc := "([II)Z" } : Jvm.MethodName)) ∈ lw_all := lw_g (lw_at lw_m8 206 rfl) rfl
theorem q1986 : (Jvm.Cond.privateMethod ({ cls := "ValleyMassModel", name := "isHolding", desc := "([II)Z" } : Jvm.MethodName)) ∈ lw_tbl := lw_at lw_m8 207 rfl
theorem q1987 : (Jvm.Cond.instanceMethod ({ cls := "ValleyMassModel", name := "isHolding", desc := "([II)Z" } : Jvm.MethodName)) ∈ lw_all := lw_g (lw_at lw_m8 208 rfl) rfl
theorem q1988 : (Jvm.Cond.code ({ cls := "ValleyMassModel", name := "isHolding", desc := "([II)Z" } : Jvm.MethodName) prog_14_method_58_code (4 : Nat) (Option.some Jvm.ClassFile.FieldType.boolean)) ∈ lw_all := lw_g (lw_at lw_m8 209 rfl) rfl
theorem q1989 : (Jvm.Cond.methodLink "ValleyMassModel" (340 : Nat) ({ cls := "ValleyMassModel", name := "ofSide", desc := "(I)I" } : Jvm.MethodName)) ∈ lw_all := lw_g (lw_at lw_m8 210 rfl) rfl
theorem q1990 : (Jvm.Cond.privateMethod ({ cls := "ValleyMassModel", name := "ofSide", desc := "(I)I" } : Jvm.MethodName)) ∈ lw_tbl := lw_at lw_m8 211 rfl
theorem q1991 : (Jvm.Cond.instanceMethod ({ cls := "ValleyMassModel", name := "ofSide", desc := "(I)I" } : Jvm.MethodName)) ∈ lw_all := lw_g (lw_at lw_m8 212 rfl) rfl
theorem q1992 : (Jvm.Cond.code ({ cls := "ValleyMassModel", name := "ofSide", desc := "(I)I" } : Jvm.MethodName) prog_14_method_42_code (4 : Nat) (Option.some Jvm.ClassFile.FieldType.int)) ∈ lw_all := lw_g (lw_at lw_m8 213 rfl) rfl
theorem q1993 : (Jvm.Cond.methodLink "ValleyMassModel" (343 : Nat) ({ cls := "ValleyMassModel", name := "reckons", desc := "(I)I" } : Jvm.MethodName)) ∈ lw_all := lw_g (lw_at lw_m8 214 rfl) rfl
theorem q1994 : (Jvm.Cond.privateMethod ({ cls := "ValleyMassModel", name := "reckons", desc := "(I)I" } : Jvm.MethodName)) ∈ lw_tbl := lw_at lw_m8 215 rfl
theorem q1995 : (Jvm.Cond.instanceMethod ({ cls := "ValleyMassModel", name := "reckons", desc := "(I)I" } : Jvm.MethodName)) ∈ lw_all := lw_g (lw_at lw_m8 216 rfl) rfl
theorem q1996 : (Jvm.Cond.code ({ cls := "ValleyMassModel", name := "reckons", desc := "(I)I" } : Jvm.MethodName) prog_14_method_57_code (5 : Nat) (Option.some Jvm.ClassFile.FieldType.int)) ∈ lw_all := lw_g (lw_at lw_m8 217 rfl) rfl
theorem q1997 : (Jvm.Cond.methodLink "ValleyMassModel" (337 : Nat) ({ cls := "ValleyMassModel", name := "works", desc := "(III)I" } : Jvm.MethodName)) ∈ lw_all := lw_g (lw_at lw_m8 218 rfl) rfl
theorem q1998 : (Jvm.Cond.static ({ cls := "ValleyMassModel", name := "works", desc := "(III)I" } : Jvm.MethodName)) ∈ lw_all := lw_g (lw_at lw_m8 219 rfl) rfl
theorem q1999 : (Jvm.Cond.code ({ cls := "ValleyMassModel", name := "works", desc := "(III)I" } : Jvm.MethodName) prog_14_method_56_code (3 : Nat) (Option.some Jvm.ClassFile.FieldType.int)) ∈ lw_all := lw_g (lw_at lw_m8 220 rfl) rfl
theorem q2000 : (Jvm.Cond.methodLink "ValleyMassModel" (354 : Nat) ({ cls := "ValleyMassModel", name := "aims", desc := "([II)I" } : Jvm.MethodName)) ∈ lw_all := lw_g (lw_at lw_m8 221 rfl) rfl
theorem q2001 : (Jvm.Cond.privateMethod ({ cls := "ValleyMassModel", name := "aims", desc := "([II)I" } : Jvm.MethodName)) ∈ lw_tbl := lw_at lw_m8 222 rfl
theorem q2002 : (Jvm.Cond.instanceMethod ({ cls := "ValleyMassModel", name := "aims", desc := "([II)I" } : Jvm.MethodName)) ∈ lw_all := lw_g (lw_at lw_m8 223 rfl) rfl
theorem q2003 : (Jvm.Cond.code ({ cls := "ValleyMassModel", name := "aims", desc := "([II)I" } : Jvm.MethodName) prog_14_method_60_code (7 : Nat) (Option.some Jvm.ClassFile.FieldType.int)) ∈ lw_all := lw_g (lw_at lw_m8 224 rfl) rfl
theorem q2004 : (Jvm.Cond.methodLink "ValleyMassModel" (346 : Nat) ({ cls := "ValleyMassModel", name := "aimsFor", desc := "([III)I" } : Jvm.MethodName)) ∈ lw_all := lw_g (lw_at lw_m8 225 rfl) rfl
theorem q2005 : (Jvm.Cond.privateMethod ({ cls := "ValleyMassModel", name := "aimsFor", desc := "([III)I" } : Jvm.MethodName)) ∈ lw_tbl := lw_at lw_m8 226 rfl
theorem q2006 : (Jvm.Cond.instanceMethod ({ cls := "ValleyMassModel", name := "aimsFor", desc := "([III)I" } : Jvm.MethodName)) ∈ lw_all := lw_g (lw_at lw_m8 227 rfl) rfl
theorem q2007 : (Jvm.Cond.code ({ cls := "ValleyMassModel", name := "aimsFor", desc := "([III)I" } : Jvm.MethodName) prog_14_method_59_code (6 : Nat) (Option.some Jvm.ClassFile.FieldType.int)) ∈ lw_all := lw_g (lw_at lw_m8 228 rfl) rfl
theorem q2009 : (Jvm.Cond.instanceMethod ({ cls := "ValleyMassModel", name := "fall", desc := "(I)Z" } : Jvm.MethodName)) ∈ lw_all := lw_g (lw_at lw_m8 230 rfl) rfl
theorem q2010 : (Jvm.Cond.selects "ValleyMassModel" ({ cls := "ValleyMassModel", name := "fall", desc := "(I)Z" } : Jvm.MethodName) ({ cls := "ValleyMassModel", name := "fall", desc := "(I)Z" } : Jvm.MethodName)) ∈ lw_all := lw_g (lw_at lw_m8 231 rfl) rfl
theorem q2011 : (Jvm.Cond.code ({ cls := "ValleyMassModel", name := "fall", desc := "(I)Z" } : Jvm.MethodName) prog_14_method_64_code (2 : Nat) (Option.some Jvm.ClassFile.FieldType.boolean)) ∈ lw_all := lw_g (lw_at lw_m8 232 rfl) rfl
theorem q2012 : (Jvm.Cond.methodLink "ValleyMassModel" (367 : Nat) ({ cls := "ValleyMassModel", name := "becomes", desc := "(III)Z" } : Jvm.MethodName)) ∈ lw_all := lw_g (lw_at lw_m8 233 rfl) rfl
theorem q2013 : (Jvm.Cond.privateMethod ({ cls := "ValleyMassModel", name := "becomes", desc := "(III)Z" } : Jvm.MethodName)) ∈ lw_tbl := lw_at lw_m8 234 rfl
theorem q2014 : (Jvm.Cond.instanceMethod ({ cls := "ValleyMassModel", name := "becomes", desc := "(III)Z" } : Jvm.MethodName)) ∈ lw_all := lw_g (lw_at lw_m8 235 rfl) rfl
theorem q2015 : (Jvm.Cond.code ({ cls := "ValleyMassModel", name := "becomes", desc := "(III)Z" } : Jvm.MethodName) prog_14_method_63_code (4 : Nat) (Option.some Jvm.ClassFile.FieldType.boolean)) ∈ lw_all := lw_g (lw_at lw_m8 236 rfl) rfl
theorem q2017 : (Jvm.Cond.instanceMethod ({ cls := "ValleyMassModel", name := "catches", desc := "(I)Z" } : Jvm.MethodName)) ∈ lw_all := lw_g (lw_at lw_m8 238 rfl) rfl
theorem q2018 : (Jvm.Cond.selects "ValleyMassModel" ({ cls := "ValleyMassModel", name := "catches", desc := "(I)Z" } : Jvm.MethodName) ({ cls := "ValleyMassModel", name := "catches", desc := "(I)Z" } : Jvm.MethodName)) ∈ lw_all := lw_g (lw_at lw_m8 239 rfl) rfl
theorem q2019 : (Jvm.Cond.code ({ cls := "ValleyMassModel", name := "catches", desc := "(I)Z" } : Jvm.MethodName) prog_14_method_65_code (2 : Nat) (Option.some Jvm.ClassFile.FieldType.boolean)) ∈ lw_all := lw_g (lw_at lw_m9 0 rfl) rfl
theorem q2021 : (Jvm.Cond.instanceMethod ({ cls := "ValleyMassModel", name := "release", desc := "(I)Z" } : Jvm.MethodName)) ∈ lw_all := lw_g (lw_at lw_m9 2 rfl) rfl
theorem q2022 : (Jvm.Cond.selects "ValleyMassModel" ({ cls := "ValleyMassModel", name := "release", desc := "(I)Z" } : Jvm.MethodName) ({ cls := "ValleyMassModel", name := "release", desc := "(I)Z" } : Jvm.MethodName)) ∈ lw_all := lw_g (lw_at lw_m9 3 rfl) rfl
theorem q2023 : (Jvm.Cond.code ({ cls := "ValleyMassModel", name := "release", desc := "(I)Z" } : Jvm.MethodName) prog_14_method_66_code (2 : Nat) (Option.some Jvm.ClassFile.FieldType.boolean)) ∈ lw_all := lw_g (lw_at lw_m9 4 rfl) rfl
theorem q2025 : (Jvm.Cond.instanceMethod ({ cls := "ValleyMassModel", name := "exchange", desc := "(II)Z" } : Jvm.MethodName)) ∈ lw_all := lw_g (lw_at lw_m9 6 rfl) rfl
theorem q2026 : (Jvm.Cond.selects "ValleyMassModel" ({ cls := "ValleyMassModel", name := "exchange", desc := "(II)Z" } : Jvm.MethodName) ({ cls := "ValleyMassModel", name := "exchange", desc := "(II)Z" } : Jvm.MethodName)) ∈ lw_all := lw_g (lw_at lw_m9 7 rfl) rfl
theorem q2027 : (Jvm.Cond.code ({ cls := "ValleyMassModel", name := "exchange", desc := "(II)Z" } : Jvm.MethodName) prog_14_method_67_code (3 : Nat) (Option.some Jvm.ClassFile.FieldType.boolean)) ∈ lw_all := lw_g (lw_at lw_m9 8 rfl) rfl
theorem q2029 : (Jvm.Cond.instanceMethod ({ cls := "ValleyMassModel", name := "moved", desc := "(I)I" } : Jvm.MethodName)) ∈ lw_all := lw_g (lw_at lw_m9 10 rfl) rfl
theorem q2030 : (Jvm.Cond.selects "ValleyMassModel" ({ cls := "ValleyMassModel", name := "moved", desc := "(I)I" } : Jvm.MethodName) ({ cls := "ValleyMassModel", name := "moved", desc := "(I)I" } : Jvm.MethodName)) ∈ lw_all := lw_g (lw_at lw_m9 11 rfl) rfl
theorem q2031 : (Jvm.Cond.code ({ cls := "ValleyMassModel", name := "moved", desc := "(I)I" } : Jvm.MethodName) prog_14_method_70_code (5 : Nat) (Option.some Jvm.ClassFile.FieldType.int)) ∈ lw_all := lw_g (lw_at lw_m9 12 rfl) rfl
theorem q2032 : (Jvm.Cond.methodLink "ValleyMassModel" (373 : Nat) ({ cls := "ValleyMassModel", name := "movedIn", desc := "(I)I" } : Jvm.MethodName)) ∈ lw_all := lw_g (lw_at lw_m9 13 rfl) rfl
theorem q2033 : (Jvm.Cond.privateMethod ({ cls := "ValleyMassModel", name := "movedIn", desc := "(I)I" } : Jvm.MethodName)) ∈ lw_tbl := lw_at lw_m9 14 rfl
theorem q2034 : (Jvm.Cond.instanceMethod ({ cls := "ValleyMassModel", name := "movedIn", desc := "(I)I" } : Jvm.MethodName)) ∈ lw_all := lw_g (lw_at lw_m9 15 rfl) rfl
theorem q2035 : (Jvm.Cond.code ({ cls := "ValleyMassModel", name := "movedIn", desc := "(I)I" } : Jvm.MethodName) prog_14_method_69_code (8 : Nat) (Option.some Jvm.ClassFile.FieldType.int)) ∈ lw_all := lw_g (lw_at lw_m9 16 rfl) rfl
theorem q2036 : (Jvm.Cond.methodLink "ValleyMassModel" (370 : Nat) ({ cls := "ValleyMassModel", name := "movedFor", desc := "(III)I" } : Jvm.MethodName)) ∈ lw_all := lw_g (lw_at lw_m9 17 rfl) rfl
theorem q2037 : (Jvm.Cond.privateMethod ({ cls := "ValleyMassModel", name := "movedFor", desc := "(III)I" } : Jvm.MethodName)) ∈ lw_tbl := lw_at lw_m9 18 rfl
theorem q2038 : (Jvm.Cond.instanceMethod ({ cls := "ValleyMassModel", name := "movedFor", desc := "(III)I" } : Jvm.MethodName)) ∈ lw_all := lw_g (lw_at lw_m9 19 rfl) rfl
theorem q2039 : (Jvm.Cond.code ({ cls := "ValleyMassModel", name := "movedFor", desc := "(III)I" } : Jvm.MethodName) prog_14_method_68_code (7 : Nat) (Option.some Jvm.ClassFile.FieldType.int)) ∈ lw_all := lw_g (lw_at lw_m9 20 rfl) rfl
theorem q2041 : (Jvm.Cond.instanceMethod ({ cls := "ValleyMassModel", name := "spare", desc := "(I)I" } : Jvm.MethodName)) ∈ lw_all := lw_g (lw_at lw_m9 22 rfl) rfl
theorem q2042 : (Jvm.Cond.selects "ValleyMassModel" ({ cls := "ValleyMassModel", name := "spare", desc := "(I)I" } : Jvm.MethodName) ({ cls := "ValleyMassModel", name := "spare", desc := "(I)I" } : Jvm.MethodName)) ∈ lw_all := lw_g (lw_at lw_m9 23 rfl) rfl
theorem q2043 : (Jvm.Cond.code ({ cls := "ValleyMassModel", name := "spare", desc := "(I)I" } : Jvm.MethodName) prog_14_method_71_code (6 : Nat) (Option.some Jvm.ClassFile.FieldType.int)) ∈ lw_all := lw_g (lw_at lw_m9 24 rfl) rfl
theorem q2045 : (Jvm.Cond.instanceMethod ({ cls := "ValleyMassModel", name := "keys", desc := "()I" } : Jvm.MethodName)) ∈ lw_all := lw_g (lw_at lw_m9 26 rfl) rfl
theorem q2046 : (Jvm.Cond.selects "ValleyMassModel" ({ cls := "ValleyMassModel", name := "keys", desc := "()I" } : Jvm.MethodName) ({ cls := "ValleyMassModel", name := "keys", desc := "()I" } : Jvm.MethodName)) ∈ lw_all := lw_g (lw_at lw_m9 27 rfl) rfl
theorem q2047 : (Jvm.Cond.code ({ cls := "ValleyMassModel", name := "keys", desc := "()I" } : Jvm.MethodName) prog_14_method_72_code (5 : Nat) (Option.some Jvm.ClassFile.FieldType.int)) ∈ lw_all := lw_g (lw_at lw_m9 28 rfl) rfl
theorem q2049 : (Jvm.Cond.instanceMethod ({ cls := "ValleyMassModel", name := "ransom", desc := "(I)I" } : Jvm.MethodName)) ∈ lw_all := lw_g (lw_at lw_m9 30 rfl) rfl
theorem q2050 : (Jvm.Cond.selects "ValleyMassModel" ({ cls := "ValleyMassModel", name := "ransom", desc := "(I)I" } : Jvm.MethodName) ({ cls := "ValleyMassModel", name := "ransom", desc := "(I)I" } : Jvm.MethodName)) ∈ lw_all := lw_g (lw_at lw_m9 31 rfl) rfl
theorem q2051 : (Jvm.Cond.code ({ cls := "ValleyMassModel", name := "ransom", desc := "(I)I" } : Jvm.MethodName) prog_14_method_73_code (7 : Nat) (Option.some Jvm.ClassFile.FieldType.int)) ∈ lw_all := lw_g (lw_at lw_m9 32 rfl) rfl
theorem q2053 : (Jvm.Cond.instanceMethod ({ cls := "ValleyMassModel", name := "peace", desc := "()I" } : Jvm.MethodName)) ∈ lw_all := lw_g (lw_at lw_m9 34 rfl) rfl
theorem q2054 : (Jvm.Cond.selects "ValleyMassModel" ({ cls := "ValleyMassModel", name := "peace", desc := "()I" } : Jvm.MethodName) ({ cls := "ValleyMassModel", name := "peace", desc := "()I" } : Jvm.MethodName)) ∈ lw_all := lw_g (lw_at lw_m9 35 rfl) rfl
theorem q2055 : (Jvm.Cond.code ({ cls := "ValleyMassModel", name := "peace", desc := "()I" } : Jvm.MethodName) prog_14_method_74_code (2 : Nat) (Option.some Jvm.ClassFile.FieldType.int)) ∈ lw_all := lw_g (lw_at lw_m9 36 rfl) rfl
theorem q2057 : (Jvm.Cond.instanceMethod ({ cls := "ValleyMassModel", name := "silent", desc := "()I" } : Jvm.MethodName)) ∈ lw_all := lw_g (lw_at lw_m9 38 rfl) rfl
theorem q2058 : (Jvm.Cond.selects "ValleyMassModel" ({ cls := "ValleyMassModel", name := "silent", desc := "()I" } : Jvm.MethodName) ({ cls := "ValleyMassModel", name := "silent", desc := "()I" } : Jvm.MethodName)) ∈ lw_all := lw_g (lw_at lw_m9 39 rfl) rfl
theorem q2059 : (Jvm.Cond.code ({ cls := "ValleyMassModel", name := "silent", desc := "()I" } : Jvm.MethodName) prog_14_method_75_code (2 : Nat) (Option.some Jvm.ClassFile.FieldType.int)) ∈ lw_all := lw_g (lw_at lw_m9 40 rfl) rfl
theorem q2061 : (Jvm.Cond.instanceMethod ({ cls := "ValleyMassModel", name := "falls", desc := "(I)I" } : Jvm.MethodName)) ∈ lw_all := lw_g (lw_at lw_m9 42 rfl) rfl
theorem q2062 : (Jvm.Cond.selects "ValleyMassModel" ({ cls := "ValleyMassModel", name := "falls", desc := "(I)I" } : Jvm.MethodName) ({ cls := "ValleyMassModel", name := "falls", desc := "(I)I" } : Jvm.MethodName)) ∈ lw_all := lw_g (lw_at lw_m9 43 rfl) rfl
theorem q2063 : (Jvm.Cond.code ({ cls := "ValleyMassModel", name := "falls", desc := "(I)I" } : Jvm.MethodName) prog_14_method_76_code (4 : Nat) (Option.some Jvm.ClassFile.FieldType.int)) ∈ lw_all := lw_g (lw_at lw_m9 44 rfl) rfl
theorem q2065 : (Jvm.Cond.instanceMethod ({ cls := "ValleyMassModel", name := "duet", desc := "()I" } : Jvm.MethodName)) ∈ lw_all := lw_g (lw_at lw_m9 46 rfl) rfl
theorem q2066 : (Jvm.Cond.selects "ValleyMassModel" ({ cls := "ValleyMassModel", name := "duet", desc := "()I" } : Jvm.MethodName) ({ cls := "ValleyMassModel", name := "duet", desc := "()I" } : Jvm.MethodName)) ∈ lw_all := lw_g (lw_at lw_m9 47 rfl) rfl
theorem q2067 : (Jvm.Cond.code ({ cls := "ValleyMassModel", name := "duet", desc := "()I" } : Jvm.MethodName) prog_14_method_78_code (3 : Nat) (Option.some Jvm.ClassFile.FieldType.int)) ∈ lw_all := lw_g (lw_at lw_m9 48 rfl) rfl
theorem q2068 : (Jvm.Cond.methodLink "ValleyMassModel" (376 : Nat) ({ cls := "ValleyMassModel", name := "areAtOnce", desc := "(I)Z" } : Jvm.MethodName)) ∈ lw_all := lw_g (lw_at lw_m9 49 rfl) rfl
theorem q2069 : (Jvm.Cond.privateMethod ({ cls := "ValleyMassModel", name := "areAtOnce", desc := "(I)Z" } : Jvm.MethodName)) ∈ lw_tbl := lw_at lw_m9 50 rfl
theorem q2070 : (Jvm.Cond.instanceMethod ({ cls := "ValleyMassModel", name := "areAtOnce", desc := "(I)Z" } : Jvm.MethodName)) ∈ lw_all := lw_g (lw_at lw_m9 51 rfl) rfl
theorem q2071 : (Jvm.Cond.code ({ cls := "ValleyMassModel", name := "areAtOnce", desc := "(I)Z" } : Jvm.MethodName) prog_14_method_77_code (8 : Nat) (Option.some Jvm.ClassFile.FieldType.boolean)) ∈ lw_all := lw_g (lw_at lw_m9 52 rfl) rfl
theorem q2073 : (Jvm.Cond.instanceMethod ({ cls := "ValleyMassModel", name := "evening", desc := "()I" } : Jvm.MethodName)) ∈ lw_all := lw_g (lw_at lw_m9 54 rfl) rfl
theorem q2074 : (Jvm.Cond.selects "ValleyMassModel" ({ cls := "ValleyMassModel", name := "evening", desc := "()I" } : Jvm.MethodName) ({ cls := "ValleyMassModel", name := "evening", desc := "()I" } : Jvm.MethodName)) ∈ lw_all := lw_g (lw_at lw_m9 55 rfl) rfl
theorem q2075 : (Jvm.Cond.code ({ cls := "ValleyMassModel", name := "evening", desc := "()I" } : Jvm.MethodName) prog_14_method_79_code (3 : Nat) (Option.some Jvm.ClassFile.FieldType.int)) ∈ lw_all := lw_g (lw_at lw_m9 56 rfl) rfl
theorem q2077 : (Jvm.Cond.instanceMethod ({ cls := "ValleyMassModel", name := "cast", desc := "(II)I" } : Jvm.MethodName)) ∈ lw_all := lw_g (lw_at lw_m9 58 rfl) rfl
theorem q2078 : (Jvm.Cond.selects "ValleyMassModel" ({ cls := "ValleyMassModel", name := "cast", desc := "(II)I" } : Jvm.MethodName) ({ cls := "ValleyMassModel", name := "cast", desc := "(II)I" } : Jvm.MethodName)) ∈ lw_all := lw_g (lw_at lw_m9 59 rfl) rfl
theorem q2079 : (Jvm.Cond.code ({ cls := "ValleyMassModel", name := "cast", desc := "(II)I" } : Jvm.MethodName) prog_14_method_80_code (11 : Nat) (Option.some Jvm.ClassFile.FieldType.int)) ∈ lw_all := lw_g (lw_at lw_m9 60 rfl) rfl
theorem q2081 : (Jvm.Cond.instanceMethod ({ cls := "ValleyMassModel", name := "transposed", desc := "(I)I" } : Jvm.MethodName)) ∈ lw_all := lw_g (lw_at lw_m9 62 rfl) rfl
theorem q2082 : (Jvm.Cond.selects "ValleyMassModel" ({ cls := "ValleyMassModel", name := "transposed", desc := "(I)I" } : Jvm.MethodName) ({ cls := "ValleyMassModel", name := "transposed", desc := "(I)I" } : Jvm.MethodName)) ∈ lw_all := lw_g (lw_at lw_m9 63 rfl) rfl
theorem q2083 : (Jvm.Cond.code ({ cls := "ValleyMassModel", name := "transposed", desc := "(I)I" } : Jvm.MethodName) prog_14_method_82_code (4 : Nat) (Option.some Jvm.ClassFile.FieldType.int)) ∈ lw_all := lw_g (lw_at lw_m9 64 rfl) rfl
theorem q2084 : (Jvm.Cond.methodLink "ValleyMassModel" (379 : Nat) ({ cls := "ValleyMassModel", name := "isOnScale", desc := "(II)Z" } : Jvm.MethodName)) ∈ lw_all := lw_g (lw_at lw_m9 65 rfl) rfl
theorem q2085 : (Jvm.Cond.privateMethod ({ cls := "ValleyMassModel", name := "isOnScale", desc := "(II)Z" } : Jvm.MethodName)) ∈ lw_tbl := lw_at lw_m9 66 rfl
theorem q2086 : (Jvm.Cond.instanceMethod ({ cls := "ValleyMassModel", name := "isOnScale", desc := "(II)Z" } : Jvm.MethodName)) ∈ lw_all := lw_g (lw_at lw_m9 67 rfl) rfl
theorem q2087 : (Jvm.Cond.code ({ cls := "ValleyMassModel", name := "isOnScale", desc := "(II)Z" } : Jvm.MethodName) prog_14_method_81_code (5 : Nat) (Option.some Jvm.ClassFile.FieldType.boolean)) ∈ lw_all := lw_g (lw_at lw_m9 68 rfl) rfl
theorem q2089 : (Jvm.Cond.instanceMethod ({ cls := "ValleyMassModel", name := "standIns", desc := "(I)I" } : Jvm.MethodName)) ∈ lw_all := lw_g (lw_at lw_m9 70 rfl) rfl
theorem q2090 : (Jvm.Cond.selects "ValleyMassModel" ({ cls := "ValleyMassModel", name := "standIns", desc := "(I)I" } : Jvm.MethodName) ({ cls := "ValleyMassModel", name := "standIns", desc := "(I)I" } : Jvm.MethodName)) ∈ lw_all := lw_g (lw_at lw_m9 71 rfl) rfl
theorem q2091 : (Jvm.Cond.code ({ cls := "ValleyMassModel", name := "standIns", desc := "(I)I" } : Jvm.MethodName) prog_14_method_83_code (4 : Nat) (Option.some Jvm.ClassFile.FieldType.int)) ∈ lw_all := lw_g (lw_at lw_m9 72 rfl) rfl
theorem q2093 : (Jvm.Cond.instanceMethod ({ cls := "ValleyMassModel", name := "voices", desc := "(II)I" } : Jvm.MethodName)) ∈ lw_all := lw_g (lw_at lw_m9 74 rfl) rfl
theorem q2094 : (Jvm.Cond.selects "ValleyMassModel" ({ cls := "ValleyMassModel", name := "voices", desc := "(II)I" } : Jvm.MethodName) ({ cls := "ValleyMassModel", name := "voices", desc := "(II)I" } : Jvm.MethodName)) ∈ lw_all := lw_g (lw_at lw_m9 75 rfl) rfl
theorem q2095 : (Jvm.Cond.code ({ cls := "ValleyMassModel", name := "voices", desc := "(II)I" } : Jvm.MethodName) prog_14_method_84_code (5 : Nat) (Option.some Jvm.ClassFile.FieldType.int)) ∈ lw_all := lw_g (lw_at lw_m9 76 rfl) rfl
theorem q2097 : (Jvm.Cond.instanceMethod ({ cls := "ValleyMassModel", name := "lacking", desc := "(II)I" } : Jvm.MethodName)) ∈ lw_all := lw_g (lw_at lw_m9 78 rfl) rfl
theorem q2098 : (Jvm.Cond.selects "ValleyMassModel" ({ cls := "ValleyMassModel", name := "lacking", desc := "(II)I" } : Jvm.MethodName) ({ cls := "ValleyMassModel", name := "lacking", desc := "(II)I" } : Jvm.MethodName)) ∈ lw_all := lw_g (lw_at lw_m9 79 rfl) rfl
theorem q2099 : (Jvm.Cond.code ({ cls := "ValleyMassModel", name := "lacking", desc := "(II)I" } : Jvm.MethodName) prog_14_method_86_code (3 : Nat) (Option.some Jvm.ClassFile.FieldType.int)) ∈ lw_all := lw_g (lw_at lw_m9 80 rfl) rfl
theorem q2100 : (Jvm.Cond.methodLink "ValleyMassModel" (382 : Nat) ({ cls := "ValleyMassModel", name := "lackingIn", desc := "(I)I" } : Jvm.MethodName)) ∈ lw_all := lw_g (lw_at lw_m9 81 rfl) rfl
theorem q2101 : (Jvm.Cond.privateMethod ({ cls := "ValleyMassModel", name := "lackingIn", desc := "(I)I" } : Jvm.MethodName)) ∈ lw_tbl := lw_at lw_m9 82 rfl
theorem q2102 : (Jvm.Cond.instanceMethod ({ cls := "ValleyMassModel", name := "lackingIn", desc := "(I)I" } : Jvm.MethodName)) ∈ lw_all := lw_g (lw_at lw_m9 83 rfl) rfl
theorem q2103 : (Jvm.Cond.code ({ cls := "ValleyMassModel", name := "lackingIn", desc := "(I)I" } : Jvm.MethodName) prog_14_method_85_code (3 : Nat) (Option.some Jvm.ClassFile.FieldType.int)) ∈ lw_all := lw_g (lw_at lw_m9 84 rfl) rfl
theorem q2105 : (Jvm.Cond.instanceMethod ({ cls := "ValleyMassModel", name := "widen", desc := "(II)I" } : Jvm.MethodName)) ∈ lw_all := lw_g (lw_at lw_m9 86 rfl) rfl
theorem q2106 : (Jvm.Cond.selects "ValleyMassModel" ({ cls := "ValleyMassModel", name := "widen", desc := "(II)I" } : Jvm.MethodName) ({ cls := "ValleyMassModel", name := "widen", desc := "(II)I" } : Jvm.MethodName)) ∈ lw_all := lw_g (lw_at lw_m9 87 rfl) rfl
theorem q2107 : (Jvm.Cond.code ({ cls := "ValleyMassModel", name := "widen", desc := "(II)I" } : Jvm.MethodName) prog_14_method_88_code (8 : Nat) (Option.some Jvm.ClassFile.FieldType.int)) ∈ lw_all := lw_g (lw_at lw_m9 88 rfl) rfl
theorem q2108 : (Jvm.Cond.methodLink "ValleyMassModel" (385 : Nat) ({ cls := "ValleyMassModel", name := "widerFor", desc := "(II)I" } : Jvm.MethodName)) ∈ lw_all := lw_g (lw_at lw_m9 89 rfl) rfl
theorem q2109 : (Jvm.Cond.privateMethod ({ cls := "ValleyMassModel", name := "widerFor", desc := "(II)I" } : Jvm.MethodName)) ∈ lw_tbl := lw_at lw_m9 90 rfl
theorem q2110 : (Jvm.Cond.instanceMethod ({ cls := "ValleyMassModel", name := "widerFor", desc := "(II)I" } : Jvm.MethodName)) ∈ lw_all := lw_g (lw_at lw_m9 91 rfl) rfl
theorem q2111 : (Jvm.Cond.code ({ cls := "ValleyMassModel", name := "widerFor", desc := "(II)I" } : Jvm.MethodName) prog_14_method_87_code (7 : Nat) (Option.some Jvm.ClassFile.FieldType.int)) ∈ lw_all := lw_g (lw_at lw_m9 92 rfl) rfl
theorem q2113 : (Jvm.Cond.instanceMethod ({ cls := "ValleyMassModel", name := "bargain", desc := "()I" } : Jvm.MethodName)) ∈ lw_all := lw_g (lw_at lw_m9 94 rfl) rfl
theorem q2114 : (Jvm.Cond.selects "ValleyMassModel" ({ cls := "ValleyMassModel", name := "bargain", desc := "()I" } : Jvm.MethodName) ({ cls := "ValleyMassModel", name := "bargain", desc := "()I" } : Jvm.MethodName)) ∈ lw_all := lw_g (lw_at lw_m9 95 rfl) rfl
theorem q2115 : (Jvm.Cond.code ({ cls := "ValleyMassModel", name := "bargain", desc := "()I" } : Jvm.MethodName) prog_14_method_89_code (7 : Nat) (Option.some Jvm.ClassFile.FieldType.int)) ∈ lw_all := lw_g (lw_at lw_m9 96 rfl) rfl
theorem q2117 : (Jvm.Cond.instanceMethod ({ cls := "ValleyMassModel", name := "casts", desc := "(I)J" } : Jvm.MethodName)) ∈ lw_all := lw_g (lw_at lw_m9 98 rfl) rfl
theorem q2118 : (Jvm.Cond.selects "ValleyMassModel" ({ cls := "ValleyMassModel", name := "casts", desc := "(I)J" } : Jvm.MethodName) ({ cls := "ValleyMassModel", name := "casts", desc := "(I)J" } : Jvm.MethodName)) ∈ lw_all := lw_g (lw_at lw_m9 99 rfl) rfl
theorem q2119 : (Jvm.Cond.code ({ cls := "ValleyMassModel", name := "casts", desc := "(I)J" } : Jvm.MethodName) prog_14_method_90_code (8 : Nat) (Option.some Jvm.ClassFile.FieldType.long)) ∈ lw_all := lw_g (lw_at lw_m9 100 rfl) rfl
theorem q2121 : (Jvm.Cond.instanceMethod ({ cls := "ValleyMassModel", name := "holds", desc := "(I)Z" } : Jvm.MethodName)) ∈ lw_all := lw_g (lw_at lw_m9 102 rfl) rfl
theorem q2122 : (Jvm.Cond.selects "ValleyMassModel" ({ cls := "ValleyMassModel", name := "holds", desc := "(I)Z" } : Jvm.MethodName) ({ cls := "ValleyMassModel", name := "holds", desc := "(I)Z" } : Jvm.MethodName)) ∈ lw_all := lw_g (lw_at lw_m9 103 rfl) rfl
theorem q2123 : (Jvm.Cond.code ({ cls := "ValleyMassModel", name := "holds", desc := "(I)Z" } : Jvm.MethodName) prog_14_method_91_code (2 : Nat) (Option.some Jvm.ClassFile.FieldType.boolean)) ∈ lw_all := lw_g (lw_at lw_m9 104 rfl) rfl
theorem q2125 : (Jvm.Cond.instanceMethod ({ cls := "ValleyMassModel", name := "aimed", desc := "(I)I" } : Jvm.MethodName)) ∈ lw_all := lw_g (lw_at lw_m9 106 rfl) rfl
theorem q2126 : (Jvm.Cond.selects "ValleyMassModel" ({ cls := "ValleyMassModel", name := "aimed", desc := "(I)I" } : Jvm.MethodName) ({ cls := "ValleyMassModel", name := "aimed", desc := "(I)I" } : Jvm.MethodName)) ∈ lw_all := lw_g (lw_at lw_m9 107 rfl) rfl
theorem q2127 : (Jvm.Cond.code ({ cls := "ValleyMassModel", name := "aimed", desc := "(I)I" } : Jvm.MethodName) prog_14_method_92_code (2 : Nat) (Option.some Jvm.ClassFile.FieldType.int)) ∈ lw_all := lw_g (lw_at lw_m9 108 rfl) rfl
theorem q2129 : (Jvm.Cond.instanceMethod ({ cls := "ValleyMassModel", name := "held", desc := "(II)I" } : Jvm.MethodName)) ∈ lw_all := lw_g (lw_at lw_m9 110 rfl) rfl
theorem q2130 : (Jvm.Cond.selects "ValleyMassModel" ({ cls := "ValleyMassModel", name := "held", desc := "(II)I" } : Jvm.MethodName) ({ cls := "ValleyMassModel", name := "held", desc := "(II)I" } : Jvm.MethodName)) ∈ lw_all := lw_g (lw_at lw_m9 111 rfl) rfl
theorem q2131 : (Jvm.Cond.code ({ cls := "ValleyMassModel", name := "held", desc := "(II)I" } : Jvm.MethodName) prog_14_method_93_code (5 : Nat) (Option.some Jvm.ClassFile.FieldType.int)) ∈ lw_all := lw_g (lw_at lw_m9 112 rfl) rfl
theorem q2133 : (Jvm.Cond.instanceMethod ({ cls := "ValleyMassModel", name := "lost", desc := "(I)I" } : Jvm.MethodName)) ∈ lw_all := lw_g (lw_at lw_m9 114 rfl) rfl
theorem q2134 : (Jvm.Cond.selects "ValleyMassModel" ({ cls := "ValleyMassModel", name := "lost", desc := "(I)I" } : Jvm.MethodName) ({ cls := "ValleyMassModel", name := "lost", desc := "(I)I" } : Jvm.MethodName)) ∈ lw_all := lw_g (lw_at lw_m9 115 rfl) rfl
theorem q2135 : (Jvm.Cond.code ({ cls := "ValleyMassModel", name := "lost", desc := "(I)I" } : Jvm.MethodName) prog_14_method_94_code (3 : Nat) (Option.some Jvm.ClassFile.FieldType.int)) ∈ lw_all := lw_g (lw_at lw_m9 116 rfl) rfl
theorem q2137 : (Jvm.Cond.instanceMethod ({ cls := "ValleyMassModel", name := "gone", desc := "(I)I" } : Jvm.MethodName)) ∈ lw_all := lw_g (lw_at lw_m9 118 rfl) rfl
theorem q2138 : (Jvm.Cond.selects "ValleyMassModel" ({ cls := "ValleyMassModel", name := "gone", desc := "(I)I" } : Jvm.MethodName) ({ cls := "ValleyMassModel", name := "gone", desc := "(I)I" } : Jvm.MethodName)) ∈ lw_all := lw_g (lw_at lw_m9 119 rfl) rfl
theorem q2139 : (Jvm.Cond.code ({ cls := "ValleyMassModel", name := "gone", desc := "(I)I" } : Jvm.MethodName) prog_14_method_95_code (3 : Nat) (Option.some Jvm.ClassFile.FieldType.int)) ∈ lw_all := lw_g (lw_at lw_m9 120 rfl) rfl
theorem q2141 : (Jvm.Cond.instanceMethod ({ cls := "ValleyMassModel", name := "rows", desc := "(I)I" } : Jvm.MethodName)) ∈ lw_all := lw_g (lw_at lw_m9 122 rfl) rfl
theorem q2142 : (Jvm.Cond.selects "ValleyMassModel" ({ cls := "ValleyMassModel", name := "rows", desc := "(I)I" } : Jvm.MethodName) ({ cls := "ValleyMassModel", name := "rows", desc := "(I)I" } : Jvm.MethodName)) ∈ lw_all := lw_g (lw_at lw_m9 123 rfl) rfl
theorem q2143 : (Jvm.Cond.code ({ cls := "ValleyMassModel", name := "rows", desc := "(I)I" } : Jvm.MethodName) prog_14_method_96_code (4 : Nat) (Option.some Jvm.ClassFile.FieldType.int)) ∈ lw_all := lw_g (lw_at lw_m9 124 rfl) rfl
theorem q2145 : (Jvm.Cond.instanceMethod ({ cls := "ValleyMassModel", name := "luck", desc := "(III)I" } : Jvm.MethodName)) ∈ lw_all := lw_g (lw_at lw_m9 126 rfl) rfl
theorem q2146 : (Jvm.Cond.selects "ValleyMassModel" ({ cls := "ValleyMassModel", name := "luck", desc := "(III)I" } : Jvm.MethodName) ({ cls := "ValleyMassModel", name := "luck", desc := "(III)I" } : Jvm.MethodName)) ∈ lw_all := lw_g (lw_at lw_m9 127 rfl) rfl
theorem q2147 : (Jvm.Cond.code ({ cls := "ValleyMassModel", name := "luck", desc := "(III)I" } : Jvm.MethodName) prog_14_method_98_code (8 : Nat) (Option.some Jvm.ClassFile.FieldType.int)) ∈ lw_all := lw_g (lw_at lw_m9 128 rfl) rfl
theorem q2148 : (Jvm.Cond.methodLink "ValleyMassModel" (388 : Nat) ({ cls := "ValleyMassModel", name := "portion", desc := "(III)I" } : Jvm.MethodName)) ∈ lw_all := lw_g (lw_at lw_m9 129 rfl) rfl
theorem q2149 : (Jvm.Cond.static ({ cls := "ValleyMassModel", name := "portion", desc := "(III)I" } : Jvm.MethodName)) ∈ lw_all := lw_g (lw_at lw_m9 130 rfl) rfl
theorem q2150 : (Jvm.Cond.code ({ cls := "ValleyMassModel", name := "portion", desc := "(III)I" } : Jvm.MethodName) prog_14_method_97_code (6 : Nat) (Option.some Jvm.ClassFile.FieldType.int)) ∈ lw_all := lw_g (lw_at lw_m9 131 rfl) rfl
theorem q2152 : (Jvm.Cond.instanceMethod ({ cls := "ValleyMassModel", name := "codes", desc := "(II)J" } : Jvm.MethodName)) ∈ lw_all := lw_g (lw_at lw_m9 133 rfl) rfl
theorem q2153 : (Jvm.Cond.selects "ValleyMassModel" ({ cls := "ValleyMassModel", name := "codes", desc := "(II)J" } : Jvm.MethodName) ({ cls := "ValleyMassModel", name := "codes", desc := "(II)J" } : Jvm.MethodName)) ∈ lw_all := lw_g (lw_at lw_m9 134 rfl) rfl
theorem q2154 : (Jvm.Cond.code ({ cls := "ValleyMassModel", name := "codes", desc := "(II)J" } : Jvm.MethodName) prog_14_method_101_code (3 : Nat) (Option.some Jvm.ClassFile.FieldType.long)) ∈ lw_all := lw_g (lw_at lw_m9 135 rfl) rfl
theorem q2155 : (Jvm.Cond.methodLink "ValleyMassModel" (396 : Nat) ({ cls := "ValleyMassModel", name := "codesOf", desc := "(II)J" } : Jvm.MethodName)) ∈ lw_all := lw_g (lw_at lw_m9 136 rfl) rfl
theorem q2156 : (Jvm.Cond.privateMethod ({ cls := "ValleyMassModel", name := "codesOf", desc := "(II)J" } : Jvm.MethodName)) ∈ lw_tbl := lw_at lw_m9 137 rfl
theorem q2157 : (Jvm.Cond.instanceMethod ({ cls := "ValleyMassModel", name := "codesOf", desc := "(II)J" } : Jvm.MethodName)) ∈ lw_all := lw_g (lw_at lw_m9 138 rfl) rfl
theorem q2158 : (Jvm.Cond.code ({ cls := "ValleyMassModel", name := "codesOf", desc := "(II)J" } : Jvm.MethodName) prog_14_method_100_code (9 : Nat) (Option.some Jvm.ClassFile.FieldType.long)) ∈ lw_all := lw_g (lw_at lw_m9 139 rfl) rfl
theorem q2159 : (Jvm.Cond.methodLink "ValleyMassModel" (391 : Nat) ({ cls := "ValleyMassModel", name := "notesIn", desc := "(I)I" } : Jvm.MethodName)) ∈ lw_all := lw_g (lw_at lw_m9 140 rfl) rfl
theorem q2160 : (Jvm.Cond.privateMethod ({ cls := "ValleyMassModel", name := "notesIn", desc := "(I)I" } : Jvm.MethodName)) ∈ lw_tbl := lw_at lw_m9 141 rfl
theorem q2161 : (Jvm.Cond.instanceMethod ({ cls := "ValleyMassModel", name := "notesIn", desc := "(I)I" } : Jvm.MethodName)) ∈ lw_all := lw_g (lw_at lw_m9 142 rfl) rfl
theorem q2162 : (Jvm.Cond.code ({ cls := "ValleyMassModel", name := "notesIn", desc := "(I)I" } : Jvm.MethodName) prog_14_method_99_code (4 : Nat) (Option.some Jvm.ClassFile.FieldType.int)) ∈ lw_all := lw_g (lw_at lw_m9 143 rfl) rfl
theorem q2163 : (Jvm.Cond.constantLong "ValleyMassModel" (394 : Nat) (2 : Int64)) ∈ lw_all := lw_g (lw_at lw_m9 144 rfl) rfl
theorem q2165 : (Jvm.Cond.instanceMethod ({ cls := "ValleyMassModel", name := "slips", desc := "(II)I" } : Jvm.MethodName)) ∈ lw_all := lw_g (lw_at lw_m9 146 rfl) rfl
theorem q2166 : (Jvm.Cond.selects "ValleyMassModel" ({ cls := "ValleyMassModel", name := "slips", desc := "(II)I" } : Jvm.MethodName) ({ cls := "ValleyMassModel", name := "slips", desc := "(II)I" } : Jvm.MethodName)) ∈ lw_all := lw_g (lw_at lw_m9 147 rfl) rfl
theorem q2167 : (Jvm.Cond.code ({ cls := "ValleyMassModel", name := "slips", desc := "(II)I" } : Jvm.MethodName) prog_14_method_102_code (4 : Nat) (Option.some Jvm.ClassFile.FieldType.int)) ∈ lw_all := lw_g (lw_at lw_m9 148 rfl) rfl
theorem q2168 : (Jvm.Cond.constant "ValleyMassModel" (400 : Nat) (1000000000 : Int32)) ∈ lw_all := lw_g (lw_at lw_m9 149 rfl) rfl
theorem q2170 : (Jvm.Cond.instanceMethod ({ cls := "ValleyMassModel", name := "hear", desc := "(IIII)I" } : Jvm.MethodName)) ∈ lw_all := lw_g (lw_at lw_m9 151 rfl) rfl
theorem q2171 : (Jvm.Cond.selects "ValleyMassModel" ({ cls := "ValleyMassModel", name := "hear", desc := "(IIII)I" } : Jvm.MethodName) ({ cls := "ValleyMassModel", name := "hear", desc := "(IIII)I" } : Jvm.MethodName)) ∈ lw_all := lw_g (lw_at lw_m9 152 rfl) rfl
theorem q2172 : (Jvm.Cond.code ({ cls := "ValleyMassModel", name := "hear", desc := "(IIII)I" } : Jvm.MethodName) prog_14_method_103_code (6 : Nat) (Option.some Jvm.ClassFile.FieldType.int)) ∈ lw_all := lw_g (lw_at lw_m9 153 rfl) rfl
theorem q2174 : (Jvm.Cond.instanceMethod ({ cls := "ValleyMassModel", name := "forget", desc := "()V" } : Jvm.MethodName)) ∈ lw_all := lw_g (lw_at lw_m9 155 rfl) rfl
theorem q2175 : (Jvm.Cond.selects "ValleyMassModel" ({ cls := "ValleyMassModel", name := "forget", desc := "()V" } : Jvm.MethodName) ({ cls := "ValleyMassModel", name := "forget", desc := "()V" } : Jvm.MethodName)) ∈ lw_all := lw_g (lw_at lw_m9 156 rfl) rfl
theorem q2176 : (Jvm.Cond.code ({ cls := "ValleyMassModel", name := "forget", desc := "()V" } : Jvm.MethodName) prog_14_method_104_code (1 : Nat) (Option.none : Option Jvm.ClassFile.FieldType)) ∈ lw_all := lw_g (lw_at lw_m9 157 rfl) rfl
theorem q2178 : (Jvm.Cond.instanceMethod ({ cls := "ValleyMassModel", name := "flat", desc := "(I)I" } : Jvm.MethodName)) ∈ lw_all := lw_g (lw_at lw_m9 159 rfl) rfl
theorem q2179 : (Jvm.Cond.selects "ValleyMassModel" ({ cls := "ValleyMassModel", name := "flat", desc := "(I)I" } : Jvm.MethodName) ({ cls := "ValleyMassModel", name := "flat", desc := "(I)I" } : Jvm.MethodName)) ∈ lw_all := lw_g (lw_at lw_m9 160 rfl) rfl
theorem q2180 : (Jvm.Cond.code ({ cls := "ValleyMassModel", name := "flat", desc := "(I)I" } : Jvm.MethodName) prog_14_method_106_code (6 : Nat) (Option.some Jvm.ClassFile.FieldType.int)) ∈ lw_all := lw_g (lw_at lw_m9 161 rfl) rfl
theorem q2181 : (Jvm.Cond.methodLink "ValleyMassModel" (401 : Nat) ({ cls := "ValleyMassModel", name := "isHeard", desc := "(II)Z" } : Jvm.MethodName)) ∈ lw_all := lw_g (lw_at lw_m9 162 rfl) rfl
theorem q2182 : (Jvm.Cond.privateMethod ({ cls := "ValleyMassModel", name := "isHeard", desc := "(II)Z" } : Jvm.MethodName)) ∈ lw_tbl := lw_at lw_m9 163 rfl
theorem q2183 : (Jvm.Cond.instanceMethod ({ cls := "ValleyMassModel", name := "isHeard", desc := "(II)Z" } : Jvm.MethodName)) ∈ lw_all := lw_g (lw_at lw_m9 164 rfl) rfl
theorem q2184 : (Jvm.Cond.code ({ cls := "ValleyMassModel", name := "isHeard", desc := "(II)Z" } : Jvm.MethodName) prog_14_method_105_code (6 : Nat) (Option.some Jvm.ClassFile.FieldType.boolean)) ∈ lw_all := lw_g (lw_at lw_m9 165 rfl) rfl
theorem q2186 : (Jvm.Cond.instanceMethod ({ cls := "ValleyMassModel", name := "game", desc := "(II)I" } : Jvm.MethodName)) ∈ lw_all := lw_g (lw_at lw_m9 167 rfl) rfl
theorem q2187 : (Jvm.Cond.selects "ValleyMassModel" ({ cls := "ValleyMassModel", name := "game", desc := "(II)I" } : Jvm.MethodName) ({ cls := "ValleyMassModel", name := "game", desc := "(II)I" } : Jvm.MethodName)) ∈ lw_all := lw_g (lw_at lw_m9 168 rfl) rfl
theorem q2188 : (Jvm.Cond.code ({ cls := "ValleyMassModel", name := "game", desc := "(II)I" } : Jvm.MethodName) prog_14_method_108_code (8 : Nat) (Option.some Jvm.ClassFile.FieldType.int)) ∈ lw_all := lw_g (lw_at lw_m9 169 rfl) rfl
theorem q2189 : (Jvm.Cond.methodLink "ValleyMassModel" (404 : Nat) ({ cls := "ValleyMassModel", name := "lays4", desc := "(I)V" } : Jvm.MethodName)) ∈ lw_all := lw_g (lw_at lw_m9 170 rfl) rfl
theorem q2190 : (Jvm.Cond.privateMethod ({ cls := "ValleyMassModel", name := "lays4", desc := "(I)V" } : Jvm.MethodName)) ∈ lw_tbl := lw_at lw_m9 171 rfl
theorem q2191 : (Jvm.Cond.instanceMethod ({ cls := "ValleyMassModel", name := "lays4", desc := "(I)V" } : Jvm.MethodName)) ∈ lw_all := lw_g (lw_at lw_m9 172 rfl) rfl
theorem q2192 : (Jvm.Cond.code ({ cls := "ValleyMassModel", name := "lays4", desc := "(I)V" } : Jvm.MethodName) prog_14_method_107_code (8 : Nat) (Option.none : Option Jvm.ClassFile.FieldType)) ∈ lw_all := lw_g (lw_at lw_m9 173 rfl) rfl
theorem q2194 : (Jvm.Cond.instanceMethod ({ cls := "ValleyMassModel", name := "wars", desc := "(III)I" } : Jvm.MethodName)) ∈ lw_all := lw_g (lw_at lw_m9 175 rfl) rfl
theorem q2195 : (Jvm.Cond.selects "ValleyMassModel" ({ cls := "ValleyMassModel", name := "wars", desc := "(III)I" } : Jvm.MethodName) ({ cls := "ValleyMassModel", name := "wars", desc := "(III)I" } : Jvm.MethodName)) ∈ lw_all := lw_g (lw_at lw_m9 176 rfl) rfl
theorem q2196 : (Jvm.Cond.code ({ cls := "ValleyMassModel", name := "wars", desc := "(III)I" } : Jvm.MethodName) prog_14_method_110_code (6 : Nat) (Option.some Jvm.ClassFile.FieldType.int)) ∈ lw_all := lw_g (lw_at lw_m9 177 rfl) rfl
theorem q2197 : (Jvm.Cond.methodLink "ValleyMassModel" (411 : Nat) ({ cls := "ValleyMassModel", name := "draw", desc := "(I)I" } : Jvm.MethodName)) ∈ lw_all := lw_g (lw_at lw_m9 178 rfl) rfl
theorem q2198 : (Jvm.Cond.privateMethod ({ cls := "ValleyMassModel", name := "draw", desc := "(I)I" } : Jvm.MethodName)) ∈ lw_tbl := lw_at lw_m9 179 rfl
theorem q2199 : (Jvm.Cond.instanceMethod ({ cls := "ValleyMassModel", name := "draw", desc := "(I)I" } : Jvm.MethodName)) ∈ lw_all := lw_g (lw_at lw_m9 180 rfl) rfl
theorem q2200 : (Jvm.Cond.code ({ cls := "ValleyMassModel", name := "draw", desc := "(I)I" } : Jvm.MethodName) prog_14_method_109_code (2 : Nat) (Option.some Jvm.ClassFile.FieldType.int)) ∈ lw_all := lw_g (lw_at lw_m9 181 rfl) rfl
theorem q2201 : (Jvm.Cond.constant "ValleyMassModel" (410 : Nat) (1103515245 : Int32)) ∈ lw_all := lw_g (lw_at lw_m9 182 rfl) rfl
theorem q2203 : (Jvm.Cond.instanceMethod ({ cls := "ValleyMassModel", name := "image", desc := "()V" } : Jvm.MethodName)) ∈ lw_all := lw_g (lw_at lw_m9 184 rfl) rfl
theorem q2204 : (Jvm.Cond.selects "ValleyMassModel" ({ cls := "ValleyMassModel", name := "image", desc := "()V" } : Jvm.MethodName) ({ cls := "ValleyMassModel", name := "image", desc := "()V" } : Jvm.MethodName)) ∈ lw_all := lw_g (lw_at lw_m9 185 rfl) rfl
theorem q2205 : (Jvm.Cond.code ({ cls := "ValleyMassModel", name := "image", desc := "()V" } : Jvm.MethodName) prog_14_method_111_code (1 : Nat) (Option.none : Option Jvm.ClassFile.FieldType)) ∈ lw_all := lw_g (lw_at lw_m9 186 rfl) rfl
theorem q2207 : (Jvm.Cond.instanceMethod ({ cls := "ValleyMassModel", name := "restore", desc := "()Z" } : Jvm.MethodName)) ∈ lw_all := lw_g (lw_at lw_m9 188 rfl) rfl
theorem q2208 : (Jvm.Cond.selects "ValleyMassModel" ({ cls := "ValleyMassModel", name := "restore", desc := "()Z" } : Jvm.MethodName) ({ cls := "ValleyMassModel", name := "restore", desc := "()Z" } : Jvm.MethodName)) ∈ lw_all := lw_g (lw_at lw_m9 189 rfl) rfl
theorem q2209 : (Jvm.Cond.code ({ cls := "ValleyMassModel", name := "restore", desc := "()Z" } : Jvm.MethodName) prog_14_method_112_code (1 : Nat) (Option.some Jvm.ClassFile.FieldType.boolean)) ∈ lw_all := lw_g (lw_at lw_m9 190 rfl) rfl
theorem q2225 : (Jvm.Cond.castable "ValleyMassModel" "java/lang/Object") ∈ lw_tbl := lw_at lw_m9 206 rfl
theorem in_X4 : ∀ w ∈ wsX40, w ∈ lw_all := lw_in wsX40 [1644, 1646, 1648, 1650, 1652, 1654, 1656, 1658, 1660, 1662, 1664, 1666, 1668, 1670, 1672, 1674, 1676, 1678, 1680, 1682, 1684, 1686, 1688, 1690, 1692, 1694, 1696, 1698, 1700, 1702, 1704, 1706, 1708, 1710, 1712, 1714, 1716, 1718, 1720, 1722, 1724, 1726, 1728, 1730, 1732, 1734, 1736, 1738, 1740, 1742, 1744, 1746, 1748, 1750, 1752, 1754, 1756, 1758, 1760, 1762, 1764, 1766, 1768] (by decide +kernel) (by decide +kernel)

