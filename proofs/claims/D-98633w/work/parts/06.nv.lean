set_option maxRecDepth 100000
/-! ValleyMass -/
def RX1 : String := "ValleyMass"
def TX1 : u_T := fun k => match k with
  | 0 => ("ValleyMass", "valley", "LValleyMass$Valley;", false)
  | 1 => ("ValleyMass", "now", "LValleyMass$State;", false)
  | 2 => ("ValleyMass", "values", "[I", true)
  | 3 => ("ValleyMass", "tape", "[B", true)
  | 4 => ("ValleyMass", "taped", "I", false)
  | 5 => ("ValleyMass", "faultPlace", "I", false)
  | 6 => ("ValleyMass", "refused", "[I", true)
  | 7 => ("ValleyMass", "acts", "Ljava/util/List;", false)
  | 8 => ("ValleyMass", "heard", "Ljava/util/List;", false)
  | 9 => ("ValleyMass", "nowThen", "LValleyMass$State;", false)
  | 10 => ("ValleyMass", "actsThen", "Ljava/util/List;", false)
  | 11 => ("ValleyMass", "heardThen", "Ljava/util/List;", false)
  | _ => ("ValleyMass", "seed", "I", false)
def tyX1 : Nat → FieldType := fun k => match k with
  | 0 => .object "ValleyMass$Valley"
  | 1 => .object "ValleyMass$State"
  | 2 => .array .int
  | 3 => .array .byte
  | 4 => .int
  | 5 => .int
  | 6 => .array .int
  | 7 => .object "java/util/List"
  | 8 => .object "java/util/List"
  | 9 => .object "ValleyMass$State"
  | 10 => .object "java/util/List"
  | 11 => .object "java/util/List"
  | _ => .int
abbrev wsX10 : List Cond := u_ws RX1 TX1 13
theorem nmX1 : ∀ a, a < 13 → ∀ b, b < 13 → a ≠ b → (TX1 a).2.1 ≠ (TX1 b).2.1 := by decide +kernel
theorem tyX1_ok : ∀ k, k < 13 → parseFieldDescriptor (TX1 k).2.2.1 = some (tyX1 k) := by decide +kernel
abbrev cX1_init : ByteArray := prog_1_method_5_code
def yX1_init : MethodName := ⟨RX1, "<init>", "()V"⟩
def dkwX1_init_3 : List UInt8 := [187, 0, 46, 89, 183, 0, 48, 181, 0, 53, 177]
abbrev dktX1_init_3 : List UInt8 := dkwX1_init_3 ++ []
def dkwX1_init_2 : List UInt8 := [181, 0, 39, 42, 6, 188, 10, 181, 0, 43, 42, 187, 0, 46, 89, 183, 0, 48, 181, 0, 49, 42]
abbrev dktX1_init_2 : List UInt8 := dkwX1_init_2 ++ dktX1_init_3
def dkwX1_init_1 : List UInt8 := [181, 0, 27, 42, 16, 6, 188, 10, 181, 0, 31, 42, 17, 2, 188, 188, 8, 181, 0, 35, 42, 2]
abbrev dktX1_init_1 : List UInt8 := dkwX1_init_1 ++ dktX1_init_2
def dkwX1_init_0 : List UInt8 := [42, 183, 0, 10, 42, 187, 0, 13, 89, 183, 0, 15, 181, 0, 16, 42, 187, 0, 22, 89, 42, 183, 0, 24]
abbrev dktX1_init_0 : List UInt8 := dkwX1_init_0 ++ dktX1_init_1
theorem dksX1_init_0 : cX1_init.data.toList.drop 0 = dktX1_init_0 := by decide +kernel
theorem dksX1_init_1 : cX1_init.data.toList.drop 24 = dktX1_init_1 := dk_seg dksX1_init_0 24 rfl rfl
theorem dksX1_init_2 : cX1_init.data.toList.drop 46 = dktX1_init_2 := dk_seg dksX1_init_1 22 rfl rfl
theorem dksX1_init_3 : cX1_init.data.toList.drop 68 = dktX1_init_3 := dk_seg dksX1_init_2 22 rfl rfl
theorem dX1_init_0 : decode cX1_init 0 = .ok (.aload_n 0, 1) := dk_42 (dk_at dksX1_init_0 0 rfl rfl)
theorem dX1_init_1 : decode cX1_init 1 = .ok (.invokespecial 10, 3) := dk_183 0 10 (dk_at dksX1_init_0 1 rfl rfl)
theorem dX1_init_4 : decode cX1_init 4 = .ok (.aload_n 0, 1) := dk_42 (dk_at dksX1_init_0 4 rfl rfl)
theorem dX1_init_5 : decode cX1_init 5 = .ok (.new 13, 3) := dk_187 0 13 (dk_at dksX1_init_0 5 rfl rfl)
theorem dX1_init_8 : decode cX1_init 8 = .ok (.dup, 1) := dk_89 (dk_at dksX1_init_0 8 rfl rfl)
theorem dX1_init_9 : decode cX1_init 9 = .ok (.invokespecial 15, 3) := dk_183 0 15 (dk_at dksX1_init_0 9 rfl rfl)
theorem dX1_init_12 : decode cX1_init 12 = .ok (.putfield 16, 3) := dk_181 0 16 (dk_at dksX1_init_0 12 rfl rfl)
theorem dX1_init_15 : decode cX1_init 15 = .ok (.aload_n 0, 1) := dk_42 (dk_at dksX1_init_0 15 rfl rfl)
theorem dX1_init_16 : decode cX1_init 16 = .ok (.new 22, 3) := dk_187 0 22 (dk_at dksX1_init_0 16 rfl rfl)
theorem dX1_init_19 : decode cX1_init 19 = .ok (.dup, 1) := dk_89 (dk_at dksX1_init_0 19 rfl rfl)
theorem dX1_init_20 : decode cX1_init 20 = .ok (.aload_n 0, 1) := dk_42 (dk_at dksX1_init_0 20 rfl rfl)
theorem dX1_init_21 : decode cX1_init 21 = .ok (.invokespecial 24, 3) := dk_183 0 24 (dk_at dksX1_init_0 21 rfl rfl)
theorem dX1_init_24 : decode cX1_init 24 = .ok (.putfield 27, 3) := dk_181 0 27 (dk_at dksX1_init_1 0 rfl rfl)
theorem dX1_init_27 : decode cX1_init 27 = .ok (.aload_n 0, 1) := dk_42 (dk_at dksX1_init_1 3 rfl rfl)
theorem dX1_init_28 : decode cX1_init 28 = .ok (.bipush 6, 2) := dk_16 6 (dk_at dksX1_init_1 4 rfl rfl)
theorem dX1_init_30 : decode cX1_init 30 = .ok (.newarray .int, 2) := dk_188_10 (dk_at dksX1_init_1 6 rfl rfl)
theorem dX1_init_32 : decode cX1_init 32 = .ok (.putfield 31, 3) := dk_181 0 31 (dk_at dksX1_init_1 8 rfl rfl)
theorem dX1_init_35 : decode cX1_init 35 = .ok (.aload_n 0, 1) := dk_42 (dk_at dksX1_init_1 11 rfl rfl)
theorem dX1_init_36 : decode cX1_init 36 = .ok (.sipush 700, 3) := dk_17 2 188 (dk_at dksX1_init_1 12 rfl rfl)
theorem dX1_init_39 : decode cX1_init 39 = .ok (.newarray .byte, 2) := dk_188_8 (dk_at dksX1_init_1 15 rfl rfl)
theorem dX1_init_41 : decode cX1_init 41 = .ok (.putfield 35, 3) := dk_181 0 35 (dk_at dksX1_init_1 17 rfl rfl)
theorem dX1_init_44 : decode cX1_init 44 = .ok (.aload_n 0, 1) := dk_42 (dk_at dksX1_init_1 20 rfl rfl)
theorem dX1_init_45 : decode cX1_init 45 = .ok (.iconst (-1), 1) := dk_2 (dk_at dksX1_init_1 21 rfl rfl)
theorem dX1_init_46 : decode cX1_init 46 = .ok (.putfield 39, 3) := dk_181 0 39 (dk_at dksX1_init_2 0 rfl rfl)
theorem dX1_init_49 : decode cX1_init 49 = .ok (.aload_n 0, 1) := dk_42 (dk_at dksX1_init_2 3 rfl rfl)
theorem dX1_init_50 : decode cX1_init 50 = .ok (.iconst 3, 1) := dk_6 (dk_at dksX1_init_2 4 rfl rfl)
theorem dX1_init_51 : decode cX1_init 51 = .ok (.newarray .int, 2) := dk_188_10 (dk_at dksX1_init_2 5 rfl rfl)
theorem dX1_init_53 : decode cX1_init 53 = .ok (.putfield 43, 3) := dk_181 0 43 (dk_at dksX1_init_2 7 rfl rfl)
theorem dX1_init_56 : decode cX1_init 56 = .ok (.aload_n 0, 1) := dk_42 (dk_at dksX1_init_2 10 rfl rfl)
theorem dX1_init_57 : decode cX1_init 57 = .ok (.new 46, 3) := dk_187 0 46 (dk_at dksX1_init_2 11 rfl rfl)
theorem dX1_init_60 : decode cX1_init 60 = .ok (.dup, 1) := dk_89 (dk_at dksX1_init_2 14 rfl rfl)
theorem dX1_init_61 : decode cX1_init 61 = .ok (.invokespecial 48, 3) := dk_183 0 48 (dk_at dksX1_init_2 15 rfl rfl)
theorem dX1_init_64 : decode cX1_init 64 = .ok (.putfield 49, 3) := dk_181 0 49 (dk_at dksX1_init_2 18 rfl rfl)
theorem dX1_init_67 : decode cX1_init 67 = .ok (.aload_n 0, 1) := dk_42 (dk_at dksX1_init_2 21 rfl rfl)
theorem dX1_init_68 : decode cX1_init 68 = .ok (.new 46, 3) := dk_187 0 46 (dk_at dksX1_init_3 0 rfl rfl)
theorem dX1_init_71 : decode cX1_init 71 = .ok (.dup, 1) := dk_89 (dk_at dksX1_init_3 3 rfl rfl)
theorem dX1_init_72 : decode cX1_init 72 = .ok (.invokespecial 48, 3) := dk_183 0 48 (dk_at dksX1_init_3 4 rfl rfl)
theorem dX1_init_75 : decode cX1_init 75 = .ok (.putfield 53, 3) := dk_181 0 53 (dk_at dksX1_init_3 7 rfl rfl)
theorem dX1_init_78 : decode cX1_init 78 = .ok (.return_, 1) := dk_177 (dk_at dksX1_init_3 10 rfl rfl)
abbrev cX1_feed : ByteArray := prog_1_method_6_code
def yX1_feed : MethodName := ⟨RX1, "feed", "(IIIII)I"⟩
def dkwX1_feed_5 : List UInt8 := [180, 0, 56, 172]
abbrev dktX1_feed_5 : List UInt8 := dkwX1_feed_5 ++ []
def dkwX1_feed_4 : List UInt8 := [112, 104, 100, 122, 145, 84, 132, 6, 1, 167, 255, 172, 42, 89, 180, 0, 56, 16, 20, 96, 181, 0, 56, 42]
abbrev dktX1_feed_4 : List UInt8 := dkwX1_feed_4 ++ dktX1_feed_5
def dkwX1_feed_3 : List UInt8 := [21, 5, 54, 7, 42, 180, 0, 35, 42, 180, 0, 56, 21, 6, 96, 21, 7, 16, 24, 16, 8, 21, 6, 7]
abbrev dktX1_feed_3 : List UInt8 := dkwX1_feed_3 ++ dktX1_feed_4
def dkwX1_feed_2 : List UInt8 := [21, 6, 16, 12, 162, 0, 7, 29, 167, 0, 17, 21, 6, 16, 16, 162, 0, 8, 21, 4, 167, 0, 5]
abbrev dktX1_feed_2 : List UInt8 := dkwX1_feed_2 ++ dktX1_feed_3
def dkwX1_feed_1 : List UInt8 := [162, 0, 83, 21, 6, 7, 162, 0, 7, 27, 167, 0, 39, 21, 6, 16, 8, 162, 0, 7, 28, 167, 0, 28]
abbrev dktX1_feed_1 : List UInt8 := dkwX1_feed_1 ++ dktX1_feed_2
def dkwX1_feed_0 : List UInt8 := [42, 180, 0, 56, 16, 20, 96, 17, 2, 188, 164, 0, 5, 2, 172, 3, 54, 6, 21, 6, 16, 20]
abbrev dktX1_feed_0 : List UInt8 := dkwX1_feed_0 ++ dktX1_feed_1
theorem dksX1_feed_0 : cX1_feed.data.toList.drop 0 = dktX1_feed_0 := by decide +kernel
theorem dksX1_feed_1 : cX1_feed.data.toList.drop 22 = dktX1_feed_1 := dk_seg dksX1_feed_0 22 rfl rfl
theorem dksX1_feed_2 : cX1_feed.data.toList.drop 46 = dktX1_feed_2 := dk_seg dksX1_feed_1 24 rfl rfl
theorem dksX1_feed_3 : cX1_feed.data.toList.drop 69 = dktX1_feed_3 := dk_seg dksX1_feed_2 23 rfl rfl
theorem dksX1_feed_4 : cX1_feed.data.toList.drop 93 = dktX1_feed_4 := dk_seg dksX1_feed_3 24 rfl rfl
theorem dksX1_feed_5 : cX1_feed.data.toList.drop 117 = dktX1_feed_5 := dk_seg dksX1_feed_4 24 rfl rfl
theorem dX1_feed_0 : decode cX1_feed 0 = .ok (.aload_n 0, 1) := dk_42 (dk_at dksX1_feed_0 0 rfl rfl)
theorem dX1_feed_1 : decode cX1_feed 1 = .ok (.getfield 56, 3) := dk_180 0 56 (dk_at dksX1_feed_0 1 rfl rfl)
theorem dX1_feed_4 : decode cX1_feed 4 = .ok (.bipush 20, 2) := dk_16 20 (dk_at dksX1_feed_0 4 rfl rfl)
theorem dX1_feed_6 : decode cX1_feed 6 = .ok (.iadd, 1) := dk_96 (dk_at dksX1_feed_0 6 rfl rfl)
theorem dX1_feed_7 : decode cX1_feed 7 = .ok (.sipush 700, 3) := dk_17 2 188 (dk_at dksX1_feed_0 7 rfl rfl)
theorem dX1_feed_10 : decode cX1_feed 10 = .ok (.if_icmp .le 5, 3) := dk_164 0 5 (dk_at dksX1_feed_0 10 rfl rfl)
theorem dX1_feed_13 : decode cX1_feed 13 = .ok (.iconst (-1), 1) := dk_2 (dk_at dksX1_feed_0 13 rfl rfl)
theorem dX1_feed_14 : decode cX1_feed 14 = .ok (.ireturn, 1) := dk_172 (dk_at dksX1_feed_0 14 rfl rfl)
theorem dX1_feed_15 : decode cX1_feed 15 = .ok (.iconst 0, 1) := dk_3 (dk_at dksX1_feed_0 15 rfl rfl)
theorem dX1_feed_16 : decode cX1_feed 16 = .ok (.istore 6, 2) := dk_54 6 (dk_at dksX1_feed_0 16 rfl rfl)
theorem dX1_feed_18 : decode cX1_feed 18 = .ok (.iload 6, 2) := dk_21 6 (dk_at dksX1_feed_0 18 rfl rfl)
theorem dX1_feed_20 : decode cX1_feed 20 = .ok (.bipush 20, 2) := dk_16 20 (dk_at dksX1_feed_0 20 rfl rfl)
theorem dX1_feed_22 : decode cX1_feed 22 = .ok (.if_icmp .ge 83, 3) := dk_162 0 83 (dk_at dksX1_feed_1 0 rfl rfl)
theorem dX1_feed_25 : decode cX1_feed 25 = .ok (.iload 6, 2) := dk_21 6 (dk_at dksX1_feed_1 3 rfl rfl)
theorem dX1_feed_27 : decode cX1_feed 27 = .ok (.iconst 4, 1) := dk_7 (dk_at dksX1_feed_1 5 rfl rfl)
theorem dX1_feed_28 : decode cX1_feed 28 = .ok (.if_icmp .ge 7, 3) := dk_162 0 7 (dk_at dksX1_feed_1 6 rfl rfl)
theorem dX1_feed_31 : decode cX1_feed 31 = .ok (.iload_n 1, 1) := dk_27 (dk_at dksX1_feed_1 9 rfl rfl)
theorem dX1_feed_32 : decode cX1_feed 32 = .ok (.goto 39, 3) := dk_167 0 39 (dk_at dksX1_feed_1 10 rfl rfl)
theorem dX1_feed_35 : decode cX1_feed 35 = .ok (.iload 6, 2) := dk_21 6 (dk_at dksX1_feed_1 13 rfl rfl)
theorem dX1_feed_37 : decode cX1_feed 37 = .ok (.bipush 8, 2) := dk_16 8 (dk_at dksX1_feed_1 15 rfl rfl)
theorem dX1_feed_39 : decode cX1_feed 39 = .ok (.if_icmp .ge 7, 3) := dk_162 0 7 (dk_at dksX1_feed_1 17 rfl rfl)
theorem dX1_feed_42 : decode cX1_feed 42 = .ok (.iload_n 2, 1) := dk_28 (dk_at dksX1_feed_1 20 rfl rfl)
theorem dX1_feed_43 : decode cX1_feed 43 = .ok (.goto 28, 3) := dk_167 0 28 (dk_at dksX1_feed_1 21 rfl rfl)
theorem dX1_feed_46 : decode cX1_feed 46 = .ok (.iload 6, 2) := dk_21 6 (dk_at dksX1_feed_2 0 rfl rfl)
theorem dX1_feed_48 : decode cX1_feed 48 = .ok (.bipush 12, 2) := dk_16 12 (dk_at dksX1_feed_2 2 rfl rfl)
theorem dX1_feed_50 : decode cX1_feed 50 = .ok (.if_icmp .ge 7, 3) := dk_162 0 7 (dk_at dksX1_feed_2 4 rfl rfl)
theorem dX1_feed_53 : decode cX1_feed 53 = .ok (.iload_n 3, 1) := dk_29 (dk_at dksX1_feed_2 7 rfl rfl)
theorem dX1_feed_54 : decode cX1_feed 54 = .ok (.goto 17, 3) := dk_167 0 17 (dk_at dksX1_feed_2 8 rfl rfl)
theorem dX1_feed_57 : decode cX1_feed 57 = .ok (.iload 6, 2) := dk_21 6 (dk_at dksX1_feed_2 11 rfl rfl)
theorem dX1_feed_59 : decode cX1_feed 59 = .ok (.bipush 16, 2) := dk_16 16 (dk_at dksX1_feed_2 13 rfl rfl)
theorem dX1_feed_61 : decode cX1_feed 61 = .ok (.if_icmp .ge 8, 3) := dk_162 0 8 (dk_at dksX1_feed_2 15 rfl rfl)
theorem dX1_feed_64 : decode cX1_feed 64 = .ok (.iload 4, 2) := dk_21 4 (dk_at dksX1_feed_2 18 rfl rfl)
theorem dX1_feed_66 : decode cX1_feed 66 = .ok (.goto 5, 3) := dk_167 0 5 (dk_at dksX1_feed_2 20 rfl rfl)
theorem dX1_feed_69 : decode cX1_feed 69 = .ok (.iload 5, 2) := dk_21 5 (dk_at dksX1_feed_3 0 rfl rfl)
theorem dX1_feed_71 : decode cX1_feed 71 = .ok (.istore 7, 2) := dk_54 7 (dk_at dksX1_feed_3 2 rfl rfl)
theorem dX1_feed_73 : decode cX1_feed 73 = .ok (.aload_n 0, 1) := dk_42 (dk_at dksX1_feed_3 4 rfl rfl)
theorem dX1_feed_74 : decode cX1_feed 74 = .ok (.getfield 35, 3) := dk_180 0 35 (dk_at dksX1_feed_3 5 rfl rfl)
theorem dX1_feed_77 : decode cX1_feed 77 = .ok (.aload_n 0, 1) := dk_42 (dk_at dksX1_feed_3 8 rfl rfl)
theorem dX1_feed_78 : decode cX1_feed 78 = .ok (.getfield 56, 3) := dk_180 0 56 (dk_at dksX1_feed_3 9 rfl rfl)
theorem dX1_feed_81 : decode cX1_feed 81 = .ok (.iload 6, 2) := dk_21 6 (dk_at dksX1_feed_3 12 rfl rfl)
theorem dX1_feed_83 : decode cX1_feed 83 = .ok (.iadd, 1) := dk_96 (dk_at dksX1_feed_3 14 rfl rfl)
theorem dX1_feed_84 : decode cX1_feed 84 = .ok (.iload 7, 2) := dk_21 7 (dk_at dksX1_feed_3 15 rfl rfl)
theorem dX1_feed_86 : decode cX1_feed 86 = .ok (.bipush 24, 2) := dk_16 24 (dk_at dksX1_feed_3 17 rfl rfl)
theorem dX1_feed_88 : decode cX1_feed 88 = .ok (.bipush 8, 2) := dk_16 8 (dk_at dksX1_feed_3 19 rfl rfl)
theorem dX1_feed_90 : decode cX1_feed 90 = .ok (.iload 6, 2) := dk_21 6 (dk_at dksX1_feed_3 21 rfl rfl)
theorem dX1_feed_92 : decode cX1_feed 92 = .ok (.iconst 4, 1) := dk_7 (dk_at dksX1_feed_3 23 rfl rfl)
theorem dX1_feed_93 : decode cX1_feed 93 = .ok (.irem, 1) := dk_112 (dk_at dksX1_feed_4 0 rfl rfl)
theorem dX1_feed_94 : decode cX1_feed 94 = .ok (.imul, 1) := dk_104 (dk_at dksX1_feed_4 1 rfl rfl)
theorem dX1_feed_95 : decode cX1_feed 95 = .ok (.isub, 1) := dk_100 (dk_at dksX1_feed_4 2 rfl rfl)
theorem dX1_feed_96 : decode cX1_feed 96 = .ok (.ishr, 1) := dk_122 (dk_at dksX1_feed_4 3 rfl rfl)
theorem dX1_feed_97 : decode cX1_feed 97 = .ok (.i2b, 1) := dk_145 (dk_at dksX1_feed_4 4 rfl rfl)
theorem dX1_feed_98 : decode cX1_feed 98 = .ok (.bastore, 1) := dk_84 (dk_at dksX1_feed_4 5 rfl rfl)
theorem dX1_feed_99 : decode cX1_feed 99 = .ok (.iinc 6 1, 3) := dk_132 6 1 (dk_at dksX1_feed_4 6 rfl rfl)
theorem dX1_feed_102 : decode cX1_feed 102 = .ok (.goto (-84), 3) := dk_167 255 172 (dk_at dksX1_feed_4 9 rfl rfl)
theorem dX1_feed_105 : decode cX1_feed 105 = .ok (.aload_n 0, 1) := dk_42 (dk_at dksX1_feed_4 12 rfl rfl)
theorem dX1_feed_106 : decode cX1_feed 106 = .ok (.dup, 1) := dk_89 (dk_at dksX1_feed_4 13 rfl rfl)
theorem dX1_feed_107 : decode cX1_feed 107 = .ok (.getfield 56, 3) := dk_180 0 56 (dk_at dksX1_feed_4 14 rfl rfl)
theorem dX1_feed_110 : decode cX1_feed 110 = .ok (.bipush 20, 2) := dk_16 20 (dk_at dksX1_feed_4 17 rfl rfl)
theorem dX1_feed_112 : decode cX1_feed 112 = .ok (.iadd, 1) := dk_96 (dk_at dksX1_feed_4 19 rfl rfl)
theorem dX1_feed_113 : decode cX1_feed 113 = .ok (.putfield 56, 3) := dk_181 0 56 (dk_at dksX1_feed_4 20 rfl rfl)
theorem dX1_feed_116 : decode cX1_feed 116 = .ok (.aload_n 0, 1) := dk_42 (dk_at dksX1_feed_4 23 rfl rfl)
theorem dX1_feed_117 : decode cX1_feed 117 = .ok (.getfield 56, 3) := dk_180 0 56 (dk_at dksX1_feed_5 0 rfl rfl)
theorem dX1_feed_120 : decode cX1_feed 120 = .ok (.ireturn, 1) := dk_172 (dk_at dksX1_feed_5 3 rfl rfl)
abbrev cX1_fault : ByteArray := prog_1_method_8_code
def yX1_fault : MethodName := ⟨RX1, "fault", "()I"⟩
theorem dX1_fault_0 : decode cX1_fault 0 = .ok (.aload_n 0, 1) := by decide +kernel
theorem dX1_fault_1 : decode cX1_fault 1 = .ok (.getfield 39, 3) := by decide +kernel
theorem dX1_fault_4 : decode cX1_fault 4 = .ok (.ireturn, 1) := by decide +kernel
abbrev cX1_days : ByteArray := prog_1_method_19_code
def yX1_days : MethodName := ⟨RX1, "days", "(I)I"⟩
def dkwX1_days_2 : List UInt8 := [182, 0, 195, 87, 132, 2, 1, 167, 255, 240, 42, 180, 0, 27, 180, 0, 98, 172]
abbrev dktX1_days_2 : List UInt8 := dkwX1_days_2 ++ []
def dkwX1_days_1 : List UInt8 := [164, 0, 9, 42, 4, 182, 0, 189, 172, 42, 182, 0, 192, 3, 61, 28, 27, 162, 0, 17, 42, 180, 0, 27]
abbrev dktX1_days_1 : List UInt8 := dkwX1_days_1 ++ dktX1_days_2
def dkwX1_days_0 : List UInt8 := [27, 4, 16, 30, 184, 0, 113, 153, 0, 18, 42, 180, 0, 27, 180, 0, 98, 27, 96, 17, 3, 231]
abbrev dktX1_days_0 : List UInt8 := dkwX1_days_0 ++ dktX1_days_1
theorem dksX1_days_0 : cX1_days.data.toList.drop 0 = dktX1_days_0 := by decide +kernel
theorem dksX1_days_1 : cX1_days.data.toList.drop 22 = dktX1_days_1 := dk_seg dksX1_days_0 22 rfl rfl
theorem dksX1_days_2 : cX1_days.data.toList.drop 46 = dktX1_days_2 := dk_seg dksX1_days_1 24 rfl rfl
theorem dX1_days_0 : decode cX1_days 0 = .ok (.iload_n 1, 1) := dk_27 (dk_at dksX1_days_0 0 rfl rfl)
theorem dX1_days_1 : decode cX1_days 1 = .ok (.iconst 1, 1) := dk_4 (dk_at dksX1_days_0 1 rfl rfl)
theorem dX1_days_2 : decode cX1_days 2 = .ok (.bipush 30, 2) := dk_16 30 (dk_at dksX1_days_0 2 rfl rfl)
theorem dX1_days_4 : decode cX1_days 4 = .ok (.invokestatic 113, 3) := dk_184 0 113 (dk_at dksX1_days_0 4 rfl rfl)
theorem dX1_days_7 : decode cX1_days 7 = .ok (.ifCond .eq 18, 3) := dk_153 0 18 (dk_at dksX1_days_0 7 rfl rfl)
theorem dX1_days_10 : decode cX1_days 10 = .ok (.aload_n 0, 1) := dk_42 (dk_at dksX1_days_0 10 rfl rfl)
theorem dX1_days_11 : decode cX1_days 11 = .ok (.getfield 27, 3) := dk_180 0 27 (dk_at dksX1_days_0 11 rfl rfl)
theorem dX1_days_14 : decode cX1_days 14 = .ok (.getfield 98, 3) := dk_180 0 98 (dk_at dksX1_days_0 14 rfl rfl)
theorem dX1_days_17 : decode cX1_days 17 = .ok (.iload_n 1, 1) := dk_27 (dk_at dksX1_days_0 17 rfl rfl)
theorem dX1_days_18 : decode cX1_days 18 = .ok (.iadd, 1) := dk_96 (dk_at dksX1_days_0 18 rfl rfl)
theorem dX1_days_19 : decode cX1_days 19 = .ok (.sipush 999, 3) := dk_17 3 231 (dk_at dksX1_days_0 19 rfl rfl)
theorem dX1_days_22 : decode cX1_days 22 = .ok (.if_icmp .le 9, 3) := dk_164 0 9 (dk_at dksX1_days_1 0 rfl rfl)
theorem dX1_days_25 : decode cX1_days 25 = .ok (.aload_n 0, 1) := dk_42 (dk_at dksX1_days_1 3 rfl rfl)
theorem dX1_days_26 : decode cX1_days 26 = .ok (.iconst 1, 1) := dk_4 (dk_at dksX1_days_1 4 rfl rfl)
theorem dX1_days_27 : decode cX1_days 27 = .ok (.invokevirtual 189, 3) := dk_182 0 189 (dk_at dksX1_days_1 5 rfl rfl)
theorem dX1_days_30 : decode cX1_days 30 = .ok (.ireturn, 1) := dk_172 (dk_at dksX1_days_1 8 rfl rfl)
theorem dX1_days_31 : decode cX1_days 31 = .ok (.aload_n 0, 1) := dk_42 (dk_at dksX1_days_1 9 rfl rfl)
theorem dX1_days_32 : decode cX1_days 32 = .ok (.invokevirtual 192, 3) := dk_182 0 192 (dk_at dksX1_days_1 10 rfl rfl)
theorem dX1_days_35 : decode cX1_days 35 = .ok (.iconst 0, 1) := dk_3 (dk_at dksX1_days_1 13 rfl rfl)
theorem dX1_days_36 : decode cX1_days 36 = .ok (.istore_n 2, 1) := dk_61 (dk_at dksX1_days_1 14 rfl rfl)
theorem dX1_days_37 : decode cX1_days 37 = .ok (.iload_n 2, 1) := dk_28 (dk_at dksX1_days_1 15 rfl rfl)
theorem dX1_days_38 : decode cX1_days 38 = .ok (.iload_n 1, 1) := dk_27 (dk_at dksX1_days_1 16 rfl rfl)
theorem dX1_days_39 : decode cX1_days 39 = .ok (.if_icmp .ge 17, 3) := dk_162 0 17 (dk_at dksX1_days_1 17 rfl rfl)
theorem dX1_days_42 : decode cX1_days 42 = .ok (.aload_n 0, 1) := dk_42 (dk_at dksX1_days_1 20 rfl rfl)
theorem dX1_days_43 : decode cX1_days 43 = .ok (.getfield 27, 3) := dk_180 0 27 (dk_at dksX1_days_1 21 rfl rfl)
theorem dX1_days_46 : decode cX1_days 46 = .ok (.invokevirtual 195, 3) := dk_182 0 195 (dk_at dksX1_days_2 0 rfl rfl)
theorem dX1_days_49 : decode cX1_days 49 = .ok (.pop, 1) := dk_87 (dk_at dksX1_days_2 3 rfl rfl)
theorem dX1_days_50 : decode cX1_days 50 = .ok (.iinc 2 1, 3) := dk_132 2 1 (dk_at dksX1_days_2 4 rfl rfl)
theorem dX1_days_53 : decode cX1_days 53 = .ok (.goto (-16), 3) := dk_167 255 240 (dk_at dksX1_days_2 7 rfl rfl)
theorem dX1_days_56 : decode cX1_days 56 = .ok (.aload_n 0, 1) := dk_42 (dk_at dksX1_days_2 10 rfl rfl)
theorem dX1_days_57 : decode cX1_days 57 = .ok (.getfield 27, 3) := dk_180 0 27 (dk_at dksX1_days_2 11 rfl rfl)
theorem dX1_days_60 : decode cX1_days 60 = .ok (.getfield 98, 3) := dk_180 0 98 (dk_at dksX1_days_2 14 rfl rfl)
theorem dX1_days_63 : decode cX1_days 63 = .ok (.ireturn, 1) := dk_172 (dk_at dksX1_days_2 17 rfl rfl)
abbrev cX1_in : ByteArray := prog_1_method_1_code
def yX1_in : MethodName := ⟨RX1, "in", "(III)Z"⟩
def dkwX1_in_0 : List UInt8 := [26, 27, 161, 0, 12, 26, 28, 163, 0, 7, 4, 167, 0, 4, 3, 172]
abbrev dktX1_in_0 : List UInt8 := dkwX1_in_0 ++ []
theorem dksX1_in_0 : cX1_in.data.toList.drop 0 = dktX1_in_0 := by decide +kernel
theorem dX1_in_0 : decode cX1_in 0 = .ok (.iload_n 0, 1) := dk_26 (dk_at dksX1_in_0 0 rfl rfl)
theorem dX1_in_1 : decode cX1_in 1 = .ok (.iload_n 1, 1) := dk_27 (dk_at dksX1_in_0 1 rfl rfl)
theorem dX1_in_2 : decode cX1_in 2 = .ok (.if_icmp .lt 12, 3) := dk_161 0 12 (dk_at dksX1_in_0 2 rfl rfl)
theorem dX1_in_5 : decode cX1_in 5 = .ok (.iload_n 0, 1) := dk_26 (dk_at dksX1_in_0 5 rfl rfl)
theorem dX1_in_6 : decode cX1_in 6 = .ok (.iload_n 2, 1) := dk_28 (dk_at dksX1_in_0 6 rfl rfl)
theorem dX1_in_7 : decode cX1_in 7 = .ok (.if_icmp .gt 7, 3) := dk_163 0 7 (dk_at dksX1_in_0 7 rfl rfl)
theorem dX1_in_10 : decode cX1_in 10 = .ok (.iconst 1, 1) := dk_4 (dk_at dksX1_in_0 10 rfl rfl)
theorem dX1_in_11 : decode cX1_in 11 = .ok (.goto 4, 3) := dk_167 0 4 (dk_at dksX1_in_0 11 rfl rfl)
theorem dX1_in_14 : decode cX1_in 14 = .ok (.iconst 0, 1) := dk_3 (dk_at dksX1_in_0 14 rfl rfl)
theorem dX1_in_15 : decode cX1_in 15 = .ok (.ireturn, 1) := dk_172 (dk_at dksX1_in_0 15 rfl rfl)
abbrev cX1_refuse : ByteArray := prog_1_method_18_code
def yX1_refuse : MethodName := ⟨RX1, "refuse", "(I)I"⟩
def dkwX1_refuse_0 : List UInt8 := [42, 180, 0, 43, 27, 92, 46, 4, 96, 79, 2, 172]
abbrev dktX1_refuse_0 : List UInt8 := dkwX1_refuse_0 ++ []
theorem dksX1_refuse_0 : cX1_refuse.data.toList.drop 0 = dktX1_refuse_0 := by decide +kernel
theorem dX1_refuse_0 : decode cX1_refuse 0 = .ok (.aload_n 0, 1) := dk_42 (dk_at dksX1_refuse_0 0 rfl rfl)
theorem dX1_refuse_1 : decode cX1_refuse 1 = .ok (.getfield 43, 3) := dk_180 0 43 (dk_at dksX1_refuse_0 1 rfl rfl)
theorem dX1_refuse_4 : decode cX1_refuse 4 = .ok (.iload_n 1, 1) := dk_27 (dk_at dksX1_refuse_0 4 rfl rfl)
theorem dX1_refuse_5 : decode cX1_refuse 5 = .ok (.dup2, 1) := dk_92 (dk_at dksX1_refuse_0 5 rfl rfl)
theorem dX1_refuse_6 : decode cX1_refuse 6 = .ok (.iaload, 1) := dk_46 (dk_at dksX1_refuse_0 6 rfl rfl)
theorem dX1_refuse_7 : decode cX1_refuse 7 = .ok (.iconst 1, 1) := dk_4 (dk_at dksX1_refuse_0 7 rfl rfl)
theorem dX1_refuse_8 : decode cX1_refuse 8 = .ok (.iadd, 1) := dk_96 (dk_at dksX1_refuse_0 8 rfl rfl)
theorem dX1_refuse_9 : decode cX1_refuse 9 = .ok (.iastore, 1) := dk_79 (dk_at dksX1_refuse_0 9 rfl rfl)
theorem dX1_refuse_10 : decode cX1_refuse 10 = .ok (.iconst (-1), 1) := dk_2 (dk_at dksX1_refuse_0 10 rfl rfl)
theorem dX1_refuse_11 : decode cX1_refuse 11 = .ok (.ireturn, 1) := dk_172 (dk_at dksX1_refuse_0 11 rfl rfl)
abbrev cX1_keep : ByteArray := prog_1_method_17_code
def yX1_keep : MethodName := ⟨RX1, "keep", "()V"⟩
def dkwX1_keep_1 : List UInt8 := [185, 0, 86, 1, 0, 16, 40, 164, 0, 14, 42, 180, 0, 49, 3, 185, 0, 186, 2, 0, 87, 177]
abbrev dktX1_keep_1 : List UInt8 := dkwX1_keep_1 ++ []
def dkwX1_keep_0 : List UInt8 := [42, 180, 0, 49, 42, 180, 0, 27, 182, 0, 178, 185, 0, 182, 2, 0, 87, 42, 180, 0, 49]
abbrev dktX1_keep_0 : List UInt8 := dkwX1_keep_0 ++ dktX1_keep_1
theorem dksX1_keep_0 : cX1_keep.data.toList.drop 0 = dktX1_keep_0 := by decide +kernel
theorem dksX1_keep_1 : cX1_keep.data.toList.drop 21 = dktX1_keep_1 := dk_seg dksX1_keep_0 21 rfl rfl
theorem dX1_keep_0 : decode cX1_keep 0 = .ok (.aload_n 0, 1) := dk_42 (dk_at dksX1_keep_0 0 rfl rfl)
theorem dX1_keep_1 : decode cX1_keep 1 = .ok (.getfield 49, 3) := dk_180 0 49 (dk_at dksX1_keep_0 1 rfl rfl)
theorem dX1_keep_4 : decode cX1_keep 4 = .ok (.aload_n 0, 1) := dk_42 (dk_at dksX1_keep_0 4 rfl rfl)
theorem dX1_keep_5 : decode cX1_keep 5 = .ok (.getfield 27, 3) := dk_180 0 27 (dk_at dksX1_keep_0 5 rfl rfl)
theorem dX1_keep_8 : decode cX1_keep 8 = .ok (.invokevirtual 178, 3) := dk_182 0 178 (dk_at dksX1_keep_0 8 rfl rfl)
theorem dX1_keep_11 : decode cX1_keep 11 = .ok (.invokeinterface 182 2, 5) := by decide +kernel
theorem dX1_keep_16 : decode cX1_keep 16 = .ok (.pop, 1) := dk_87 (dk_at dksX1_keep_0 16 rfl rfl)
theorem dX1_keep_17 : decode cX1_keep 17 = .ok (.aload_n 0, 1) := dk_42 (dk_at dksX1_keep_0 17 rfl rfl)
theorem dX1_keep_18 : decode cX1_keep 18 = .ok (.getfield 49, 3) := dk_180 0 49 (dk_at dksX1_keep_0 18 rfl rfl)
theorem dX1_keep_21 : decode cX1_keep 21 = .ok (.invokeinterface 86 1, 5) := by decide +kernel
theorem dX1_keep_26 : decode cX1_keep 26 = .ok (.bipush 40, 2) := dk_16 40 (dk_at dksX1_keep_1 5 rfl rfl)
theorem dX1_keep_28 : decode cX1_keep 28 = .ok (.if_icmp .le 14, 3) := dk_164 0 14 (dk_at dksX1_keep_1 7 rfl rfl)
theorem dX1_keep_31 : decode cX1_keep 31 = .ok (.aload_n 0, 1) := dk_42 (dk_at dksX1_keep_1 10 rfl rfl)
theorem dX1_keep_32 : decode cX1_keep 32 = .ok (.getfield 49, 3) := dk_180 0 49 (dk_at dksX1_keep_1 11 rfl rfl)
theorem dX1_keep_35 : decode cX1_keep 35 = .ok (.iconst 0, 1) := dk_3 (dk_at dksX1_keep_1 14 rfl rfl)
theorem dX1_keep_36 : decode cX1_keep 36 = .ok (.invokeinterface 186 2, 5) := by decide +kernel
theorem dX1_keep_41 : decode cX1_keep 41 = .ok (.pop, 1) := dk_87 (dk_at dksX1_keep_1 20 rfl rfl)
theorem dX1_keep_42 : decode cX1_keep 42 = .ok (.return_, 1) := dk_177 (dk_at dksX1_keep_1 21 rfl rfl)
abbrev cX1_isOf : ByteArray := prog_1_method_4_code
def yX1_isOf : MethodName := ⟨RX1, "isOf", "(II)Z"⟩
def dkwX1_isOf_0 : List UInt8 := [26, 27, 122, 4, 126, 4, 160, 0, 7, 4, 167, 0, 4, 3, 172]
abbrev dktX1_isOf_0 : List UInt8 := dkwX1_isOf_0 ++ []
theorem dksX1_isOf_0 : cX1_isOf.data.toList.drop 0 = dktX1_isOf_0 := by decide +kernel
theorem dX1_isOf_0 : decode cX1_isOf 0 = .ok (.iload_n 0, 1) := dk_26 (dk_at dksX1_isOf_0 0 rfl rfl)
theorem dX1_isOf_1 : decode cX1_isOf 1 = .ok (.iload_n 1, 1) := dk_27 (dk_at dksX1_isOf_0 1 rfl rfl)
theorem dX1_isOf_2 : decode cX1_isOf 2 = .ok (.ishr, 1) := dk_122 (dk_at dksX1_isOf_0 2 rfl rfl)
theorem dX1_isOf_3 : decode cX1_isOf 3 = .ok (.iconst 1, 1) := dk_4 (dk_at dksX1_isOf_0 3 rfl rfl)
theorem dX1_isOf_4 : decode cX1_isOf 4 = .ok (.iand, 1) := dk_126 (dk_at dksX1_isOf_0 4 rfl rfl)
theorem dX1_isOf_5 : decode cX1_isOf 5 = .ok (.iconst 1, 1) := dk_4 (dk_at dksX1_isOf_0 5 rfl rfl)
theorem dX1_isOf_6 : decode cX1_isOf 6 = .ok (.if_icmp .ne 7, 3) := dk_160 0 7 (dk_at dksX1_isOf_0 6 rfl rfl)
theorem dX1_isOf_9 : decode cX1_isOf 9 = .ok (.iconst 1, 1) := dk_4 (dk_at dksX1_isOf_0 9 rfl rfl)
theorem dX1_isOf_10 : decode cX1_isOf 10 = .ok (.goto 4, 3) := dk_167 0 4 (dk_at dksX1_isOf_0 10 rfl rfl)
theorem dX1_isOf_13 : decode cX1_isOf 13 = .ok (.iconst 0, 1) := dk_3 (dk_at dksX1_isOf_0 13 rfl rfl)
theorem dX1_isOf_14 : decode cX1_isOf 14 = .ok (.ireturn, 1) := dk_172 (dk_at dksX1_isOf_0 14 rfl rfl)
abbrev cX1_undo : ByteArray := prog_1_method_25_code
def yX1_undo : MethodName := ⟨RX1, "undo", "()I"⟩
def dkwX1_undo_2 : List UInt8 := [180, 0, 49, 185, 0, 86, 1, 0, 172]
abbrev dktX1_undo_2 : List UInt8 := dkwX1_undo_2 ++ []
def dkwX1_undo_1 : List UInt8 := [185, 0, 86, 1, 0, 4, 100, 185, 0, 186, 2, 0, 192, 0, 22, 182, 0, 178, 181, 0, 27, 42]
abbrev dktX1_undo_1 : List UInt8 := dkwX1_undo_1 ++ dktX1_undo_2
def dkwX1_undo_0 : List UInt8 := [42, 180, 0, 49, 185, 0, 201, 1, 0, 153, 0, 5, 2, 172, 42, 42, 180, 0, 49, 42, 180, 0, 49]
abbrev dktX1_undo_0 : List UInt8 := dkwX1_undo_0 ++ dktX1_undo_1
theorem dksX1_undo_0 : cX1_undo.data.toList.drop 0 = dktX1_undo_0 := by decide +kernel
theorem dksX1_undo_1 : cX1_undo.data.toList.drop 23 = dktX1_undo_1 := dk_seg dksX1_undo_0 23 rfl rfl
theorem dksX1_undo_2 : cX1_undo.data.toList.drop 45 = dktX1_undo_2 := dk_seg dksX1_undo_1 22 rfl rfl
theorem dX1_undo_0 : decode cX1_undo 0 = .ok (.aload_n 0, 1) := dk_42 (dk_at dksX1_undo_0 0 rfl rfl)
theorem dX1_undo_1 : decode cX1_undo 1 = .ok (.getfield 49, 3) := dk_180 0 49 (dk_at dksX1_undo_0 1 rfl rfl)
theorem dX1_undo_4 : decode cX1_undo 4 = .ok (.invokeinterface 201 1, 5) := by decide +kernel
theorem dX1_undo_9 : decode cX1_undo 9 = .ok (.ifCond .eq 5, 3) := dk_153 0 5 (dk_at dksX1_undo_0 9 rfl rfl)
theorem dX1_undo_12 : decode cX1_undo 12 = .ok (.iconst (-1), 1) := dk_2 (dk_at dksX1_undo_0 12 rfl rfl)
theorem dX1_undo_13 : decode cX1_undo 13 = .ok (.ireturn, 1) := dk_172 (dk_at dksX1_undo_0 13 rfl rfl)
theorem dX1_undo_14 : decode cX1_undo 14 = .ok (.aload_n 0, 1) := dk_42 (dk_at dksX1_undo_0 14 rfl rfl)
theorem dX1_undo_15 : decode cX1_undo 15 = .ok (.aload_n 0, 1) := dk_42 (dk_at dksX1_undo_0 15 rfl rfl)
theorem dX1_undo_16 : decode cX1_undo 16 = .ok (.getfield 49, 3) := dk_180 0 49 (dk_at dksX1_undo_0 16 rfl rfl)
theorem dX1_undo_19 : decode cX1_undo 19 = .ok (.aload_n 0, 1) := dk_42 (dk_at dksX1_undo_0 19 rfl rfl)
theorem dX1_undo_20 : decode cX1_undo 20 = .ok (.getfield 49, 3) := dk_180 0 49 (dk_at dksX1_undo_0 20 rfl rfl)
theorem dX1_undo_23 : decode cX1_undo 23 = .ok (.invokeinterface 86 1, 5) := by decide +kernel
theorem dX1_undo_28 : decode cX1_undo 28 = .ok (.iconst 1, 1) := dk_4 (dk_at dksX1_undo_1 5 rfl rfl)
theorem dX1_undo_29 : decode cX1_undo 29 = .ok (.isub, 1) := dk_100 (dk_at dksX1_undo_1 6 rfl rfl)
theorem dX1_undo_30 : decode cX1_undo 30 = .ok (.invokeinterface 186 2, 5) := by decide +kernel
theorem dX1_undo_35 : decode cX1_undo 35 = .ok (.checkcast 22, 3) := dk_192 0 22 (dk_at dksX1_undo_1 12 rfl rfl)
theorem dX1_undo_38 : decode cX1_undo 38 = .ok (.invokevirtual 178, 3) := dk_182 0 178 (dk_at dksX1_undo_1 15 rfl rfl)
theorem dX1_undo_41 : decode cX1_undo 41 = .ok (.putfield 27, 3) := dk_181 0 27 (dk_at dksX1_undo_1 18 rfl rfl)
theorem dX1_undo_44 : decode cX1_undo 44 = .ok (.aload_n 0, 1) := dk_42 (dk_at dksX1_undo_1 21 rfl rfl)
theorem dX1_undo_45 : decode cX1_undo 45 = .ok (.getfield 49, 3) := dk_180 0 49 (dk_at dksX1_undo_2 0 rfl rfl)
theorem dX1_undo_48 : decode cX1_undo 48 = .ok (.invokeinterface 86 1, 5) := by decide +kernel
theorem dX1_undo_53 : decode cX1_undo 53 = .ok (.ireturn, 1) := dk_172 (dk_at dksX1_undo_2 8 rfl rfl)
abbrev cX1_keys : ByteArray := prog_1_method_31_code
def yX1_keys : MethodName := ⟨RX1, "keys", "()I"⟩
def dkwX1_keys_3 : List UInt8 := [28, 162, 0, 10, 29, 4, 21, 4, 120, 128, 62, 132, 4, 1, 167, 255, 198, 29, 172]
abbrev dktX1_keys_3 : List UInt8 := dkwX1_keys_3 ++ []
def dkwX1_keys_2 : List UInt8 := [184, 0, 209, 153, 0, 32, 42, 180, 0, 16, 27, 4, 21, 4, 120, 2, 130, 126, 182, 0, 111, 184, 0, 220]
abbrev dktX1_keys_2 : List UInt8 := dkwX1_keys_2 ++ dktX1_keys_3
def dkwX1_keys_1 : List UInt8 := [54, 4, 21, 4, 42, 180, 0, 16, 180, 0, 83, 185, 0, 86, 1, 0, 162, 0, 47, 27, 21, 4]
abbrev dktX1_keys_1 : List UInt8 := dkwX1_keys_1 ++ dktX1_keys_2
def dkwX1_keys_0 : List UInt8 := [42, 180, 0, 27, 182, 0, 104, 60, 42, 180, 0, 16, 27, 182, 0, 111, 184, 0, 220, 61, 3, 62, 3]
abbrev dktX1_keys_0 : List UInt8 := dkwX1_keys_0 ++ dktX1_keys_1
theorem dksX1_keys_0 : cX1_keys.data.toList.drop 0 = dktX1_keys_0 := by decide +kernel
theorem dksX1_keys_1 : cX1_keys.data.toList.drop 23 = dktX1_keys_1 := dk_seg dksX1_keys_0 23 rfl rfl
theorem dksX1_keys_2 : cX1_keys.data.toList.drop 45 = dktX1_keys_2 := dk_seg dksX1_keys_1 22 rfl rfl
theorem dksX1_keys_3 : cX1_keys.data.toList.drop 69 = dktX1_keys_3 := dk_seg dksX1_keys_2 24 rfl rfl
theorem dX1_keys_0 : decode cX1_keys 0 = .ok (.aload_n 0, 1) := dk_42 (dk_at dksX1_keys_0 0 rfl rfl)
theorem dX1_keys_1 : decode cX1_keys 1 = .ok (.getfield 27, 3) := dk_180 0 27 (dk_at dksX1_keys_0 1 rfl rfl)
theorem dX1_keys_4 : decode cX1_keys 4 = .ok (.invokevirtual 104, 3) := dk_182 0 104 (dk_at dksX1_keys_0 4 rfl rfl)
theorem dX1_keys_7 : decode cX1_keys 7 = .ok (.istore_n 1, 1) := dk_60 (dk_at dksX1_keys_0 7 rfl rfl)
theorem dX1_keys_8 : decode cX1_keys 8 = .ok (.aload_n 0, 1) := dk_42 (dk_at dksX1_keys_0 8 rfl rfl)
theorem dX1_keys_9 : decode cX1_keys 9 = .ok (.getfield 16, 3) := dk_180 0 16 (dk_at dksX1_keys_0 9 rfl rfl)
theorem dX1_keys_12 : decode cX1_keys 12 = .ok (.iload_n 1, 1) := dk_27 (dk_at dksX1_keys_0 12 rfl rfl)
theorem dX1_keys_13 : decode cX1_keys 13 = .ok (.invokevirtual 111, 3) := dk_182 0 111 (dk_at dksX1_keys_0 13 rfl rfl)
theorem dX1_keys_16 : decode cX1_keys 16 = .ok (.invokestatic 220, 3) := dk_184 0 220 (dk_at dksX1_keys_0 16 rfl rfl)
theorem dX1_keys_19 : decode cX1_keys 19 = .ok (.istore_n 2, 1) := dk_61 (dk_at dksX1_keys_0 19 rfl rfl)
theorem dX1_keys_20 : decode cX1_keys 20 = .ok (.iconst 0, 1) := dk_3 (dk_at dksX1_keys_0 20 rfl rfl)
theorem dX1_keys_21 : decode cX1_keys 21 = .ok (.istore_n 3, 1) := dk_62 (dk_at dksX1_keys_0 21 rfl rfl)
theorem dX1_keys_22 : decode cX1_keys 22 = .ok (.iconst 0, 1) := dk_3 (dk_at dksX1_keys_0 22 rfl rfl)
theorem dX1_keys_23 : decode cX1_keys 23 = .ok (.istore 4, 2) := dk_54 4 (dk_at dksX1_keys_1 0 rfl rfl)
theorem dX1_keys_25 : decode cX1_keys 25 = .ok (.iload 4, 2) := dk_21 4 (dk_at dksX1_keys_1 2 rfl rfl)
theorem dX1_keys_27 : decode cX1_keys 27 = .ok (.aload_n 0, 1) := dk_42 (dk_at dksX1_keys_1 4 rfl rfl)
theorem dX1_keys_28 : decode cX1_keys 28 = .ok (.getfield 16, 3) := dk_180 0 16 (dk_at dksX1_keys_1 5 rfl rfl)
theorem dX1_keys_31 : decode cX1_keys 31 = .ok (.getfield 83, 3) := dk_180 0 83 (dk_at dksX1_keys_1 8 rfl rfl)
theorem dX1_keys_34 : decode cX1_keys 34 = .ok (.invokeinterface 86 1, 5) := by decide +kernel
theorem dX1_keys_39 : decode cX1_keys 39 = .ok (.if_icmp .ge 47, 3) := dk_162 0 47 (dk_at dksX1_keys_1 16 rfl rfl)
theorem dX1_keys_42 : decode cX1_keys 42 = .ok (.iload_n 1, 1) := dk_27 (dk_at dksX1_keys_1 19 rfl rfl)
theorem dX1_keys_43 : decode cX1_keys 43 = .ok (.iload 4, 2) := dk_21 4 (dk_at dksX1_keys_1 20 rfl rfl)
theorem dX1_keys_45 : decode cX1_keys 45 = .ok (.invokestatic 209, 3) := dk_184 0 209 (dk_at dksX1_keys_2 0 rfl rfl)
theorem dX1_keys_48 : decode cX1_keys 48 = .ok (.ifCond .eq 32, 3) := dk_153 0 32 (dk_at dksX1_keys_2 3 rfl rfl)
theorem dX1_keys_51 : decode cX1_keys 51 = .ok (.aload_n 0, 1) := dk_42 (dk_at dksX1_keys_2 6 rfl rfl)
theorem dX1_keys_52 : decode cX1_keys 52 = .ok (.getfield 16, 3) := dk_180 0 16 (dk_at dksX1_keys_2 7 rfl rfl)
theorem dX1_keys_55 : decode cX1_keys 55 = .ok (.iload_n 1, 1) := dk_27 (dk_at dksX1_keys_2 10 rfl rfl)
theorem dX1_keys_56 : decode cX1_keys 56 = .ok (.iconst 1, 1) := dk_4 (dk_at dksX1_keys_2 11 rfl rfl)
theorem dX1_keys_57 : decode cX1_keys 57 = .ok (.iload 4, 2) := dk_21 4 (dk_at dksX1_keys_2 12 rfl rfl)
theorem dX1_keys_59 : decode cX1_keys 59 = .ok (.ishl, 1) := dk_120 (dk_at dksX1_keys_2 14 rfl rfl)
theorem dX1_keys_60 : decode cX1_keys 60 = .ok (.iconst (-1), 1) := dk_2 (dk_at dksX1_keys_2 15 rfl rfl)
theorem dX1_keys_61 : decode cX1_keys 61 = .ok (.ixor, 1) := dk_130 (dk_at dksX1_keys_2 16 rfl rfl)
theorem dX1_keys_62 : decode cX1_keys 62 = .ok (.iand, 1) := dk_126 (dk_at dksX1_keys_2 17 rfl rfl)
theorem dX1_keys_63 : decode cX1_keys 63 = .ok (.invokevirtual 111, 3) := dk_182 0 111 (dk_at dksX1_keys_2 18 rfl rfl)
theorem dX1_keys_66 : decode cX1_keys 66 = .ok (.invokestatic 220, 3) := dk_184 0 220 (dk_at dksX1_keys_2 21 rfl rfl)
theorem dX1_keys_69 : decode cX1_keys 69 = .ok (.iload_n 2, 1) := dk_28 (dk_at dksX1_keys_3 0 rfl rfl)
theorem dX1_keys_70 : decode cX1_keys 70 = .ok (.if_icmp .ge 10, 3) := dk_162 0 10 (dk_at dksX1_keys_3 1 rfl rfl)
theorem dX1_keys_73 : decode cX1_keys 73 = .ok (.iload_n 3, 1) := dk_29 (dk_at dksX1_keys_3 4 rfl rfl)
theorem dX1_keys_74 : decode cX1_keys 74 = .ok (.iconst 1, 1) := dk_4 (dk_at dksX1_keys_3 5 rfl rfl)
theorem dX1_keys_75 : decode cX1_keys 75 = .ok (.iload 4, 2) := dk_21 4 (dk_at dksX1_keys_3 6 rfl rfl)
theorem dX1_keys_77 : decode cX1_keys 77 = .ok (.ishl, 1) := dk_120 (dk_at dksX1_keys_3 8 rfl rfl)
theorem dX1_keys_78 : decode cX1_keys 78 = .ok (.ior, 1) := dk_128 (dk_at dksX1_keys_3 9 rfl rfl)
theorem dX1_keys_79 : decode cX1_keys 79 = .ok (.istore_n 3, 1) := dk_62 (dk_at dksX1_keys_3 10 rfl rfl)
theorem dX1_keys_80 : decode cX1_keys 80 = .ok (.iinc 4 1, 3) := dk_132 4 1 (dk_at dksX1_keys_3 11 rfl rfl)
theorem dX1_keys_83 : decode cX1_keys 83 = .ok (.goto (-58), 3) := dk_167 255 198 (dk_at dksX1_keys_3 14 rfl rfl)
theorem dX1_keys_86 : decode cX1_keys 86 = .ok (.iload_n 3, 1) := dk_29 (dk_at dksX1_keys_3 17 rfl rfl)
theorem dX1_keys_87 : decode cX1_keys 87 = .ok (.ireturn, 1) := dk_172 (dk_at dksX1_keys_3 18 rfl rfl)
abbrev cX1_peace : ByteArray := prog_1_method_33_code
def yX1_peace : MethodName := ⟨RX1, "peace", "()I"⟩
def dkwX1_peace_1 : List UInt8 := [132, 2, 1, 167, 255, 240, 28, 172]
abbrev dktX1_peace_1 : List UInt8 := dkwX1_peace_1 ++ []
def dkwX1_peace_0 : List UInt8 := [42, 180, 0, 27, 182, 0, 178, 76, 3, 61, 28, 16, 99, 162, 0, 16, 43, 182, 0, 195, 154, 0, 9]
abbrev dktX1_peace_0 : List UInt8 := dkwX1_peace_0 ++ dktX1_peace_1
theorem dksX1_peace_0 : cX1_peace.data.toList.drop 0 = dktX1_peace_0 := by decide +kernel
theorem dksX1_peace_1 : cX1_peace.data.toList.drop 23 = dktX1_peace_1 := dk_seg dksX1_peace_0 23 rfl rfl
theorem dX1_peace_0 : decode cX1_peace 0 = .ok (.aload_n 0, 1) := dk_42 (dk_at dksX1_peace_0 0 rfl rfl)
theorem dX1_peace_1 : decode cX1_peace 1 = .ok (.getfield 27, 3) := dk_180 0 27 (dk_at dksX1_peace_0 1 rfl rfl)
theorem dX1_peace_4 : decode cX1_peace 4 = .ok (.invokevirtual 178, 3) := dk_182 0 178 (dk_at dksX1_peace_0 4 rfl rfl)
theorem dX1_peace_7 : decode cX1_peace 7 = .ok (.astore_n 1, 1) := dk_76 (dk_at dksX1_peace_0 7 rfl rfl)
theorem dX1_peace_8 : decode cX1_peace 8 = .ok (.iconst 0, 1) := dk_3 (dk_at dksX1_peace_0 8 rfl rfl)
theorem dX1_peace_9 : decode cX1_peace 9 = .ok (.istore_n 2, 1) := dk_61 (dk_at dksX1_peace_0 9 rfl rfl)
theorem dX1_peace_10 : decode cX1_peace 10 = .ok (.iload_n 2, 1) := dk_28 (dk_at dksX1_peace_0 10 rfl rfl)
theorem dX1_peace_11 : decode cX1_peace 11 = .ok (.bipush 99, 2) := dk_16 99 (dk_at dksX1_peace_0 11 rfl rfl)
theorem dX1_peace_13 : decode cX1_peace 13 = .ok (.if_icmp .ge 16, 3) := dk_162 0 16 (dk_at dksX1_peace_0 13 rfl rfl)
theorem dX1_peace_16 : decode cX1_peace 16 = .ok (.aload_n 1, 1) := dk_43 (dk_at dksX1_peace_0 16 rfl rfl)
theorem dX1_peace_17 : decode cX1_peace 17 = .ok (.invokevirtual 195, 3) := dk_182 0 195 (dk_at dksX1_peace_0 17 rfl rfl)
theorem dX1_peace_20 : decode cX1_peace 20 = .ok (.ifCond .ne 9, 3) := dk_154 0 9 (dk_at dksX1_peace_0 20 rfl rfl)
theorem dX1_peace_23 : decode cX1_peace 23 = .ok (.iinc 2 1, 3) := dk_132 2 1 (dk_at dksX1_peace_1 0 rfl rfl)
theorem dX1_peace_26 : decode cX1_peace 26 = .ok (.goto (-16), 3) := dk_167 255 240 (dk_at dksX1_peace_1 3 rfl rfl)
theorem dX1_peace_29 : decode cX1_peace 29 = .ok (.iload_n 2, 1) := dk_28 (dk_at dksX1_peace_1 6 rfl rfl)
theorem dX1_peace_30 : decode cX1_peace 30 = .ok (.ireturn, 1) := dk_172 (dk_at dksX1_peace_1 7 rfl rfl)
abbrev cX1_silent : ByteArray := prog_1_method_34_code
def yX1_silent : MethodName := ⟨RX1, "silent", "()I"⟩
def dkwX1_silent_2 : List UInt8 := [132, 2, 1, 167, 255, 216, 2, 172]
abbrev dktX1_silent_2 : List UInt8 := dkwX1_silent_2 ++ []
def dkwX1_silent_1 : List UInt8 := [180, 0, 16, 43, 182, 0, 104, 182, 0, 111, 154, 0, 8, 43, 180, 0, 98, 172, 43, 182, 0, 195, 87]
abbrev dktX1_silent_1 : List UInt8 := dkwX1_silent_1 ++ dktX1_silent_2
def dkwX1_silent_0 : List UInt8 := [42, 180, 0, 27, 182, 0, 178, 76, 3, 61, 28, 16, 99, 162, 0, 40, 43, 182, 0, 241, 153, 0, 22, 42]
abbrev dktX1_silent_0 : List UInt8 := dkwX1_silent_0 ++ dktX1_silent_1
theorem dksX1_silent_0 : cX1_silent.data.toList.drop 0 = dktX1_silent_0 := by decide +kernel
theorem dksX1_silent_1 : cX1_silent.data.toList.drop 24 = dktX1_silent_1 := dk_seg dksX1_silent_0 24 rfl rfl
theorem dksX1_silent_2 : cX1_silent.data.toList.drop 47 = dktX1_silent_2 := dk_seg dksX1_silent_1 23 rfl rfl
theorem dX1_silent_0 : decode cX1_silent 0 = .ok (.aload_n 0, 1) := dk_42 (dk_at dksX1_silent_0 0 rfl rfl)
theorem dX1_silent_1 : decode cX1_silent 1 = .ok (.getfield 27, 3) := dk_180 0 27 (dk_at dksX1_silent_0 1 rfl rfl)
theorem dX1_silent_4 : decode cX1_silent 4 = .ok (.invokevirtual 178, 3) := dk_182 0 178 (dk_at dksX1_silent_0 4 rfl rfl)
theorem dX1_silent_7 : decode cX1_silent 7 = .ok (.astore_n 1, 1) := dk_76 (dk_at dksX1_silent_0 7 rfl rfl)
theorem dX1_silent_8 : decode cX1_silent 8 = .ok (.iconst 0, 1) := dk_3 (dk_at dksX1_silent_0 8 rfl rfl)
theorem dX1_silent_9 : decode cX1_silent 9 = .ok (.istore_n 2, 1) := dk_61 (dk_at dksX1_silent_0 9 rfl rfl)
theorem dX1_silent_10 : decode cX1_silent 10 = .ok (.iload_n 2, 1) := dk_28 (dk_at dksX1_silent_0 10 rfl rfl)
theorem dX1_silent_11 : decode cX1_silent 11 = .ok (.bipush 99, 2) := dk_16 99 (dk_at dksX1_silent_0 11 rfl rfl)
theorem dX1_silent_13 : decode cX1_silent 13 = .ok (.if_icmp .ge 40, 3) := dk_162 0 40 (dk_at dksX1_silent_0 13 rfl rfl)
theorem dX1_silent_16 : decode cX1_silent 16 = .ok (.aload_n 1, 1) := dk_43 (dk_at dksX1_silent_0 16 rfl rfl)
theorem dX1_silent_17 : decode cX1_silent 17 = .ok (.invokevirtual 241, 3) := dk_182 0 241 (dk_at dksX1_silent_0 17 rfl rfl)
theorem dX1_silent_20 : decode cX1_silent 20 = .ok (.ifCond .eq 22, 3) := dk_153 0 22 (dk_at dksX1_silent_0 20 rfl rfl)
theorem dX1_silent_23 : decode cX1_silent 23 = .ok (.aload_n 0, 1) := dk_42 (dk_at dksX1_silent_0 23 rfl rfl)
theorem dX1_silent_24 : decode cX1_silent 24 = .ok (.getfield 16, 3) := dk_180 0 16 (dk_at dksX1_silent_1 0 rfl rfl)
theorem dX1_silent_27 : decode cX1_silent 27 = .ok (.aload_n 1, 1) := dk_43 (dk_at dksX1_silent_1 3 rfl rfl)
theorem dX1_silent_28 : decode cX1_silent 28 = .ok (.invokevirtual 104, 3) := dk_182 0 104 (dk_at dksX1_silent_1 4 rfl rfl)
theorem dX1_silent_31 : decode cX1_silent 31 = .ok (.invokevirtual 111, 3) := dk_182 0 111 (dk_at dksX1_silent_1 7 rfl rfl)
theorem dX1_silent_34 : decode cX1_silent 34 = .ok (.ifCond .ne 8, 3) := dk_154 0 8 (dk_at dksX1_silent_1 10 rfl rfl)
theorem dX1_silent_37 : decode cX1_silent 37 = .ok (.aload_n 1, 1) := dk_43 (dk_at dksX1_silent_1 13 rfl rfl)
theorem dX1_silent_38 : decode cX1_silent 38 = .ok (.getfield 98, 3) := dk_180 0 98 (dk_at dksX1_silent_1 14 rfl rfl)
theorem dX1_silent_41 : decode cX1_silent 41 = .ok (.ireturn, 1) := dk_172 (dk_at dksX1_silent_1 17 rfl rfl)
theorem dX1_silent_42 : decode cX1_silent 42 = .ok (.aload_n 1, 1) := dk_43 (dk_at dksX1_silent_1 18 rfl rfl)
theorem dX1_silent_43 : decode cX1_silent 43 = .ok (.invokevirtual 195, 3) := dk_182 0 195 (dk_at dksX1_silent_1 19 rfl rfl)
theorem dX1_silent_46 : decode cX1_silent 46 = .ok (.pop, 1) := dk_87 (dk_at dksX1_silent_1 22 rfl rfl)
theorem dX1_silent_47 : decode cX1_silent 47 = .ok (.iinc 2 1, 3) := dk_132 2 1 (dk_at dksX1_silent_2 0 rfl rfl)
theorem dX1_silent_50 : decode cX1_silent 50 = .ok (.goto (-40), 3) := dk_167 255 216 (dk_at dksX1_silent_2 3 rfl rfl)
theorem dX1_silent_53 : decode cX1_silent 53 = .ok (.iconst (-1), 1) := dk_2 (dk_at dksX1_silent_2 6 rfl rfl)
theorem dX1_silent_54 : decode cX1_silent 54 = .ok (.ireturn, 1) := dk_172 (dk_at dksX1_silent_2 7 rfl rfl)
abbrev cX1_duet : ByteArray := prog_1_method_37_code
def yX1_duet : MethodName := ⟨RX1, "duet", "()I"⟩
def dkwX1_duet_3 : List UInt8 := [167, 255, 190, 2, 172]
abbrev dktX1_duet_3 : List UInt8 := dkwX1_duet_3 ++ []
def dkwX1_duet_2 : List UInt8 := [182, 0, 244, 153, 0, 10, 16, 10, 27, 104, 28, 96, 172, 132, 2, 1, 167, 255, 216, 132, 1, 1]
abbrev dktX1_duet_2 : List UInt8 := dkwX1_duet_2 ++ dktX1_duet_3
def dkwX1_duet_1 : List UInt8 := [180, 0, 16, 180, 0, 92, 185, 0, 86, 1, 0, 162, 0, 30, 42, 4, 27, 120, 4, 28, 120, 128]
abbrev dktX1_duet_1 : List UInt8 := dkwX1_duet_1 ++ dktX1_duet_2
def dkwX1_duet_0 : List UInt8 := [3, 60, 27, 42, 180, 0, 16, 180, 0, 92, 185, 0, 86, 1, 0, 162, 0, 56, 27, 4, 96, 61, 28, 42]
abbrev dktX1_duet_0 : List UInt8 := dkwX1_duet_0 ++ dktX1_duet_1
theorem dksX1_duet_0 : cX1_duet.data.toList.drop 0 = dktX1_duet_0 := by decide +kernel
theorem dksX1_duet_1 : cX1_duet.data.toList.drop 24 = dktX1_duet_1 := dk_seg dksX1_duet_0 24 rfl rfl
theorem dksX1_duet_2 : cX1_duet.data.toList.drop 46 = dktX1_duet_2 := dk_seg dksX1_duet_1 22 rfl rfl
theorem dksX1_duet_3 : cX1_duet.data.toList.drop 68 = dktX1_duet_3 := dk_seg dksX1_duet_2 22 rfl rfl
theorem dX1_duet_0 : decode cX1_duet 0 = .ok (.iconst 0, 1) := dk_3 (dk_at dksX1_duet_0 0 rfl rfl)
theorem dX1_duet_1 : decode cX1_duet 1 = .ok (.istore_n 1, 1) := dk_60 (dk_at dksX1_duet_0 1 rfl rfl)
theorem dX1_duet_2 : decode cX1_duet 2 = .ok (.iload_n 1, 1) := dk_27 (dk_at dksX1_duet_0 2 rfl rfl)
theorem dX1_duet_3 : decode cX1_duet 3 = .ok (.aload_n 0, 1) := dk_42 (dk_at dksX1_duet_0 3 rfl rfl)
theorem dX1_duet_4 : decode cX1_duet 4 = .ok (.getfield 16, 3) := dk_180 0 16 (dk_at dksX1_duet_0 4 rfl rfl)
theorem dX1_duet_7 : decode cX1_duet 7 = .ok (.getfield 92, 3) := dk_180 0 92 (dk_at dksX1_duet_0 7 rfl rfl)
theorem dX1_duet_10 : decode cX1_duet 10 = .ok (.invokeinterface 86 1, 5) := by decide +kernel
theorem dX1_duet_15 : decode cX1_duet 15 = .ok (.if_icmp .ge 56, 3) := dk_162 0 56 (dk_at dksX1_duet_0 15 rfl rfl)
theorem dX1_duet_18 : decode cX1_duet 18 = .ok (.iload_n 1, 1) := dk_27 (dk_at dksX1_duet_0 18 rfl rfl)
theorem dX1_duet_19 : decode cX1_duet 19 = .ok (.iconst 1, 1) := dk_4 (dk_at dksX1_duet_0 19 rfl rfl)
theorem dX1_duet_20 : decode cX1_duet 20 = .ok (.iadd, 1) := dk_96 (dk_at dksX1_duet_0 20 rfl rfl)
theorem dX1_duet_21 : decode cX1_duet 21 = .ok (.istore_n 2, 1) := dk_61 (dk_at dksX1_duet_0 21 rfl rfl)
theorem dX1_duet_22 : decode cX1_duet 22 = .ok (.iload_n 2, 1) := dk_28 (dk_at dksX1_duet_0 22 rfl rfl)
theorem dX1_duet_23 : decode cX1_duet 23 = .ok (.aload_n 0, 1) := dk_42 (dk_at dksX1_duet_0 23 rfl rfl)
theorem dX1_duet_24 : decode cX1_duet 24 = .ok (.getfield 16, 3) := dk_180 0 16 (dk_at dksX1_duet_1 0 rfl rfl)
theorem dX1_duet_27 : decode cX1_duet 27 = .ok (.getfield 92, 3) := dk_180 0 92 (dk_at dksX1_duet_1 3 rfl rfl)
theorem dX1_duet_30 : decode cX1_duet 30 = .ok (.invokeinterface 86 1, 5) := by decide +kernel
theorem dX1_duet_35 : decode cX1_duet 35 = .ok (.if_icmp .ge 30, 3) := dk_162 0 30 (dk_at dksX1_duet_1 11 rfl rfl)
theorem dX1_duet_38 : decode cX1_duet 38 = .ok (.aload_n 0, 1) := dk_42 (dk_at dksX1_duet_1 14 rfl rfl)
theorem dX1_duet_39 : decode cX1_duet 39 = .ok (.iconst 1, 1) := dk_4 (dk_at dksX1_duet_1 15 rfl rfl)
theorem dX1_duet_40 : decode cX1_duet 40 = .ok (.iload_n 1, 1) := dk_27 (dk_at dksX1_duet_1 16 rfl rfl)
theorem dX1_duet_41 : decode cX1_duet 41 = .ok (.ishl, 1) := dk_120 (dk_at dksX1_duet_1 17 rfl rfl)
theorem dX1_duet_42 : decode cX1_duet 42 = .ok (.iconst 1, 1) := dk_4 (dk_at dksX1_duet_1 18 rfl rfl)
theorem dX1_duet_43 : decode cX1_duet 43 = .ok (.iload_n 2, 1) := dk_28 (dk_at dksX1_duet_1 19 rfl rfl)
theorem dX1_duet_44 : decode cX1_duet 44 = .ok (.ishl, 1) := dk_120 (dk_at dksX1_duet_1 20 rfl rfl)
theorem dX1_duet_45 : decode cX1_duet 45 = .ok (.ior, 1) := dk_128 (dk_at dksX1_duet_1 21 rfl rfl)
theorem dX1_duet_46 : decode cX1_duet 46 = .ok (.invokevirtual 244, 3) := dk_182 0 244 (dk_at dksX1_duet_2 0 rfl rfl)
theorem dX1_duet_49 : decode cX1_duet 49 = .ok (.ifCond .eq 10, 3) := dk_153 0 10 (dk_at dksX1_duet_2 3 rfl rfl)
theorem dX1_duet_52 : decode cX1_duet 52 = .ok (.bipush 10, 2) := dk_16 10 (dk_at dksX1_duet_2 6 rfl rfl)
theorem dX1_duet_54 : decode cX1_duet 54 = .ok (.iload_n 1, 1) := dk_27 (dk_at dksX1_duet_2 8 rfl rfl)
theorem dX1_duet_55 : decode cX1_duet 55 = .ok (.imul, 1) := dk_104 (dk_at dksX1_duet_2 9 rfl rfl)
theorem dX1_duet_56 : decode cX1_duet 56 = .ok (.iload_n 2, 1) := dk_28 (dk_at dksX1_duet_2 10 rfl rfl)
theorem dX1_duet_57 : decode cX1_duet 57 = .ok (.iadd, 1) := dk_96 (dk_at dksX1_duet_2 11 rfl rfl)
theorem dX1_duet_58 : decode cX1_duet 58 = .ok (.ireturn, 1) := dk_172 (dk_at dksX1_duet_2 12 rfl rfl)
theorem dX1_duet_59 : decode cX1_duet 59 = .ok (.iinc 2 1, 3) := dk_132 2 1 (dk_at dksX1_duet_2 13 rfl rfl)
theorem dX1_duet_62 : decode cX1_duet 62 = .ok (.goto (-40), 3) := dk_167 255 216 (dk_at dksX1_duet_2 16 rfl rfl)
theorem dX1_duet_65 : decode cX1_duet 65 = .ok (.iinc 1 1, 3) := dk_132 1 1 (dk_at dksX1_duet_2 19 rfl rfl)
theorem dX1_duet_68 : decode cX1_duet 68 = .ok (.goto (-66), 3) := dk_167 255 190 (dk_at dksX1_duet_3 0 rfl rfl)
theorem dX1_duet_71 : decode cX1_duet 71 = .ok (.iconst (-1), 1) := dk_2 (dk_at dksX1_duet_3 3 rfl rfl)
theorem dX1_duet_72 : decode cX1_duet 72 = .ok (.ireturn, 1) := dk_172 (dk_at dksX1_duet_3 4 rfl rfl)
abbrev cX1_areSung : ByteArray := prog_1_method_36_code
def yX1_areSung : MethodName := ⟨RX1, "areSung", "(I)Z"⟩
def dkwX1_areSung_8 : List UInt8 := [162, 0, 5, 3, 172, 21, 4, 4, 100, 27, 126, 54, 4, 167, 255, 124, 132, 3, 1, 167, 255, 110, 4, 172]
abbrev dktX1_areSung_8 : List UInt8 := dkwX1_areSung_8 ++ []
def dkwX1_areSung_7 : List UInt8 := [192, 0, 126, 29, 50, 180, 0, 158, 96, 54, 6, 132, 7, 1, 167, 255, 161, 21, 5, 184, 0, 220, 21, 6]
abbrev dktX1_areSung_7 : List UInt8 := dkwX1_areSung_7 ++ dktX1_areSung_8
def dkwX1_areSung_6 : List UInt8 := [182, 0, 175, 128, 54, 5, 21, 6, 42, 180, 0, 16, 180, 0, 92, 21, 7, 185, 0, 120, 2, 0]
abbrev dktX1_areSung_6 : List UInt8 := dkwX1_areSung_6 ++ dktX1_areSung_7
def dkwX1_areSung_5 : List UInt8 := [185, 0, 120, 2, 0, 192, 0, 126, 29, 50, 199, 0, 6, 167, 0, 43, 21, 5, 42, 21, 7, 29, 28]
abbrev dktX1_areSung_5 : List UInt8 := dkwX1_areSung_5 ++ dktX1_areSung_6
def dkwX1_areSung_4 : List UInt8 := [162, 0, 84, 21, 4, 21, 7, 184, 0, 209, 153, 0, 68, 42, 180, 0, 16, 180, 0, 92, 21, 7]
abbrev dktX1_areSung_4 : List UInt8 := dkwX1_areSung_4 ++ dktX1_areSung_5
def dkwX1_areSung_3 : List UInt8 := [54, 5, 3, 54, 6, 3, 54, 7, 21, 7, 42, 180, 0, 16, 180, 0, 92, 185, 0, 86, 1, 0]
abbrev dktX1_areSung_3 : List UInt8 := dkwX1_areSung_3 ++ dktX1_areSung_4
def dkwX1_areSung_2 : List UInt8 := [172, 132, 3, 1, 167, 255, 215, 3, 62, 29, 7, 162, 0, 147, 27, 54, 4, 21, 4, 158, 0, 133, 3]
abbrev dktX1_areSung_2 : List UInt8 := dkwX1_areSung_2 ++ dktX1_areSung_3
def dkwX1_areSung_1 : List UInt8 := [162, 0, 31, 27, 29, 184, 0, 209, 153, 0, 17, 42, 180, 0, 16, 29, 28, 182, 0, 232, 154, 0, 5, 3]
abbrev dktX1_areSung_1 : List UInt8 := dkwX1_areSung_1 ++ dktX1_areSung_2
def dkwX1_areSung_0 : List UInt8 := [42, 180, 0, 27, 182, 0, 104, 61, 3, 62, 29, 42, 180, 0, 16, 180, 0, 92, 185, 0, 86, 1, 0]
abbrev dktX1_areSung_0 : List UInt8 := dkwX1_areSung_0 ++ dktX1_areSung_1
theorem dksX1_areSung_0 : cX1_areSung.data.toList.drop 0 = dktX1_areSung_0 := by decide +kernel
theorem dksX1_areSung_1 : cX1_areSung.data.toList.drop 23 = dktX1_areSung_1 := dk_seg dksX1_areSung_0 23 rfl rfl
theorem dksX1_areSung_2 : cX1_areSung.data.toList.drop 47 = dktX1_areSung_2 := dk_seg dksX1_areSung_1 24 rfl rfl
theorem dksX1_areSung_3 : cX1_areSung.data.toList.drop 70 = dktX1_areSung_3 := dk_seg dksX1_areSung_2 23 rfl rfl
theorem dksX1_areSung_4 : cX1_areSung.data.toList.drop 92 = dktX1_areSung_4 := dk_seg dksX1_areSung_3 22 rfl rfl
theorem dksX1_areSung_5 : cX1_areSung.data.toList.drop 114 = dktX1_areSung_5 := dk_seg dksX1_areSung_4 22 rfl rfl
theorem dksX1_areSung_6 : cX1_areSung.data.toList.drop 137 = dktX1_areSung_6 := dk_seg dksX1_areSung_5 23 rfl rfl
theorem dksX1_areSung_7 : cX1_areSung.data.toList.drop 159 = dktX1_areSung_7 := dk_seg dksX1_areSung_6 22 rfl rfl
theorem dksX1_areSung_8 : cX1_areSung.data.toList.drop 183 = dktX1_areSung_8 := dk_seg dksX1_areSung_7 24 rfl rfl
theorem dX1_areSung_0 : decode cX1_areSung 0 = .ok (.aload_n 0, 1) := dk_42 (dk_at dksX1_areSung_0 0 rfl rfl)
theorem dX1_areSung_1 : decode cX1_areSung 1 = .ok (.getfield 27, 3) := dk_180 0 27 (dk_at dksX1_areSung_0 1 rfl rfl)
theorem dX1_areSung_4 : decode cX1_areSung 4 = .ok (.invokevirtual 104, 3) := dk_182 0 104 (dk_at dksX1_areSung_0 4 rfl rfl)
theorem dX1_areSung_7 : decode cX1_areSung 7 = .ok (.istore_n 2, 1) := dk_61 (dk_at dksX1_areSung_0 7 rfl rfl)
theorem dX1_areSung_8 : decode cX1_areSung 8 = .ok (.iconst 0, 1) := dk_3 (dk_at dksX1_areSung_0 8 rfl rfl)
theorem dX1_areSung_9 : decode cX1_areSung 9 = .ok (.istore_n 3, 1) := dk_62 (dk_at dksX1_areSung_0 9 rfl rfl)
theorem dX1_areSung_10 : decode cX1_areSung 10 = .ok (.iload_n 3, 1) := dk_29 (dk_at dksX1_areSung_0 10 rfl rfl)
theorem dX1_areSung_11 : decode cX1_areSung 11 = .ok (.aload_n 0, 1) := dk_42 (dk_at dksX1_areSung_0 11 rfl rfl)
theorem dX1_areSung_12 : decode cX1_areSung 12 = .ok (.getfield 16, 3) := dk_180 0 16 (dk_at dksX1_areSung_0 12 rfl rfl)
theorem dX1_areSung_15 : decode cX1_areSung 15 = .ok (.getfield 92, 3) := dk_180 0 92 (dk_at dksX1_areSung_0 15 rfl rfl)
theorem dX1_areSung_18 : decode cX1_areSung 18 = .ok (.invokeinterface 86 1, 5) := by decide +kernel
theorem dX1_areSung_23 : decode cX1_areSung 23 = .ok (.if_icmp .ge 31, 3) := dk_162 0 31 (dk_at dksX1_areSung_1 0 rfl rfl)
theorem dX1_areSung_26 : decode cX1_areSung 26 = .ok (.iload_n 1, 1) := dk_27 (dk_at dksX1_areSung_1 3 rfl rfl)
theorem dX1_areSung_27 : decode cX1_areSung 27 = .ok (.iload_n 3, 1) := dk_29 (dk_at dksX1_areSung_1 4 rfl rfl)
theorem dX1_areSung_28 : decode cX1_areSung 28 = .ok (.invokestatic 209, 3) := dk_184 0 209 (dk_at dksX1_areSung_1 5 rfl rfl)
theorem dX1_areSung_31 : decode cX1_areSung 31 = .ok (.ifCond .eq 17, 3) := dk_153 0 17 (dk_at dksX1_areSung_1 8 rfl rfl)
theorem dX1_areSung_34 : decode cX1_areSung 34 = .ok (.aload_n 0, 1) := dk_42 (dk_at dksX1_areSung_1 11 rfl rfl)
theorem dX1_areSung_35 : decode cX1_areSung 35 = .ok (.getfield 16, 3) := dk_180 0 16 (dk_at dksX1_areSung_1 12 rfl rfl)
theorem dX1_areSung_38 : decode cX1_areSung 38 = .ok (.iload_n 3, 1) := dk_29 (dk_at dksX1_areSung_1 15 rfl rfl)
theorem dX1_areSung_39 : decode cX1_areSung 39 = .ok (.iload_n 2, 1) := dk_28 (dk_at dksX1_areSung_1 16 rfl rfl)
theorem dX1_areSung_40 : decode cX1_areSung 40 = .ok (.invokevirtual 232, 3) := dk_182 0 232 (dk_at dksX1_areSung_1 17 rfl rfl)
theorem dX1_areSung_43 : decode cX1_areSung 43 = .ok (.ifCond .ne 5, 3) := dk_154 0 5 (dk_at dksX1_areSung_1 20 rfl rfl)
theorem dX1_areSung_46 : decode cX1_areSung 46 = .ok (.iconst 0, 1) := dk_3 (dk_at dksX1_areSung_1 23 rfl rfl)
theorem dX1_areSung_47 : decode cX1_areSung 47 = .ok (.ireturn, 1) := dk_172 (dk_at dksX1_areSung_2 0 rfl rfl)
theorem dX1_areSung_48 : decode cX1_areSung 48 = .ok (.iinc 3 1, 3) := dk_132 3 1 (dk_at dksX1_areSung_2 1 rfl rfl)
theorem dX1_areSung_51 : decode cX1_areSung 51 = .ok (.goto (-41), 3) := dk_167 255 215 (dk_at dksX1_areSung_2 4 rfl rfl)
theorem dX1_areSung_54 : decode cX1_areSung 54 = .ok (.iconst 0, 1) := dk_3 (dk_at dksX1_areSung_2 7 rfl rfl)
theorem dX1_areSung_55 : decode cX1_areSung 55 = .ok (.istore_n 3, 1) := dk_62 (dk_at dksX1_areSung_2 8 rfl rfl)
theorem dX1_areSung_56 : decode cX1_areSung 56 = .ok (.iload_n 3, 1) := dk_29 (dk_at dksX1_areSung_2 9 rfl rfl)
theorem dX1_areSung_57 : decode cX1_areSung 57 = .ok (.iconst 4, 1) := dk_7 (dk_at dksX1_areSung_2 10 rfl rfl)
theorem dX1_areSung_58 : decode cX1_areSung 58 = .ok (.if_icmp .ge 147, 3) := dk_162 0 147 (dk_at dksX1_areSung_2 11 rfl rfl)
theorem dX1_areSung_61 : decode cX1_areSung 61 = .ok (.iload_n 1, 1) := dk_27 (dk_at dksX1_areSung_2 14 rfl rfl)
theorem dX1_areSung_62 : decode cX1_areSung 62 = .ok (.istore 4, 2) := dk_54 4 (dk_at dksX1_areSung_2 15 rfl rfl)
theorem dX1_areSung_64 : decode cX1_areSung 64 = .ok (.iload 4, 2) := dk_21 4 (dk_at dksX1_areSung_2 17 rfl rfl)
theorem dX1_areSung_66 : decode cX1_areSung 66 = .ok (.ifCond .le 133, 3) := dk_158 0 133 (dk_at dksX1_areSung_2 19 rfl rfl)
theorem dX1_areSung_69 : decode cX1_areSung 69 = .ok (.iconst 0, 1) := dk_3 (dk_at dksX1_areSung_2 22 rfl rfl)
theorem dX1_areSung_70 : decode cX1_areSung 70 = .ok (.istore 5, 2) := dk_54 5 (dk_at dksX1_areSung_3 0 rfl rfl)
theorem dX1_areSung_72 : decode cX1_areSung 72 = .ok (.iconst 0, 1) := dk_3 (dk_at dksX1_areSung_3 2 rfl rfl)
theorem dX1_areSung_73 : decode cX1_areSung 73 = .ok (.istore 6, 2) := dk_54 6 (dk_at dksX1_areSung_3 3 rfl rfl)
theorem dX1_areSung_75 : decode cX1_areSung 75 = .ok (.iconst 0, 1) := dk_3 (dk_at dksX1_areSung_3 5 rfl rfl)
theorem dX1_areSung_76 : decode cX1_areSung 76 = .ok (.istore 7, 2) := dk_54 7 (dk_at dksX1_areSung_3 6 rfl rfl)
theorem dX1_areSung_78 : decode cX1_areSung 78 = .ok (.iload 7, 2) := dk_21 7 (dk_at dksX1_areSung_3 8 rfl rfl)
theorem dX1_areSung_80 : decode cX1_areSung 80 = .ok (.aload_n 0, 1) := dk_42 (dk_at dksX1_areSung_3 10 rfl rfl)
theorem dX1_areSung_81 : decode cX1_areSung 81 = .ok (.getfield 16, 3) := dk_180 0 16 (dk_at dksX1_areSung_3 11 rfl rfl)
theorem dX1_areSung_84 : decode cX1_areSung 84 = .ok (.getfield 92, 3) := dk_180 0 92 (dk_at dksX1_areSung_3 14 rfl rfl)
theorem dX1_areSung_87 : decode cX1_areSung 87 = .ok (.invokeinterface 86 1, 5) := by decide +kernel
theorem dX1_areSung_92 : decode cX1_areSung 92 = .ok (.if_icmp .ge 84, 3) := dk_162 0 84 (dk_at dksX1_areSung_4 0 rfl rfl)
theorem dX1_areSung_95 : decode cX1_areSung 95 = .ok (.iload 4, 2) := dk_21 4 (dk_at dksX1_areSung_4 3 rfl rfl)
theorem dX1_areSung_97 : decode cX1_areSung 97 = .ok (.iload 7, 2) := dk_21 7 (dk_at dksX1_areSung_4 5 rfl rfl)
theorem dX1_areSung_99 : decode cX1_areSung 99 = .ok (.invokestatic 209, 3) := dk_184 0 209 (dk_at dksX1_areSung_4 7 rfl rfl)
theorem dX1_areSung_102 : decode cX1_areSung 102 = .ok (.ifCond .eq 68, 3) := dk_153 0 68 (dk_at dksX1_areSung_4 10 rfl rfl)
theorem dX1_areSung_105 : decode cX1_areSung 105 = .ok (.aload_n 0, 1) := dk_42 (dk_at dksX1_areSung_4 13 rfl rfl)
theorem dX1_areSung_106 : decode cX1_areSung 106 = .ok (.getfield 16, 3) := dk_180 0 16 (dk_at dksX1_areSung_4 14 rfl rfl)
theorem dX1_areSung_109 : decode cX1_areSung 109 = .ok (.getfield 92, 3) := dk_180 0 92 (dk_at dksX1_areSung_4 17 rfl rfl)
theorem dX1_areSung_112 : decode cX1_areSung 112 = .ok (.iload 7, 2) := dk_21 7 (dk_at dksX1_areSung_4 20 rfl rfl)
theorem dX1_areSung_114 : decode cX1_areSung 114 = .ok (.invokeinterface 120 2, 5) := by decide +kernel
theorem dX1_areSung_119 : decode cX1_areSung 119 = .ok (.checkcast 126, 3) := dk_192 0 126 (dk_at dksX1_areSung_5 5 rfl rfl)
theorem dX1_areSung_122 : decode cX1_areSung 122 = .ok (.iload_n 3, 1) := dk_29 (dk_at dksX1_areSung_5 8 rfl rfl)
theorem dX1_areSung_123 : decode cX1_areSung 123 = .ok (.aaload, 1) := dk_50 (dk_at dksX1_areSung_5 9 rfl rfl)
theorem dX1_areSung_124 : decode cX1_areSung 124 = .ok (.ifnonnull 6, 3) := dk_199 0 6 (dk_at dksX1_areSung_5 10 rfl rfl)
theorem dX1_areSung_127 : decode cX1_areSung 127 = .ok (.goto 43, 3) := dk_167 0 43 (dk_at dksX1_areSung_5 13 rfl rfl)
theorem dX1_areSung_130 : decode cX1_areSung 130 = .ok (.iload 5, 2) := dk_21 5 (dk_at dksX1_areSung_5 16 rfl rfl)
theorem dX1_areSung_132 : decode cX1_areSung 132 = .ok (.aload_n 0, 1) := dk_42 (dk_at dksX1_areSung_5 18 rfl rfl)
theorem dX1_areSung_133 : decode cX1_areSung 133 = .ok (.iload 7, 2) := dk_21 7 (dk_at dksX1_areSung_5 19 rfl rfl)
theorem dX1_areSung_135 : decode cX1_areSung 135 = .ok (.iload_n 3, 1) := dk_29 (dk_at dksX1_areSung_5 21 rfl rfl)
theorem dX1_areSung_136 : decode cX1_areSung 136 = .ok (.iload_n 2, 1) := dk_28 (dk_at dksX1_areSung_5 22 rfl rfl)
theorem dX1_areSung_137 : decode cX1_areSung 137 = .ok (.invokevirtual 175, 3) := dk_182 0 175 (dk_at dksX1_areSung_6 0 rfl rfl)
theorem dX1_areSung_140 : decode cX1_areSung 140 = .ok (.ior, 1) := dk_128 (dk_at dksX1_areSung_6 3 rfl rfl)
theorem dX1_areSung_141 : decode cX1_areSung 141 = .ok (.istore 5, 2) := dk_54 5 (dk_at dksX1_areSung_6 4 rfl rfl)
theorem dX1_areSung_143 : decode cX1_areSung 143 = .ok (.iload 6, 2) := dk_21 6 (dk_at dksX1_areSung_6 6 rfl rfl)
theorem dX1_areSung_145 : decode cX1_areSung 145 = .ok (.aload_n 0, 1) := dk_42 (dk_at dksX1_areSung_6 8 rfl rfl)
theorem dX1_areSung_146 : decode cX1_areSung 146 = .ok (.getfield 16, 3) := dk_180 0 16 (dk_at dksX1_areSung_6 9 rfl rfl)
theorem dX1_areSung_149 : decode cX1_areSung 149 = .ok (.getfield 92, 3) := dk_180 0 92 (dk_at dksX1_areSung_6 12 rfl rfl)
theorem dX1_areSung_152 : decode cX1_areSung 152 = .ok (.iload 7, 2) := dk_21 7 (dk_at dksX1_areSung_6 15 rfl rfl)
theorem dX1_areSung_154 : decode cX1_areSung 154 = .ok (.invokeinterface 120 2, 5) := by decide +kernel
theorem dX1_areSung_159 : decode cX1_areSung 159 = .ok (.checkcast 126, 3) := dk_192 0 126 (dk_at dksX1_areSung_7 0 rfl rfl)
theorem dX1_areSung_162 : decode cX1_areSung 162 = .ok (.iload_n 3, 1) := dk_29 (dk_at dksX1_areSung_7 3 rfl rfl)
theorem dX1_areSung_163 : decode cX1_areSung 163 = .ok (.aaload, 1) := dk_50 (dk_at dksX1_areSung_7 4 rfl rfl)
theorem dX1_areSung_164 : decode cX1_areSung 164 = .ok (.getfield 158, 3) := dk_180 0 158 (dk_at dksX1_areSung_7 5 rfl rfl)
theorem dX1_areSung_167 : decode cX1_areSung 167 = .ok (.iadd, 1) := dk_96 (dk_at dksX1_areSung_7 8 rfl rfl)
theorem dX1_areSung_168 : decode cX1_areSung 168 = .ok (.istore 6, 2) := dk_54 6 (dk_at dksX1_areSung_7 9 rfl rfl)
theorem dX1_areSung_170 : decode cX1_areSung 170 = .ok (.iinc 7 1, 3) := dk_132 7 1 (dk_at dksX1_areSung_7 11 rfl rfl)
theorem dX1_areSung_173 : decode cX1_areSung 173 = .ok (.goto (-95), 3) := dk_167 255 161 (dk_at dksX1_areSung_7 14 rfl rfl)
theorem dX1_areSung_176 : decode cX1_areSung 176 = .ok (.iload 5, 2) := dk_21 5 (dk_at dksX1_areSung_7 17 rfl rfl)
theorem dX1_areSung_178 : decode cX1_areSung 178 = .ok (.invokestatic 220, 3) := dk_184 0 220 (dk_at dksX1_areSung_7 19 rfl rfl)
theorem dX1_areSung_181 : decode cX1_areSung 181 = .ok (.iload 6, 2) := dk_21 6 (dk_at dksX1_areSung_7 22 rfl rfl)
theorem dX1_areSung_183 : decode cX1_areSung 183 = .ok (.if_icmp .ge 5, 3) := dk_162 0 5 (dk_at dksX1_areSung_8 0 rfl rfl)
theorem dX1_areSung_186 : decode cX1_areSung 186 = .ok (.iconst 0, 1) := dk_3 (dk_at dksX1_areSung_8 3 rfl rfl)
theorem dX1_areSung_187 : decode cX1_areSung 187 = .ok (.ireturn, 1) := dk_172 (dk_at dksX1_areSung_8 4 rfl rfl)
theorem dX1_areSung_188 : decode cX1_areSung 188 = .ok (.iload 4, 2) := dk_21 4 (dk_at dksX1_areSung_8 5 rfl rfl)
theorem dX1_areSung_190 : decode cX1_areSung 190 = .ok (.iconst 1, 1) := dk_4 (dk_at dksX1_areSung_8 7 rfl rfl)
theorem dX1_areSung_191 : decode cX1_areSung 191 = .ok (.isub, 1) := dk_100 (dk_at dksX1_areSung_8 8 rfl rfl)
theorem dX1_areSung_192 : decode cX1_areSung 192 = .ok (.iload_n 1, 1) := dk_27 (dk_at dksX1_areSung_8 9 rfl rfl)
theorem dX1_areSung_193 : decode cX1_areSung 193 = .ok (.iand, 1) := dk_126 (dk_at dksX1_areSung_8 10 rfl rfl)
theorem dX1_areSung_194 : decode cX1_areSung 194 = .ok (.istore 4, 2) := dk_54 4 (dk_at dksX1_areSung_8 11 rfl rfl)
theorem dX1_areSung_196 : decode cX1_areSung 196 = .ok (.goto (-132), 3) := dk_167 255 124 (dk_at dksX1_areSung_8 13 rfl rfl)
theorem dX1_areSung_199 : decode cX1_areSung 199 = .ok (.iinc 3 1, 3) := dk_132 3 1 (dk_at dksX1_areSung_8 16 rfl rfl)
theorem dX1_areSung_202 : decode cX1_areSung 202 = .ok (.goto (-146), 3) := dk_167 255 110 (dk_at dksX1_areSung_8 19 rfl rfl)
theorem dX1_areSung_205 : decode cX1_areSung 205 = .ok (.iconst 1, 1) := dk_4 (dk_at dksX1_areSung_8 22 rfl rfl)
theorem dX1_areSung_206 : decode cX1_areSung 206 = .ok (.ireturn, 1) := dk_172 (dk_at dksX1_areSung_8 23 rfl rfl)
abbrev cX1_able : ByteArray := prog_1_method_15_code
def yX1_able : MethodName := ⟨RX1, "able", "(III)I"⟩
def dkwX1_able_1 : List UInt8 := [199, 0, 7, 3, 167, 0, 15, 42, 180, 0, 16, 25, 4, 28, 29, 3, 182, 0, 171, 172]
abbrev dktX1_able_1 : List UInt8 := dkwX1_able_1 ++ []
def dkwX1_able_0 : List UInt8 := [42, 180, 0, 16, 180, 0, 92, 27, 185, 0, 120, 2, 0, 192, 0, 126, 28, 50, 58, 4, 25, 4]
abbrev dktX1_able_0 : List UInt8 := dkwX1_able_0 ++ dktX1_able_1
theorem dksX1_able_0 : cX1_able.data.toList.drop 0 = dktX1_able_0 := by decide +kernel
theorem dksX1_able_1 : cX1_able.data.toList.drop 22 = dktX1_able_1 := dk_seg dksX1_able_0 22 rfl rfl
theorem dX1_able_0 : decode cX1_able 0 = .ok (.aload_n 0, 1) := dk_42 (dk_at dksX1_able_0 0 rfl rfl)
theorem dX1_able_1 : decode cX1_able 1 = .ok (.getfield 16, 3) := dk_180 0 16 (dk_at dksX1_able_0 1 rfl rfl)
theorem dX1_able_4 : decode cX1_able 4 = .ok (.getfield 92, 3) := dk_180 0 92 (dk_at dksX1_able_0 4 rfl rfl)
theorem dX1_able_7 : decode cX1_able 7 = .ok (.iload_n 1, 1) := dk_27 (dk_at dksX1_able_0 7 rfl rfl)
theorem dX1_able_8 : decode cX1_able 8 = .ok (.invokeinterface 120 2, 5) := by decide +kernel
theorem dX1_able_13 : decode cX1_able 13 = .ok (.checkcast 126, 3) := dk_192 0 126 (dk_at dksX1_able_0 13 rfl rfl)
theorem dX1_able_16 : decode cX1_able 16 = .ok (.iload_n 2, 1) := dk_28 (dk_at dksX1_able_0 16 rfl rfl)
theorem dX1_able_17 : decode cX1_able 17 = .ok (.aaload, 1) := dk_50 (dk_at dksX1_able_0 17 rfl rfl)
theorem dX1_able_18 : decode cX1_able 18 = .ok (.astore 4, 2) := dk_58 4 (dk_at dksX1_able_0 18 rfl rfl)
theorem dX1_able_20 : decode cX1_able 20 = .ok (.aload 4, 2) := dk_25 4 (dk_at dksX1_able_0 20 rfl rfl)
theorem dX1_able_22 : decode cX1_able 22 = .ok (.ifnonnull 7, 3) := dk_199 0 7 (dk_at dksX1_able_1 0 rfl rfl)
theorem dX1_able_25 : decode cX1_able 25 = .ok (.iconst 0, 1) := dk_3 (dk_at dksX1_able_1 3 rfl rfl)
theorem dX1_able_26 : decode cX1_able 26 = .ok (.goto 15, 3) := dk_167 0 15 (dk_at dksX1_able_1 4 rfl rfl)
theorem dX1_able_29 : decode cX1_able 29 = .ok (.aload_n 0, 1) := dk_42 (dk_at dksX1_able_1 7 rfl rfl)
theorem dX1_able_30 : decode cX1_able 30 = .ok (.getfield 16, 3) := dk_180 0 16 (dk_at dksX1_able_1 8 rfl rfl)
theorem dX1_able_33 : decode cX1_able 33 = .ok (.aload 4, 2) := dk_25 4 (dk_at dksX1_able_1 11 rfl rfl)
theorem dX1_able_35 : decode cX1_able 35 = .ok (.iload_n 2, 1) := dk_28 (dk_at dksX1_able_1 13 rfl rfl)
theorem dX1_able_36 : decode cX1_able 36 = .ok (.iload_n 3, 1) := dk_29 (dk_at dksX1_able_1 14 rfl rfl)
theorem dX1_able_37 : decode cX1_able 37 = .ok (.iconst 0, 1) := dk_3 (dk_at dksX1_able_1 15 rfl rfl)
theorem dX1_able_38 : decode cX1_able 38 = .ok (.invokevirtual 171, 3) := dk_182 0 171 (dk_at dksX1_able_1 16 rfl rfl)
theorem dX1_able_41 : decode cX1_able 41 = .ok (.ireturn, 1) := dk_172 (dk_at dksX1_able_1 19 rfl rfl)
abbrev cX1_evening : ByteArray := prog_1_method_38_code
def yX1_evening : MethodName := ⟨RX1, "evening", "()I"⟩
def dkwX1_evening_2 : List UInt8 := [167, 255, 214, 27, 172]
abbrev dktX1_evening_2 : List UInt8 := dkwX1_evening_2 ++ []
def dkwX1_evening_1 : List UInt8 := [184, 0, 220, 27, 184, 0, 220, 164, 0, 13, 42, 28, 182, 0, 244, 153, 0, 5, 28, 60, 132, 2, 1]
abbrev dktX1_evening_1 : List UInt8 := dkwX1_evening_1 ++ dktX1_evening_2
def dkwX1_evening_0 : List UInt8 := [3, 60, 4, 61, 28, 4, 42, 180, 0, 16, 180, 0, 92, 185, 0, 86, 1, 0, 120, 162, 0, 30, 28]
abbrev dktX1_evening_0 : List UInt8 := dkwX1_evening_0 ++ dktX1_evening_1
theorem dksX1_evening_0 : cX1_evening.data.toList.drop 0 = dktX1_evening_0 := by decide +kernel
theorem dksX1_evening_1 : cX1_evening.data.toList.drop 23 = dktX1_evening_1 := dk_seg dksX1_evening_0 23 rfl rfl
theorem dksX1_evening_2 : cX1_evening.data.toList.drop 46 = dktX1_evening_2 := dk_seg dksX1_evening_1 23 rfl rfl
theorem dX1_evening_0 : decode cX1_evening 0 = .ok (.iconst 0, 1) := dk_3 (dk_at dksX1_evening_0 0 rfl rfl)
theorem dX1_evening_1 : decode cX1_evening 1 = .ok (.istore_n 1, 1) := dk_60 (dk_at dksX1_evening_0 1 rfl rfl)
theorem dX1_evening_2 : decode cX1_evening 2 = .ok (.iconst 1, 1) := dk_4 (dk_at dksX1_evening_0 2 rfl rfl)
theorem dX1_evening_3 : decode cX1_evening 3 = .ok (.istore_n 2, 1) := dk_61 (dk_at dksX1_evening_0 3 rfl rfl)
theorem dX1_evening_4 : decode cX1_evening 4 = .ok (.iload_n 2, 1) := dk_28 (dk_at dksX1_evening_0 4 rfl rfl)
theorem dX1_evening_5 : decode cX1_evening 5 = .ok (.iconst 1, 1) := dk_4 (dk_at dksX1_evening_0 5 rfl rfl)
theorem dX1_evening_6 : decode cX1_evening 6 = .ok (.aload_n 0, 1) := dk_42 (dk_at dksX1_evening_0 6 rfl rfl)
theorem dX1_evening_7 : decode cX1_evening 7 = .ok (.getfield 16, 3) := dk_180 0 16 (dk_at dksX1_evening_0 7 rfl rfl)
theorem dX1_evening_10 : decode cX1_evening 10 = .ok (.getfield 92, 3) := dk_180 0 92 (dk_at dksX1_evening_0 10 rfl rfl)
theorem dX1_evening_13 : decode cX1_evening 13 = .ok (.invokeinterface 86 1, 5) := by decide +kernel
theorem dX1_evening_18 : decode cX1_evening 18 = .ok (.ishl, 1) := dk_120 (dk_at dksX1_evening_0 18 rfl rfl)
theorem dX1_evening_19 : decode cX1_evening 19 = .ok (.if_icmp .ge 30, 3) := dk_162 0 30 (dk_at dksX1_evening_0 19 rfl rfl)
theorem dX1_evening_22 : decode cX1_evening 22 = .ok (.iload_n 2, 1) := dk_28 (dk_at dksX1_evening_0 22 rfl rfl)
theorem dX1_evening_23 : decode cX1_evening 23 = .ok (.invokestatic 220, 3) := dk_184 0 220 (dk_at dksX1_evening_1 0 rfl rfl)
theorem dX1_evening_26 : decode cX1_evening 26 = .ok (.iload_n 1, 1) := dk_27 (dk_at dksX1_evening_1 3 rfl rfl)
theorem dX1_evening_27 : decode cX1_evening 27 = .ok (.invokestatic 220, 3) := dk_184 0 220 (dk_at dksX1_evening_1 4 rfl rfl)
theorem dX1_evening_30 : decode cX1_evening 30 = .ok (.if_icmp .le 13, 3) := dk_164 0 13 (dk_at dksX1_evening_1 7 rfl rfl)
theorem dX1_evening_33 : decode cX1_evening 33 = .ok (.aload_n 0, 1) := dk_42 (dk_at dksX1_evening_1 10 rfl rfl)
theorem dX1_evening_34 : decode cX1_evening 34 = .ok (.iload_n 2, 1) := dk_28 (dk_at dksX1_evening_1 11 rfl rfl)
theorem dX1_evening_35 : decode cX1_evening 35 = .ok (.invokevirtual 244, 3) := dk_182 0 244 (dk_at dksX1_evening_1 12 rfl rfl)
theorem dX1_evening_38 : decode cX1_evening 38 = .ok (.ifCond .eq 5, 3) := dk_153 0 5 (dk_at dksX1_evening_1 15 rfl rfl)
theorem dX1_evening_41 : decode cX1_evening 41 = .ok (.iload_n 2, 1) := dk_28 (dk_at dksX1_evening_1 18 rfl rfl)
theorem dX1_evening_42 : decode cX1_evening 42 = .ok (.istore_n 1, 1) := dk_60 (dk_at dksX1_evening_1 19 rfl rfl)
theorem dX1_evening_43 : decode cX1_evening 43 = .ok (.iinc 2 1, 3) := dk_132 2 1 (dk_at dksX1_evening_1 20 rfl rfl)
theorem dX1_evening_46 : decode cX1_evening 46 = .ok (.goto (-42), 3) := dk_167 255 214 (dk_at dksX1_evening_2 0 rfl rfl)
theorem dX1_evening_49 : decode cX1_evening 49 = .ok (.iload_n 1, 1) := dk_27 (dk_at dksX1_evening_2 3 rfl rfl)
theorem dX1_evening_50 : decode cX1_evening 50 = .ok (.ireturn, 1) := dk_172 (dk_at dksX1_evening_2 4 rfl rfl)
abbrev cX1_forget : ByteArray := prog_1_method_47_code
def yX1_forget : MethodName := ⟨RX1, "forget", "()V"⟩
def dkwX1_forget_0 : List UInt8 := [42, 187, 0, 46, 89, 183, 0, 48, 181, 0, 53, 177]
abbrev dktX1_forget_0 : List UInt8 := dkwX1_forget_0 ++ []
theorem dksX1_forget_0 : cX1_forget.data.toList.drop 0 = dktX1_forget_0 := by decide +kernel
theorem dX1_forget_0 : decode cX1_forget 0 = .ok (.aload_n 0, 1) := dk_42 (dk_at dksX1_forget_0 0 rfl rfl)
theorem dX1_forget_1 : decode cX1_forget 1 = .ok (.new 46, 3) := dk_187 0 46 (dk_at dksX1_forget_0 1 rfl rfl)
theorem dX1_forget_4 : decode cX1_forget 4 = .ok (.dup, 1) := dk_89 (dk_at dksX1_forget_0 4 rfl rfl)
theorem dX1_forget_5 : decode cX1_forget 5 = .ok (.invokespecial 48, 3) := dk_183 0 48 (dk_at dksX1_forget_0 5 rfl rfl)
theorem dX1_forget_8 : decode cX1_forget 8 = .ok (.putfield 53, 3) := dk_181 0 53 (dk_at dksX1_forget_0 8 rfl rfl)
theorem dX1_forget_11 : decode cX1_forget 11 = .ok (.return_, 1) := dk_177 (dk_at dksX1_forget_0 11 rfl rfl)
abbrev cX1_bargain : ByteArray := prog_1_method_62_code
def yX1_bargain : MethodName := ⟨RX1, "bargain", "()I"⟩
def dkwX1_bargain_8 : List UInt8 := [167, 255, 112, 132, 3, 1, 167, 255, 87, 28, 172]
abbrev dktX1_bargain_8 : List UInt8 := dkwX1_bargain_8 ++ []
def dkwX1_bargain_7 : List UInt8 := [21, 5, 27, 163, 0, 6, 167, 0, 14, 16, 100, 29, 104, 21, 4, 96, 61, 21, 5, 60, 132, 4, 1]
abbrev dktX1_bargain_7 : List UInt8 := dkwX1_bargain_7 ++ dktX1_bargain_8
def dkwX1_bargain_6 : List UInt8 := [180, 0, 27, 182, 0, 104, 4, 29, 120, 128, 4, 21, 4, 120, 128, 182, 0, 111, 184, 0, 220, 54, 5]
abbrev dktX1_bargain_6 : List UInt8 := dkwX1_bargain_6 ++ dktX1_bargain_7
def dkwX1_bargain_5 : List UInt8 := [185, 0, 120, 2, 0, 192, 0, 124, 180, 0, 132, 4, 159, 0, 6, 167, 0, 51, 42, 180, 0, 16, 42]
abbrev dktX1_bargain_5 : List UInt8 := dkwX1_bargain_5 ++ dktX1_bargain_6
def dkwX1_bargain_4 : List UInt8 := [185, 0, 120, 2, 0, 192, 0, 124, 180, 0, 132, 154, 0, 78, 42, 180, 0, 16, 180, 0, 83, 21, 4]
abbrev dktX1_bargain_4 : List UInt8 := dkwX1_bargain_4 ++ dktX1_bargain_5
def dkwX1_bargain_3 : List UInt8 := [42, 180, 0, 27, 180, 0, 147, 21, 4, 46, 4, 160, 0, 100, 42, 180, 0, 16, 180, 0, 83, 29]
abbrev dktX1_bargain_3 : List UInt8 := dkwX1_bargain_3 ++ dktX1_bargain_4
def dkwX1_bargain_2 : List UInt8 := [180, 0, 83, 185, 0, 86, 1, 0, 162, 0, 133, 42, 180, 0, 27, 180, 0, 147, 29, 46, 4, 160, 0, 114]
abbrev dktX1_bargain_2 : List UInt8 := dkwX1_bargain_2 ++ dktX1_bargain_3
def dkwX1_bargain_1 : List UInt8 := [180, 0, 16, 180, 0, 83, 185, 0, 86, 1, 0, 162, 0, 159, 3, 54, 4, 21, 4, 42, 180, 0, 16]
abbrev dktX1_bargain_1 : List UInt8 := dkwX1_bargain_1 ++ dktX1_bargain_2
def dkwX1_bargain_0 : List UInt8 := [42, 180, 0, 16, 42, 180, 0, 27, 182, 0, 104, 182, 0, 111, 184, 0, 220, 60, 2, 61, 3, 62, 29, 42]
abbrev dktX1_bargain_0 : List UInt8 := dkwX1_bargain_0 ++ dktX1_bargain_1
theorem dksX1_bargain_0 : cX1_bargain.data.toList.drop 0 = dktX1_bargain_0 := by decide +kernel
theorem dksX1_bargain_1 : cX1_bargain.data.toList.drop 24 = dktX1_bargain_1 := dk_seg dksX1_bargain_0 24 rfl rfl
theorem dksX1_bargain_2 : cX1_bargain.data.toList.drop 47 = dktX1_bargain_2 := dk_seg dksX1_bargain_1 23 rfl rfl
theorem dksX1_bargain_3 : cX1_bargain.data.toList.drop 71 = dktX1_bargain_3 := dk_seg dksX1_bargain_2 24 rfl rfl
theorem dksX1_bargain_4 : cX1_bargain.data.toList.drop 93 = dktX1_bargain_4 := dk_seg dksX1_bargain_3 22 rfl rfl
theorem dksX1_bargain_5 : cX1_bargain.data.toList.drop 116 = dktX1_bargain_5 := dk_seg dksX1_bargain_4 23 rfl rfl
theorem dksX1_bargain_6 : cX1_bargain.data.toList.drop 139 = dktX1_bargain_6 := dk_seg dksX1_bargain_5 23 rfl rfl
theorem dksX1_bargain_7 : cX1_bargain.data.toList.drop 162 = dktX1_bargain_7 := dk_seg dksX1_bargain_6 23 rfl rfl
theorem dksX1_bargain_8 : cX1_bargain.data.toList.drop 185 = dktX1_bargain_8 := dk_seg dksX1_bargain_7 23 rfl rfl
theorem dX1_bargain_0 : decode cX1_bargain 0 = .ok (.aload_n 0, 1) := dk_42 (dk_at dksX1_bargain_0 0 rfl rfl)
theorem dX1_bargain_1 : decode cX1_bargain 1 = .ok (.getfield 16, 3) := dk_180 0 16 (dk_at dksX1_bargain_0 1 rfl rfl)
theorem dX1_bargain_4 : decode cX1_bargain 4 = .ok (.aload_n 0, 1) := dk_42 (dk_at dksX1_bargain_0 4 rfl rfl)
theorem dX1_bargain_5 : decode cX1_bargain 5 = .ok (.getfield 27, 3) := dk_180 0 27 (dk_at dksX1_bargain_0 5 rfl rfl)
theorem dX1_bargain_8 : decode cX1_bargain 8 = .ok (.invokevirtual 104, 3) := dk_182 0 104 (dk_at dksX1_bargain_0 8 rfl rfl)
theorem dX1_bargain_11 : decode cX1_bargain 11 = .ok (.invokevirtual 111, 3) := dk_182 0 111 (dk_at dksX1_bargain_0 11 rfl rfl)
theorem dX1_bargain_14 : decode cX1_bargain 14 = .ok (.invokestatic 220, 3) := dk_184 0 220 (dk_at dksX1_bargain_0 14 rfl rfl)
theorem dX1_bargain_17 : decode cX1_bargain 17 = .ok (.istore_n 1, 1) := dk_60 (dk_at dksX1_bargain_0 17 rfl rfl)
theorem dX1_bargain_18 : decode cX1_bargain 18 = .ok (.iconst (-1), 1) := dk_2 (dk_at dksX1_bargain_0 18 rfl rfl)
theorem dX1_bargain_19 : decode cX1_bargain 19 = .ok (.istore_n 2, 1) := dk_61 (dk_at dksX1_bargain_0 19 rfl rfl)
theorem dX1_bargain_20 : decode cX1_bargain 20 = .ok (.iconst 0, 1) := dk_3 (dk_at dksX1_bargain_0 20 rfl rfl)
theorem dX1_bargain_21 : decode cX1_bargain 21 = .ok (.istore_n 3, 1) := dk_62 (dk_at dksX1_bargain_0 21 rfl rfl)
theorem dX1_bargain_22 : decode cX1_bargain 22 = .ok (.iload_n 3, 1) := dk_29 (dk_at dksX1_bargain_0 22 rfl rfl)
theorem dX1_bargain_23 : decode cX1_bargain 23 = .ok (.aload_n 0, 1) := dk_42 (dk_at dksX1_bargain_0 23 rfl rfl)
theorem dX1_bargain_24 : decode cX1_bargain 24 = .ok (.getfield 16, 3) := dk_180 0 16 (dk_at dksX1_bargain_1 0 rfl rfl)
theorem dX1_bargain_27 : decode cX1_bargain 27 = .ok (.getfield 83, 3) := dk_180 0 83 (dk_at dksX1_bargain_1 3 rfl rfl)
theorem dX1_bargain_30 : decode cX1_bargain 30 = .ok (.invokeinterface 86 1, 5) := by decide +kernel
theorem dX1_bargain_35 : decode cX1_bargain 35 = .ok (.if_icmp .ge 159, 3) := dk_162 0 159 (dk_at dksX1_bargain_1 11 rfl rfl)
theorem dX1_bargain_38 : decode cX1_bargain 38 = .ok (.iconst 0, 1) := dk_3 (dk_at dksX1_bargain_1 14 rfl rfl)
theorem dX1_bargain_39 : decode cX1_bargain 39 = .ok (.istore 4, 2) := dk_54 4 (dk_at dksX1_bargain_1 15 rfl rfl)
theorem dX1_bargain_41 : decode cX1_bargain 41 = .ok (.iload 4, 2) := dk_21 4 (dk_at dksX1_bargain_1 17 rfl rfl)
theorem dX1_bargain_43 : decode cX1_bargain 43 = .ok (.aload_n 0, 1) := dk_42 (dk_at dksX1_bargain_1 19 rfl rfl)
theorem dX1_bargain_44 : decode cX1_bargain 44 = .ok (.getfield 16, 3) := dk_180 0 16 (dk_at dksX1_bargain_1 20 rfl rfl)
theorem dX1_bargain_47 : decode cX1_bargain 47 = .ok (.getfield 83, 3) := dk_180 0 83 (dk_at dksX1_bargain_2 0 rfl rfl)
theorem dX1_bargain_50 : decode cX1_bargain 50 = .ok (.invokeinterface 86 1, 5) := by decide +kernel
theorem dX1_bargain_55 : decode cX1_bargain 55 = .ok (.if_icmp .ge 133, 3) := dk_162 0 133 (dk_at dksX1_bargain_2 8 rfl rfl)
theorem dX1_bargain_58 : decode cX1_bargain 58 = .ok (.aload_n 0, 1) := dk_42 (dk_at dksX1_bargain_2 11 rfl rfl)
theorem dX1_bargain_59 : decode cX1_bargain 59 = .ok (.getfield 27, 3) := dk_180 0 27 (dk_at dksX1_bargain_2 12 rfl rfl)
theorem dX1_bargain_62 : decode cX1_bargain 62 = .ok (.getfield 147, 3) := dk_180 0 147 (dk_at dksX1_bargain_2 15 rfl rfl)
theorem dX1_bargain_65 : decode cX1_bargain 65 = .ok (.iload_n 3, 1) := dk_29 (dk_at dksX1_bargain_2 18 rfl rfl)
theorem dX1_bargain_66 : decode cX1_bargain 66 = .ok (.iaload, 1) := dk_46 (dk_at dksX1_bargain_2 19 rfl rfl)
theorem dX1_bargain_67 : decode cX1_bargain 67 = .ok (.iconst 1, 1) := dk_4 (dk_at dksX1_bargain_2 20 rfl rfl)
theorem dX1_bargain_68 : decode cX1_bargain 68 = .ok (.if_icmp .ne 114, 3) := dk_160 0 114 (dk_at dksX1_bargain_2 21 rfl rfl)
theorem dX1_bargain_71 : decode cX1_bargain 71 = .ok (.aload_n 0, 1) := dk_42 (dk_at dksX1_bargain_3 0 rfl rfl)
theorem dX1_bargain_72 : decode cX1_bargain 72 = .ok (.getfield 27, 3) := dk_180 0 27 (dk_at dksX1_bargain_3 1 rfl rfl)
theorem dX1_bargain_75 : decode cX1_bargain 75 = .ok (.getfield 147, 3) := dk_180 0 147 (dk_at dksX1_bargain_3 4 rfl rfl)
theorem dX1_bargain_78 : decode cX1_bargain 78 = .ok (.iload 4, 2) := dk_21 4 (dk_at dksX1_bargain_3 7 rfl rfl)
theorem dX1_bargain_80 : decode cX1_bargain 80 = .ok (.iaload, 1) := dk_46 (dk_at dksX1_bargain_3 9 rfl rfl)
theorem dX1_bargain_81 : decode cX1_bargain 81 = .ok (.iconst 1, 1) := dk_4 (dk_at dksX1_bargain_3 10 rfl rfl)
theorem dX1_bargain_82 : decode cX1_bargain 82 = .ok (.if_icmp .ne 100, 3) := dk_160 0 100 (dk_at dksX1_bargain_3 11 rfl rfl)
theorem dX1_bargain_85 : decode cX1_bargain 85 = .ok (.aload_n 0, 1) := dk_42 (dk_at dksX1_bargain_3 14 rfl rfl)
theorem dX1_bargain_86 : decode cX1_bargain 86 = .ok (.getfield 16, 3) := dk_180 0 16 (dk_at dksX1_bargain_3 15 rfl rfl)
theorem dX1_bargain_89 : decode cX1_bargain 89 = .ok (.getfield 83, 3) := dk_180 0 83 (dk_at dksX1_bargain_3 18 rfl rfl)
theorem dX1_bargain_92 : decode cX1_bargain 92 = .ok (.iload_n 3, 1) := dk_29 (dk_at dksX1_bargain_3 21 rfl rfl)
theorem dX1_bargain_93 : decode cX1_bargain 93 = .ok (.invokeinterface 120 2, 5) := by decide +kernel
theorem dX1_bargain_98 : decode cX1_bargain 98 = .ok (.checkcast 124, 3) := dk_192 0 124 (dk_at dksX1_bargain_4 5 rfl rfl)
theorem dX1_bargain_101 : decode cX1_bargain 101 = .ok (.getfield 132, 3) := dk_180 0 132 (dk_at dksX1_bargain_4 8 rfl rfl)
theorem dX1_bargain_104 : decode cX1_bargain 104 = .ok (.ifCond .ne 78, 3) := dk_154 0 78 (dk_at dksX1_bargain_4 11 rfl rfl)
theorem dX1_bargain_107 : decode cX1_bargain 107 = .ok (.aload_n 0, 1) := dk_42 (dk_at dksX1_bargain_4 14 rfl rfl)
theorem dX1_bargain_108 : decode cX1_bargain 108 = .ok (.getfield 16, 3) := dk_180 0 16 (dk_at dksX1_bargain_4 15 rfl rfl)
theorem dX1_bargain_111 : decode cX1_bargain 111 = .ok (.getfield 83, 3) := dk_180 0 83 (dk_at dksX1_bargain_4 18 rfl rfl)
theorem dX1_bargain_114 : decode cX1_bargain 114 = .ok (.iload 4, 2) := dk_21 4 (dk_at dksX1_bargain_4 21 rfl rfl)
theorem dX1_bargain_116 : decode cX1_bargain 116 = .ok (.invokeinterface 120 2, 5) := by decide +kernel
theorem dX1_bargain_121 : decode cX1_bargain 121 = .ok (.checkcast 124, 3) := dk_192 0 124 (dk_at dksX1_bargain_5 5 rfl rfl)
theorem dX1_bargain_124 : decode cX1_bargain 124 = .ok (.getfield 132, 3) := dk_180 0 132 (dk_at dksX1_bargain_5 8 rfl rfl)
theorem dX1_bargain_127 : decode cX1_bargain 127 = .ok (.iconst 1, 1) := dk_4 (dk_at dksX1_bargain_5 11 rfl rfl)
theorem dX1_bargain_128 : decode cX1_bargain 128 = .ok (.if_icmp .eq 6, 3) := dk_159 0 6 (dk_at dksX1_bargain_5 12 rfl rfl)
theorem dX1_bargain_131 : decode cX1_bargain 131 = .ok (.goto 51, 3) := dk_167 0 51 (dk_at dksX1_bargain_5 15 rfl rfl)
theorem dX1_bargain_134 : decode cX1_bargain 134 = .ok (.aload_n 0, 1) := dk_42 (dk_at dksX1_bargain_5 18 rfl rfl)
theorem dX1_bargain_135 : decode cX1_bargain 135 = .ok (.getfield 16, 3) := dk_180 0 16 (dk_at dksX1_bargain_5 19 rfl rfl)
theorem dX1_bargain_138 : decode cX1_bargain 138 = .ok (.aload_n 0, 1) := dk_42 (dk_at dksX1_bargain_5 22 rfl rfl)
theorem dX1_bargain_139 : decode cX1_bargain 139 = .ok (.getfield 27, 3) := dk_180 0 27 (dk_at dksX1_bargain_6 0 rfl rfl)
theorem dX1_bargain_142 : decode cX1_bargain 142 = .ok (.invokevirtual 104, 3) := dk_182 0 104 (dk_at dksX1_bargain_6 3 rfl rfl)
theorem dX1_bargain_145 : decode cX1_bargain 145 = .ok (.iconst 1, 1) := dk_4 (dk_at dksX1_bargain_6 6 rfl rfl)
theorem dX1_bargain_146 : decode cX1_bargain 146 = .ok (.iload_n 3, 1) := dk_29 (dk_at dksX1_bargain_6 7 rfl rfl)
theorem dX1_bargain_147 : decode cX1_bargain 147 = .ok (.ishl, 1) := dk_120 (dk_at dksX1_bargain_6 8 rfl rfl)
theorem dX1_bargain_148 : decode cX1_bargain 148 = .ok (.ior, 1) := dk_128 (dk_at dksX1_bargain_6 9 rfl rfl)
theorem dX1_bargain_149 : decode cX1_bargain 149 = .ok (.iconst 1, 1) := dk_4 (dk_at dksX1_bargain_6 10 rfl rfl)
theorem dX1_bargain_150 : decode cX1_bargain 150 = .ok (.iload 4, 2) := dk_21 4 (dk_at dksX1_bargain_6 11 rfl rfl)
theorem dX1_bargain_152 : decode cX1_bargain 152 = .ok (.ishl, 1) := dk_120 (dk_at dksX1_bargain_6 13 rfl rfl)
theorem dX1_bargain_153 : decode cX1_bargain 153 = .ok (.ior, 1) := dk_128 (dk_at dksX1_bargain_6 14 rfl rfl)
theorem dX1_bargain_154 : decode cX1_bargain 154 = .ok (.invokevirtual 111, 3) := dk_182 0 111 (dk_at dksX1_bargain_6 15 rfl rfl)
theorem dX1_bargain_157 : decode cX1_bargain 157 = .ok (.invokestatic 220, 3) := dk_184 0 220 (dk_at dksX1_bargain_6 18 rfl rfl)
theorem dX1_bargain_160 : decode cX1_bargain 160 = .ok (.istore 5, 2) := dk_54 5 (dk_at dksX1_bargain_6 21 rfl rfl)
theorem dX1_bargain_162 : decode cX1_bargain 162 = .ok (.iload 5, 2) := dk_21 5 (dk_at dksX1_bargain_7 0 rfl rfl)
theorem dX1_bargain_164 : decode cX1_bargain 164 = .ok (.iload_n 1, 1) := dk_27 (dk_at dksX1_bargain_7 2 rfl rfl)
theorem dX1_bargain_165 : decode cX1_bargain 165 = .ok (.if_icmp .gt 6, 3) := dk_163 0 6 (dk_at dksX1_bargain_7 3 rfl rfl)
theorem dX1_bargain_168 : decode cX1_bargain 168 = .ok (.goto 14, 3) := dk_167 0 14 (dk_at dksX1_bargain_7 6 rfl rfl)
theorem dX1_bargain_171 : decode cX1_bargain 171 = .ok (.bipush 100, 2) := dk_16 100 (dk_at dksX1_bargain_7 9 rfl rfl)
theorem dX1_bargain_173 : decode cX1_bargain 173 = .ok (.iload_n 3, 1) := dk_29 (dk_at dksX1_bargain_7 11 rfl rfl)
theorem dX1_bargain_174 : decode cX1_bargain 174 = .ok (.imul, 1) := dk_104 (dk_at dksX1_bargain_7 12 rfl rfl)
theorem dX1_bargain_175 : decode cX1_bargain 175 = .ok (.iload 4, 2) := dk_21 4 (dk_at dksX1_bargain_7 13 rfl rfl)
theorem dX1_bargain_177 : decode cX1_bargain 177 = .ok (.iadd, 1) := dk_96 (dk_at dksX1_bargain_7 15 rfl rfl)
theorem dX1_bargain_178 : decode cX1_bargain 178 = .ok (.istore_n 2, 1) := dk_61 (dk_at dksX1_bargain_7 16 rfl rfl)
theorem dX1_bargain_179 : decode cX1_bargain 179 = .ok (.iload 5, 2) := dk_21 5 (dk_at dksX1_bargain_7 17 rfl rfl)
theorem dX1_bargain_181 : decode cX1_bargain 181 = .ok (.istore_n 1, 1) := dk_60 (dk_at dksX1_bargain_7 19 rfl rfl)
theorem dX1_bargain_182 : decode cX1_bargain 182 = .ok (.iinc 4 1, 3) := dk_132 4 1 (dk_at dksX1_bargain_7 20 rfl rfl)
theorem dX1_bargain_185 : decode cX1_bargain 185 = .ok (.goto (-144), 3) := dk_167 255 112 (dk_at dksX1_bargain_8 0 rfl rfl)
theorem dX1_bargain_188 : decode cX1_bargain 188 = .ok (.iinc 3 1, 3) := dk_132 3 1 (dk_at dksX1_bargain_8 3 rfl rfl)
theorem dX1_bargain_191 : decode cX1_bargain 191 = .ok (.goto (-169), 3) := dk_167 255 87 (dk_at dksX1_bargain_8 6 rfl rfl)
theorem dX1_bargain_194 : decode cX1_bargain 194 = .ok (.iload_n 2, 1) := dk_28 (dk_at dksX1_bargain_8 9 rfl rfl)
theorem dX1_bargain_195 : decode cX1_bargain 195 = .ok (.ireturn, 1) := dk_172 (dk_at dksX1_bargain_8 10 rfl rfl)
abbrev cX1_image : ByteArray := prog_1_method_70_code
def yX1_image : MethodName := ⟨RX1, "image", "()V"⟩
def dkwX1_image_1 : List UInt8 := [181, 1, 55, 42, 187, 0, 46, 89, 42, 180, 0, 53, 183, 1, 52, 181, 1, 58, 177]
abbrev dktX1_image_1 : List UInt8 := dkwX1_image_1 ++ []
def dkwX1_image_0 : List UInt8 := [42, 42, 180, 0, 27, 182, 0, 178, 181, 0, 80, 42, 187, 0, 46, 89, 42, 180, 0, 49, 183, 1, 52]
abbrev dktX1_image_0 : List UInt8 := dkwX1_image_0 ++ dktX1_image_1
theorem dksX1_image_0 : cX1_image.data.toList.drop 0 = dktX1_image_0 := by decide +kernel
theorem dksX1_image_1 : cX1_image.data.toList.drop 23 = dktX1_image_1 := dk_seg dksX1_image_0 23 rfl rfl
theorem dX1_image_0 : decode cX1_image 0 = .ok (.aload_n 0, 1) := dk_42 (dk_at dksX1_image_0 0 rfl rfl)
theorem dX1_image_1 : decode cX1_image 1 = .ok (.aload_n 0, 1) := dk_42 (dk_at dksX1_image_0 1 rfl rfl)
theorem dX1_image_2 : decode cX1_image 2 = .ok (.getfield 27, 3) := dk_180 0 27 (dk_at dksX1_image_0 2 rfl rfl)
theorem dX1_image_5 : decode cX1_image 5 = .ok (.invokevirtual 178, 3) := dk_182 0 178 (dk_at dksX1_image_0 5 rfl rfl)
theorem dX1_image_8 : decode cX1_image 8 = .ok (.putfield 80, 3) := dk_181 0 80 (dk_at dksX1_image_0 8 rfl rfl)
theorem dX1_image_11 : decode cX1_image 11 = .ok (.aload_n 0, 1) := dk_42 (dk_at dksX1_image_0 11 rfl rfl)
theorem dX1_image_12 : decode cX1_image 12 = .ok (.new 46, 3) := dk_187 0 46 (dk_at dksX1_image_0 12 rfl rfl)
theorem dX1_image_15 : decode cX1_image 15 = .ok (.dup, 1) := dk_89 (dk_at dksX1_image_0 15 rfl rfl)
theorem dX1_image_16 : decode cX1_image 16 = .ok (.aload_n 0, 1) := dk_42 (dk_at dksX1_image_0 16 rfl rfl)
theorem dX1_image_17 : decode cX1_image 17 = .ok (.getfield 49, 3) := dk_180 0 49 (dk_at dksX1_image_0 17 rfl rfl)
theorem dX1_image_20 : decode cX1_image 20 = .ok (.invokespecial 308, 3) := dk_183 1 52 (dk_at dksX1_image_0 20 rfl rfl)
theorem dX1_image_23 : decode cX1_image 23 = .ok (.putfield 311, 3) := dk_181 1 55 (dk_at dksX1_image_1 0 rfl rfl)
theorem dX1_image_26 : decode cX1_image 26 = .ok (.aload_n 0, 1) := dk_42 (dk_at dksX1_image_1 3 rfl rfl)
theorem dX1_image_27 : decode cX1_image 27 = .ok (.new 46, 3) := dk_187 0 46 (dk_at dksX1_image_1 4 rfl rfl)
theorem dX1_image_30 : decode cX1_image 30 = .ok (.dup, 1) := dk_89 (dk_at dksX1_image_1 7 rfl rfl)
theorem dX1_image_31 : decode cX1_image 31 = .ok (.aload_n 0, 1) := dk_42 (dk_at dksX1_image_1 8 rfl rfl)
theorem dX1_image_32 : decode cX1_image 32 = .ok (.getfield 53, 3) := dk_180 0 53 (dk_at dksX1_image_1 9 rfl rfl)
theorem dX1_image_35 : decode cX1_image 35 = .ok (.invokespecial 308, 3) := dk_183 1 52 (dk_at dksX1_image_1 12 rfl rfl)
theorem dX1_image_38 : decode cX1_image 38 = .ok (.putfield 314, 3) := dk_181 1 58 (dk_at dksX1_image_1 15 rfl rfl)
theorem dX1_image_41 : decode cX1_image 41 = .ok (.return_, 1) := dk_177 (dk_at dksX1_image_1 18 rfl rfl)
abbrev cX1_restore : ByteArray := prog_1_method_71_code
def yX1_restore : MethodName := ⟨RX1, "restore", "()Z"⟩
def dkwX1_restore_2 : List UInt8 := [181, 0, 53, 4, 172]
abbrev dktX1_restore_2 : List UInt8 := dkwX1_restore_2 ++ []
def dkwX1_restore_1 : List UInt8 := [89, 42, 180, 1, 55, 183, 1, 52, 181, 0, 49, 42, 187, 0, 46, 89, 42, 180, 1, 58, 183, 1, 52]
abbrev dktX1_restore_1 : List UInt8 := dkwX1_restore_1 ++ dktX1_restore_2
def dkwX1_restore_0 : List UInt8 := [42, 180, 0, 80, 199, 0, 5, 3, 172, 42, 42, 180, 0, 80, 182, 0, 178, 181, 0, 27, 42, 187, 0, 46]
abbrev dktX1_restore_0 : List UInt8 := dkwX1_restore_0 ++ dktX1_restore_1
theorem dksX1_restore_0 : cX1_restore.data.toList.drop 0 = dktX1_restore_0 := by decide +kernel
theorem dksX1_restore_1 : cX1_restore.data.toList.drop 24 = dktX1_restore_1 := dk_seg dksX1_restore_0 24 rfl rfl
theorem dksX1_restore_2 : cX1_restore.data.toList.drop 47 = dktX1_restore_2 := dk_seg dksX1_restore_1 23 rfl rfl
theorem dX1_restore_0 : decode cX1_restore 0 = .ok (.aload_n 0, 1) := dk_42 (dk_at dksX1_restore_0 0 rfl rfl)
theorem dX1_restore_1 : decode cX1_restore 1 = .ok (.getfield 80, 3) := dk_180 0 80 (dk_at dksX1_restore_0 1 rfl rfl)
theorem dX1_restore_4 : decode cX1_restore 4 = .ok (.ifnonnull 5, 3) := dk_199 0 5 (dk_at dksX1_restore_0 4 rfl rfl)
theorem dX1_restore_7 : decode cX1_restore 7 = .ok (.iconst 0, 1) := dk_3 (dk_at dksX1_restore_0 7 rfl rfl)
theorem dX1_restore_8 : decode cX1_restore 8 = .ok (.ireturn, 1) := dk_172 (dk_at dksX1_restore_0 8 rfl rfl)
theorem dX1_restore_9 : decode cX1_restore 9 = .ok (.aload_n 0, 1) := dk_42 (dk_at dksX1_restore_0 9 rfl rfl)
theorem dX1_restore_10 : decode cX1_restore 10 = .ok (.aload_n 0, 1) := dk_42 (dk_at dksX1_restore_0 10 rfl rfl)
theorem dX1_restore_11 : decode cX1_restore 11 = .ok (.getfield 80, 3) := dk_180 0 80 (dk_at dksX1_restore_0 11 rfl rfl)
theorem dX1_restore_14 : decode cX1_restore 14 = .ok (.invokevirtual 178, 3) := dk_182 0 178 (dk_at dksX1_restore_0 14 rfl rfl)
theorem dX1_restore_17 : decode cX1_restore 17 = .ok (.putfield 27, 3) := dk_181 0 27 (dk_at dksX1_restore_0 17 rfl rfl)
theorem dX1_restore_20 : decode cX1_restore 20 = .ok (.aload_n 0, 1) := dk_42 (dk_at dksX1_restore_0 20 rfl rfl)
theorem dX1_restore_21 : decode cX1_restore 21 = .ok (.new 46, 3) := dk_187 0 46 (dk_at dksX1_restore_0 21 rfl rfl)
theorem dX1_restore_24 : decode cX1_restore 24 = .ok (.dup, 1) := dk_89 (dk_at dksX1_restore_1 0 rfl rfl)
theorem dX1_restore_25 : decode cX1_restore 25 = .ok (.aload_n 0, 1) := dk_42 (dk_at dksX1_restore_1 1 rfl rfl)
theorem dX1_restore_26 : decode cX1_restore 26 = .ok (.getfield 311, 3) := dk_180 1 55 (dk_at dksX1_restore_1 2 rfl rfl)
theorem dX1_restore_29 : decode cX1_restore 29 = .ok (.invokespecial 308, 3) := dk_183 1 52 (dk_at dksX1_restore_1 5 rfl rfl)
theorem dX1_restore_32 : decode cX1_restore 32 = .ok (.putfield 49, 3) := dk_181 0 49 (dk_at dksX1_restore_1 8 rfl rfl)
theorem dX1_restore_35 : decode cX1_restore 35 = .ok (.aload_n 0, 1) := dk_42 (dk_at dksX1_restore_1 11 rfl rfl)
theorem dX1_restore_36 : decode cX1_restore 36 = .ok (.new 46, 3) := dk_187 0 46 (dk_at dksX1_restore_1 12 rfl rfl)
theorem dX1_restore_39 : decode cX1_restore 39 = .ok (.dup, 1) := dk_89 (dk_at dksX1_restore_1 15 rfl rfl)
theorem dX1_restore_40 : decode cX1_restore 40 = .ok (.aload_n 0, 1) := dk_42 (dk_at dksX1_restore_1 16 rfl rfl)
theorem dX1_restore_41 : decode cX1_restore 41 = .ok (.getfield 314, 3) := dk_180 1 58 (dk_at dksX1_restore_1 17 rfl rfl)
theorem dX1_restore_44 : decode cX1_restore 44 = .ok (.invokespecial 308, 3) := dk_183 1 52 (dk_at dksX1_restore_1 20 rfl rfl)
theorem dX1_restore_47 : decode cX1_restore 47 = .ok (.putfield 53, 3) := dk_181 0 53 (dk_at dksX1_restore_2 0 rfl rfl)
theorem dX1_restore_50 : decode cX1_restore 50 = .ok (.iconst 1, 1) := dk_4 (dk_at dksX1_restore_2 3 rfl rfl)
theorem dX1_restore_51 : decode cX1_restore 51 = .ok (.ireturn, 1) := dk_172 (dk_at dksX1_restore_2 4 rfl rfl)
abbrev cX1_valley : ByteArray := prog_1_method_7_code
def yX1_valley : MethodName := ⟨RX1, "valley", "(I)I"⟩
def dkwX1_valley_4 : List UInt8 := [183, 0, 48, 181, 0, 49, 42, 187, 0, 46, 89, 183, 0, 48, 181, 0, 53, 42, 1, 181, 0, 80, 3, 172]
abbrev dktX1_valley_4 : List UInt8 := dkwX1_valley_4 ++ []
def dkwX1_valley_3 : List UInt8 := [79, 45, 180, 0, 77, 172, 42, 187, 0, 22, 89, 42, 183, 0, 24, 181, 0, 27, 42, 187, 0, 46, 89]
abbrev dktX1_valley_3 : List UInt8 := dkwX1_valley_3 ++ dktX1_valley_4
def dkwX1_valley_2 : List UInt8 := [181, 0, 16, 167, 0, 27, 78, 42, 44, 180, 0, 74, 181, 0, 39, 42, 180, 0, 43, 3, 92, 46, 4, 96]
abbrev dktX1_valley_2 : List UInt8 := dkwX1_valley_2 ++ dktX1_valley_3
def dkwX1_valley_1 : List UInt8 := [181, 0, 56, 42, 2, 181, 0, 39, 187, 0, 63, 89, 42, 27, 183, 0, 65, 77, 42, 44, 182, 0, 68]
abbrev dktX1_valley_1 : List UInt8 := dkwX1_valley_1 ++ dktX1_valley_2
def dkwX1_valley_0 : List UInt8 := [27, 155, 0, 15, 27, 42, 180, 0, 56, 163, 0, 7, 4, 167, 0, 4, 3, 184, 0, 59, 42, 3]
abbrev dktX1_valley_0 : List UInt8 := dkwX1_valley_0 ++ dktX1_valley_1
theorem dksX1_valley_0 : cX1_valley.data.toList.drop 0 = dktX1_valley_0 := by decide +kernel
theorem dksX1_valley_1 : cX1_valley.data.toList.drop 22 = dktX1_valley_1 := dk_seg dksX1_valley_0 22 rfl rfl
theorem dksX1_valley_2 : cX1_valley.data.toList.drop 45 = dktX1_valley_2 := dk_seg dksX1_valley_1 23 rfl rfl
theorem dksX1_valley_3 : cX1_valley.data.toList.drop 69 = dktX1_valley_3 := dk_seg dksX1_valley_2 24 rfl rfl
theorem dksX1_valley_4 : cX1_valley.data.toList.drop 92 = dktX1_valley_4 := dk_seg dksX1_valley_3 23 rfl rfl
theorem dX1_valley_0 : decode cX1_valley 0 = .ok (.iload_n 1, 1) := dk_27 (dk_at dksX1_valley_0 0 rfl rfl)
theorem dX1_valley_1 : decode cX1_valley 1 = .ok (.ifCond .lt 15, 3) := dk_155 0 15 (dk_at dksX1_valley_0 1 rfl rfl)
theorem dX1_valley_4 : decode cX1_valley 4 = .ok (.iload_n 1, 1) := dk_27 (dk_at dksX1_valley_0 4 rfl rfl)
theorem dX1_valley_5 : decode cX1_valley 5 = .ok (.aload_n 0, 1) := dk_42 (dk_at dksX1_valley_0 5 rfl rfl)
theorem dX1_valley_6 : decode cX1_valley 6 = .ok (.getfield 56, 3) := dk_180 0 56 (dk_at dksX1_valley_0 6 rfl rfl)
theorem dX1_valley_9 : decode cX1_valley 9 = .ok (.if_icmp .gt 7, 3) := dk_163 0 7 (dk_at dksX1_valley_0 9 rfl rfl)
theorem dX1_valley_12 : decode cX1_valley 12 = .ok (.iconst 1, 1) := dk_4 (dk_at dksX1_valley_0 12 rfl rfl)
theorem dX1_valley_13 : decode cX1_valley 13 = .ok (.goto 4, 3) := dk_167 0 4 (dk_at dksX1_valley_0 13 rfl rfl)
theorem dX1_valley_16 : decode cX1_valley 16 = .ok (.iconst 0, 1) := dk_3 (dk_at dksX1_valley_0 16 rfl rfl)
theorem dX1_valley_17 : decode cX1_valley 17 = .ok (.invokestatic 59, 3) := dk_184 0 59 (dk_at dksX1_valley_0 17 rfl rfl)
theorem dX1_valley_20 : decode cX1_valley 20 = .ok (.aload_n 0, 1) := dk_42 (dk_at dksX1_valley_0 20 rfl rfl)
theorem dX1_valley_21 : decode cX1_valley 21 = .ok (.iconst 0, 1) := dk_3 (dk_at dksX1_valley_0 21 rfl rfl)
theorem dX1_valley_22 : decode cX1_valley 22 = .ok (.putfield 56, 3) := dk_181 0 56 (dk_at dksX1_valley_1 0 rfl rfl)
theorem dX1_valley_25 : decode cX1_valley 25 = .ok (.aload_n 0, 1) := dk_42 (dk_at dksX1_valley_1 3 rfl rfl)
theorem dX1_valley_26 : decode cX1_valley 26 = .ok (.iconst (-1), 1) := dk_2 (dk_at dksX1_valley_1 4 rfl rfl)
theorem dX1_valley_27 : decode cX1_valley 27 = .ok (.putfield 39, 3) := dk_181 0 39 (dk_at dksX1_valley_1 5 rfl rfl)
theorem dX1_valley_30 : decode cX1_valley 30 = .ok (.new 63, 3) := dk_187 0 63 (dk_at dksX1_valley_1 8 rfl rfl)
theorem dX1_valley_33 : decode cX1_valley 33 = .ok (.dup, 1) := dk_89 (dk_at dksX1_valley_1 11 rfl rfl)
theorem dX1_valley_34 : decode cX1_valley 34 = .ok (.aload_n 0, 1) := dk_42 (dk_at dksX1_valley_1 12 rfl rfl)
theorem dX1_valley_35 : decode cX1_valley 35 = .ok (.iload_n 1, 1) := dk_27 (dk_at dksX1_valley_1 13 rfl rfl)
theorem dX1_valley_36 : decode cX1_valley 36 = .ok (.invokespecial 65, 3) := dk_183 0 65 (dk_at dksX1_valley_1 14 rfl rfl)
theorem dX1_valley_39 : decode cX1_valley 39 = .ok (.astore_n 2, 1) := dk_77 (dk_at dksX1_valley_1 17 rfl rfl)
theorem dX1_valley_40 : decode cX1_valley 40 = .ok (.aload_n 0, 1) := dk_42 (dk_at dksX1_valley_1 18 rfl rfl)
theorem dX1_valley_41 : decode cX1_valley 41 = .ok (.aload_n 2, 1) := dk_44 (dk_at dksX1_valley_1 19 rfl rfl)
theorem dX1_valley_42 : decode cX1_valley 42 = .ok (.invokevirtual 68, 3) := dk_182 0 68 (dk_at dksX1_valley_1 20 rfl rfl)
theorem dX1_valley_45 : decode cX1_valley 45 = .ok (.putfield 16, 3) := dk_181 0 16 (dk_at dksX1_valley_2 0 rfl rfl)
theorem dX1_valley_48 : decode cX1_valley 48 = .ok (.goto 27, 3) := dk_167 0 27 (dk_at dksX1_valley_2 3 rfl rfl)
theorem dX1_valley_51 : decode cX1_valley 51 = .ok (.astore_n 3, 1) := dk_78 (dk_at dksX1_valley_2 6 rfl rfl)
theorem dX1_valley_52 : decode cX1_valley 52 = .ok (.aload_n 0, 1) := dk_42 (dk_at dksX1_valley_2 7 rfl rfl)
theorem dX1_valley_53 : decode cX1_valley 53 = .ok (.aload_n 2, 1) := dk_44 (dk_at dksX1_valley_2 8 rfl rfl)
theorem dX1_valley_54 : decode cX1_valley 54 = .ok (.getfield 74, 3) := dk_180 0 74 (dk_at dksX1_valley_2 9 rfl rfl)
theorem dX1_valley_57 : decode cX1_valley 57 = .ok (.putfield 39, 3) := dk_181 0 39 (dk_at dksX1_valley_2 12 rfl rfl)
theorem dX1_valley_60 : decode cX1_valley 60 = .ok (.aload_n 0, 1) := dk_42 (dk_at dksX1_valley_2 15 rfl rfl)
theorem dX1_valley_61 : decode cX1_valley 61 = .ok (.getfield 43, 3) := dk_180 0 43 (dk_at dksX1_valley_2 16 rfl rfl)
theorem dX1_valley_64 : decode cX1_valley 64 = .ok (.iconst 0, 1) := dk_3 (dk_at dksX1_valley_2 19 rfl rfl)
theorem dX1_valley_65 : decode cX1_valley 65 = .ok (.dup2, 1) := dk_92 (dk_at dksX1_valley_2 20 rfl rfl)
theorem dX1_valley_66 : decode cX1_valley 66 = .ok (.iaload, 1) := dk_46 (dk_at dksX1_valley_2 21 rfl rfl)
theorem dX1_valley_67 : decode cX1_valley 67 = .ok (.iconst 1, 1) := dk_4 (dk_at dksX1_valley_2 22 rfl rfl)
theorem dX1_valley_68 : decode cX1_valley 68 = .ok (.iadd, 1) := dk_96 (dk_at dksX1_valley_2 23 rfl rfl)
theorem dX1_valley_69 : decode cX1_valley 69 = .ok (.iastore, 1) := dk_79 (dk_at dksX1_valley_3 0 rfl rfl)
theorem dX1_valley_70 : decode cX1_valley 70 = .ok (.aload_n 3, 1) := dk_45 (dk_at dksX1_valley_3 1 rfl rfl)
theorem dX1_valley_71 : decode cX1_valley 71 = .ok (.getfield 77, 3) := dk_180 0 77 (dk_at dksX1_valley_3 2 rfl rfl)
theorem dX1_valley_74 : decode cX1_valley 74 = .ok (.ireturn, 1) := dk_172 (dk_at dksX1_valley_3 5 rfl rfl)
theorem dX1_valley_75 : decode cX1_valley 75 = .ok (.aload_n 0, 1) := dk_42 (dk_at dksX1_valley_3 6 rfl rfl)
theorem dX1_valley_76 : decode cX1_valley 76 = .ok (.new 22, 3) := dk_187 0 22 (dk_at dksX1_valley_3 7 rfl rfl)
theorem dX1_valley_79 : decode cX1_valley 79 = .ok (.dup, 1) := dk_89 (dk_at dksX1_valley_3 10 rfl rfl)
theorem dX1_valley_80 : decode cX1_valley 80 = .ok (.aload_n 0, 1) := dk_42 (dk_at dksX1_valley_3 11 rfl rfl)
theorem dX1_valley_81 : decode cX1_valley 81 = .ok (.invokespecial 24, 3) := dk_183 0 24 (dk_at dksX1_valley_3 12 rfl rfl)
theorem dX1_valley_84 : decode cX1_valley 84 = .ok (.putfield 27, 3) := dk_181 0 27 (dk_at dksX1_valley_3 15 rfl rfl)
theorem dX1_valley_87 : decode cX1_valley 87 = .ok (.aload_n 0, 1) := dk_42 (dk_at dksX1_valley_3 18 rfl rfl)
theorem dX1_valley_88 : decode cX1_valley 88 = .ok (.new 46, 3) := dk_187 0 46 (dk_at dksX1_valley_3 19 rfl rfl)
theorem dX1_valley_91 : decode cX1_valley 91 = .ok (.dup, 1) := dk_89 (dk_at dksX1_valley_3 22 rfl rfl)
theorem dX1_valley_92 : decode cX1_valley 92 = .ok (.invokespecial 48, 3) := dk_183 0 48 (dk_at dksX1_valley_4 0 rfl rfl)
theorem dX1_valley_95 : decode cX1_valley 95 = .ok (.putfield 49, 3) := dk_181 0 49 (dk_at dksX1_valley_4 3 rfl rfl)
theorem dX1_valley_98 : decode cX1_valley 98 = .ok (.aload_n 0, 1) := dk_42 (dk_at dksX1_valley_4 6 rfl rfl)
theorem dX1_valley_99 : decode cX1_valley 99 = .ok (.new 46, 3) := dk_187 0 46 (dk_at dksX1_valley_4 7 rfl rfl)
theorem dX1_valley_102 : decode cX1_valley 102 = .ok (.dup, 1) := dk_89 (dk_at dksX1_valley_4 10 rfl rfl)
theorem dX1_valley_103 : decode cX1_valley 103 = .ok (.invokespecial 48, 3) := dk_183 0 48 (dk_at dksX1_valley_4 11 rfl rfl)
theorem dX1_valley_106 : decode cX1_valley 106 = .ok (.putfield 53, 3) := dk_181 0 53 (dk_at dksX1_valley_4 14 rfl rfl)
theorem dX1_valley_109 : decode cX1_valley 109 = .ok (.aload_n 0, 1) := dk_42 (dk_at dksX1_valley_4 17 rfl rfl)
theorem dX1_valley_110 : decode cX1_valley 110 = .ok (.aconst_null, 1) := dk_1 (dk_at dksX1_valley_4 18 rfl rfl)
theorem dX1_valley_111 : decode cX1_valley 111 = .ok (.putfield 80, 3) := dk_181 0 80 (dk_at dksX1_valley_4 19 rfl rfl)
theorem dX1_valley_114 : decode cX1_valley 114 = .ok (.iconst 0, 1) := dk_3 (dk_at dksX1_valley_4 22 rfl rfl)
theorem dX1_valley_115 : decode cX1_valley 115 = .ok (.ireturn, 1) := dk_172 (dk_at dksX1_valley_4 23 rfl rfl)
abbrev cX1_right : ByteArray := prog_1_method_3_code
def yX1_right : MethodName := ⟨RX1, "right", "(Z)V"⟩
def dkwX1_right_0 : List UInt8 := [26, 154, 0, 11, 187, 0, 7, 89, 183, 0, 9, 191, 177]
abbrev dktX1_right_0 : List UInt8 := dkwX1_right_0 ++ []
theorem dksX1_right_0 : cX1_right.data.toList.drop 0 = dktX1_right_0 := by decide +kernel
theorem dX1_right_0 : decode cX1_right 0 = .ok (.iload_n 0, 1) := dk_26 (dk_at dksX1_right_0 0 rfl rfl)
theorem dX1_right_1 : decode cX1_right 1 = .ok (.ifCond .ne 11, 3) := dk_154 0 11 (dk_at dksX1_right_0 1 rfl rfl)
theorem dX1_right_4 : decode cX1_right 4 = .ok (.new 7, 3) := dk_187 0 7 (dk_at dksX1_right_0 4 rfl rfl)
theorem dX1_right_7 : decode cX1_right 7 = .ok (.dup, 1) := dk_89 (dk_at dksX1_right_0 7 rfl rfl)
theorem dX1_right_8 : decode cX1_right 8 = .ok (.invokespecial 9, 3) := dk_183 0 9 (dk_at dksX1_right_0 8 rfl rfl)
theorem dX1_right_11 : decode cX1_right 11 = .ok (.athrow, 1) := dk_191 (dk_at dksX1_right_0 11 rfl rfl)
theorem dX1_right_12 : decode cX1_right 12 = .ok (.return_, 1) := dk_177 (dk_at dksX1_right_0 12 rfl rfl)
abbrev cX1_count : ByteArray := prog_1_method_9_code
def yX1_count : MethodName := ⟨RX1, "count", "(I)I"⟩
def dkwX1_count_7 : List UInt8 := [172, 27, 16, 12, 16, 14, 184, 0, 113, 184, 0, 117, 42, 180, 0, 43, 27, 16, 12, 100, 46, 172]
abbrev dktX1_count_7 : List UInt8 := dkwX1_count_7 ++ []
def dkwX1_count_6 : List UInt8 := [42, 180, 0, 49, 185, 0, 86, 1, 0, 172, 42, 180, 0, 53, 185, 0, 86, 1, 0, 172, 42, 180, 0, 56]
abbrev dktX1_count_6 : List UInt8 := dkwX1_count_6 ++ dktX1_count_7
def dkwX1_count_5 : List UInt8 := [42, 180, 0, 27, 5, 182, 0, 107, 172, 42, 180, 0, 16, 42, 180, 0, 27, 182, 0, 104, 182, 0, 111, 172]
abbrev dktX1_count_5 : List UInt8 := dkwX1_count_5 ++ dktX1_count_6
def dkwX1_count_4 : List UInt8 := [180, 0, 27, 180, 0, 101, 172, 42, 180, 0, 27, 182, 0, 104, 172, 42, 180, 0, 27, 4, 182, 0, 107, 172]
abbrev dktX1_count_4 : List UInt8 := dkwX1_count_4 ++ dktX1_count_5
def dkwX1_count_3 : List UInt8 := [185, 0, 86, 1, 0, 172, 42, 180, 0, 16, 180, 0, 95, 172, 42, 180, 0, 27, 180, 0, 98, 172, 42]
abbrev dktX1_count_3 : List UInt8 := dkwX1_count_3 ++ dktX1_count_4
def dkwX1_count_2 : List UInt8 := [42, 180, 0, 16, 180, 0, 83, 185, 0, 86, 1, 0, 172, 42, 180, 0, 16, 180, 0, 92]
abbrev dktX1_count_2 : List UInt8 := dkwX1_count_2 ++ dktX1_count_3
def dkwX1_count_1 : List UInt8 := [170, 0, 0, 0, 0, 0, 179, 0, 0, 0, 0, 0, 0, 0, 11, 0, 0, 0, 63, 0, 0, 0, 76, 0, 0, 0, 89, 0, 0, 0, 97, 0, 0, 0, 105, 0, 0, 0, 113, 0, 0, 0, 121, 0, 0, 0, 130, 0, 0, 0, 139, 0, 0, 0, 154, 0, 0, 0, 164, 0, 0, 0, 174]
abbrev dktX1_count_1 : List UInt8 := dkwX1_count_1 ++ dktX1_count_2
def dkwX1_count_0 : List UInt8 := [27]
abbrev dktX1_count_0 : List UInt8 := dkwX1_count_0 ++ dktX1_count_1
theorem dksX1_count_0 : cX1_count.data.toList.drop 0 = dktX1_count_0 := by decide +kernel
theorem dksX1_count_1 : cX1_count.data.toList.drop 1 = dktX1_count_1 := dk_seg dksX1_count_0 1 rfl rfl
theorem dksX1_count_2 : cX1_count.data.toList.drop 64 = dktX1_count_2 := dk_seg dksX1_count_1 63 rfl rfl
theorem dksX1_count_3 : cX1_count.data.toList.drop 84 = dktX1_count_3 := dk_seg dksX1_count_2 20 rfl rfl
theorem dksX1_count_4 : cX1_count.data.toList.drop 107 = dktX1_count_4 := dk_seg dksX1_count_3 23 rfl rfl
theorem dksX1_count_5 : cX1_count.data.toList.drop 131 = dktX1_count_5 := dk_seg dksX1_count_4 24 rfl rfl
theorem dksX1_count_6 : cX1_count.data.toList.drop 155 = dktX1_count_6 := dk_seg dksX1_count_5 24 rfl rfl
theorem dksX1_count_7 : cX1_count.data.toList.drop 179 = dktX1_count_7 := dk_seg dksX1_count_6 24 rfl rfl
theorem dX1_count_0 : decode cX1_count 0 = .ok (.iload_n 1, 1) := dk_27 (dk_at dksX1_count_0 0 rfl rfl)
theorem dX1_count_1 : decode cX1_count 1 = .ok (.tableswitch 179 0 11 #[63, 76, 89, 97, 105, 113, 121, 130, 139, 154, 164, 174], 63) := by decide +kernel
theorem dX1_count_64 : decode cX1_count 64 = .ok (.aload_n 0, 1) := dk_42 (dk_at dksX1_count_2 0 rfl rfl)
theorem dX1_count_65 : decode cX1_count 65 = .ok (.getfield 16, 3) := dk_180 0 16 (dk_at dksX1_count_2 1 rfl rfl)
theorem dX1_count_68 : decode cX1_count 68 = .ok (.getfield 83, 3) := dk_180 0 83 (dk_at dksX1_count_2 4 rfl rfl)
theorem dX1_count_71 : decode cX1_count 71 = .ok (.invokeinterface 86 1, 5) := by decide +kernel
theorem dX1_count_76 : decode cX1_count 76 = .ok (.ireturn, 1) := dk_172 (dk_at dksX1_count_2 12 rfl rfl)
theorem dX1_count_77 : decode cX1_count 77 = .ok (.aload_n 0, 1) := dk_42 (dk_at dksX1_count_2 13 rfl rfl)
theorem dX1_count_78 : decode cX1_count 78 = .ok (.getfield 16, 3) := dk_180 0 16 (dk_at dksX1_count_2 14 rfl rfl)
theorem dX1_count_81 : decode cX1_count 81 = .ok (.getfield 92, 3) := dk_180 0 92 (dk_at dksX1_count_2 17 rfl rfl)
theorem dX1_count_84 : decode cX1_count 84 = .ok (.invokeinterface 86 1, 5) := by decide +kernel
theorem dX1_count_89 : decode cX1_count 89 = .ok (.ireturn, 1) := dk_172 (dk_at dksX1_count_3 5 rfl rfl)
theorem dX1_count_90 : decode cX1_count 90 = .ok (.aload_n 0, 1) := dk_42 (dk_at dksX1_count_3 6 rfl rfl)
theorem dX1_count_91 : decode cX1_count 91 = .ok (.getfield 16, 3) := dk_180 0 16 (dk_at dksX1_count_3 7 rfl rfl)
theorem dX1_count_94 : decode cX1_count 94 = .ok (.getfield 95, 3) := dk_180 0 95 (dk_at dksX1_count_3 10 rfl rfl)
theorem dX1_count_97 : decode cX1_count 97 = .ok (.ireturn, 1) := dk_172 (dk_at dksX1_count_3 13 rfl rfl)
theorem dX1_count_98 : decode cX1_count 98 = .ok (.aload_n 0, 1) := dk_42 (dk_at dksX1_count_3 14 rfl rfl)
theorem dX1_count_99 : decode cX1_count 99 = .ok (.getfield 27, 3) := dk_180 0 27 (dk_at dksX1_count_3 15 rfl rfl)
theorem dX1_count_102 : decode cX1_count 102 = .ok (.getfield 98, 3) := dk_180 0 98 (dk_at dksX1_count_3 18 rfl rfl)
theorem dX1_count_105 : decode cX1_count 105 = .ok (.ireturn, 1) := dk_172 (dk_at dksX1_count_3 21 rfl rfl)
theorem dX1_count_106 : decode cX1_count 106 = .ok (.aload_n 0, 1) := dk_42 (dk_at dksX1_count_3 22 rfl rfl)
theorem dX1_count_107 : decode cX1_count 107 = .ok (.getfield 27, 3) := dk_180 0 27 (dk_at dksX1_count_4 0 rfl rfl)
theorem dX1_count_110 : decode cX1_count 110 = .ok (.getfield 101, 3) := dk_180 0 101 (dk_at dksX1_count_4 3 rfl rfl)
theorem dX1_count_113 : decode cX1_count 113 = .ok (.ireturn, 1) := dk_172 (dk_at dksX1_count_4 6 rfl rfl)
theorem dX1_count_114 : decode cX1_count 114 = .ok (.aload_n 0, 1) := dk_42 (dk_at dksX1_count_4 7 rfl rfl)
theorem dX1_count_115 : decode cX1_count 115 = .ok (.getfield 27, 3) := dk_180 0 27 (dk_at dksX1_count_4 8 rfl rfl)
theorem dX1_count_118 : decode cX1_count 118 = .ok (.invokevirtual 104, 3) := dk_182 0 104 (dk_at dksX1_count_4 11 rfl rfl)
theorem dX1_count_121 : decode cX1_count 121 = .ok (.ireturn, 1) := dk_172 (dk_at dksX1_count_4 14 rfl rfl)
theorem dX1_count_122 : decode cX1_count 122 = .ok (.aload_n 0, 1) := dk_42 (dk_at dksX1_count_4 15 rfl rfl)
theorem dX1_count_123 : decode cX1_count 123 = .ok (.getfield 27, 3) := dk_180 0 27 (dk_at dksX1_count_4 16 rfl rfl)
theorem dX1_count_126 : decode cX1_count 126 = .ok (.iconst 1, 1) := dk_4 (dk_at dksX1_count_4 19 rfl rfl)
theorem dX1_count_127 : decode cX1_count 127 = .ok (.invokevirtual 107, 3) := dk_182 0 107 (dk_at dksX1_count_4 20 rfl rfl)
theorem dX1_count_130 : decode cX1_count 130 = .ok (.ireturn, 1) := dk_172 (dk_at dksX1_count_4 23 rfl rfl)
theorem dX1_count_131 : decode cX1_count 131 = .ok (.aload_n 0, 1) := dk_42 (dk_at dksX1_count_5 0 rfl rfl)
theorem dX1_count_132 : decode cX1_count 132 = .ok (.getfield 27, 3) := dk_180 0 27 (dk_at dksX1_count_5 1 rfl rfl)
theorem dX1_count_135 : decode cX1_count 135 = .ok (.iconst 2, 1) := dk_5 (dk_at dksX1_count_5 4 rfl rfl)
theorem dX1_count_136 : decode cX1_count 136 = .ok (.invokevirtual 107, 3) := dk_182 0 107 (dk_at dksX1_count_5 5 rfl rfl)
theorem dX1_count_139 : decode cX1_count 139 = .ok (.ireturn, 1) := dk_172 (dk_at dksX1_count_5 8 rfl rfl)
theorem dX1_count_140 : decode cX1_count 140 = .ok (.aload_n 0, 1) := dk_42 (dk_at dksX1_count_5 9 rfl rfl)
theorem dX1_count_141 : decode cX1_count 141 = .ok (.getfield 16, 3) := dk_180 0 16 (dk_at dksX1_count_5 10 rfl rfl)
theorem dX1_count_144 : decode cX1_count 144 = .ok (.aload_n 0, 1) := dk_42 (dk_at dksX1_count_5 13 rfl rfl)
theorem dX1_count_145 : decode cX1_count 145 = .ok (.getfield 27, 3) := dk_180 0 27 (dk_at dksX1_count_5 14 rfl rfl)
theorem dX1_count_148 : decode cX1_count 148 = .ok (.invokevirtual 104, 3) := dk_182 0 104 (dk_at dksX1_count_5 17 rfl rfl)
theorem dX1_count_151 : decode cX1_count 151 = .ok (.invokevirtual 111, 3) := dk_182 0 111 (dk_at dksX1_count_5 20 rfl rfl)
theorem dX1_count_154 : decode cX1_count 154 = .ok (.ireturn, 1) := dk_172 (dk_at dksX1_count_5 23 rfl rfl)
theorem dX1_count_155 : decode cX1_count 155 = .ok (.aload_n 0, 1) := dk_42 (dk_at dksX1_count_6 0 rfl rfl)
theorem dX1_count_156 : decode cX1_count 156 = .ok (.getfield 49, 3) := dk_180 0 49 (dk_at dksX1_count_6 1 rfl rfl)
theorem dX1_count_159 : decode cX1_count 159 = .ok (.invokeinterface 86 1, 5) := by decide +kernel
theorem dX1_count_164 : decode cX1_count 164 = .ok (.ireturn, 1) := dk_172 (dk_at dksX1_count_6 9 rfl rfl)
theorem dX1_count_165 : decode cX1_count 165 = .ok (.aload_n 0, 1) := dk_42 (dk_at dksX1_count_6 10 rfl rfl)
theorem dX1_count_166 : decode cX1_count 166 = .ok (.getfield 53, 3) := dk_180 0 53 (dk_at dksX1_count_6 11 rfl rfl)
theorem dX1_count_169 : decode cX1_count 169 = .ok (.invokeinterface 86 1, 5) := by decide +kernel
theorem dX1_count_174 : decode cX1_count 174 = .ok (.ireturn, 1) := dk_172 (dk_at dksX1_count_6 19 rfl rfl)
theorem dX1_count_175 : decode cX1_count 175 = .ok (.aload_n 0, 1) := dk_42 (dk_at dksX1_count_6 20 rfl rfl)
theorem dX1_count_176 : decode cX1_count 176 = .ok (.getfield 56, 3) := dk_180 0 56 (dk_at dksX1_count_6 21 rfl rfl)
theorem dX1_count_179 : decode cX1_count 179 = .ok (.ireturn, 1) := dk_172 (dk_at dksX1_count_7 0 rfl rfl)
theorem dX1_count_180 : decode cX1_count 180 = .ok (.iload_n 1, 1) := dk_27 (dk_at dksX1_count_7 1 rfl rfl)
theorem dX1_count_181 : decode cX1_count 181 = .ok (.bipush 12, 2) := dk_16 12 (dk_at dksX1_count_7 2 rfl rfl)
theorem dX1_count_183 : decode cX1_count 183 = .ok (.bipush 14, 2) := dk_16 14 (dk_at dksX1_count_7 4 rfl rfl)
theorem dX1_count_185 : decode cX1_count 185 = .ok (.invokestatic 113, 3) := dk_184 0 113 (dk_at dksX1_count_7 6 rfl rfl)
theorem dX1_count_188 : decode cX1_count 188 = .ok (.invokestatic 117, 3) := dk_184 0 117 (dk_at dksX1_count_7 9 rfl rfl)
theorem dX1_count_191 : decode cX1_count 191 = .ok (.aload_n 0, 1) := dk_42 (dk_at dksX1_count_7 12 rfl rfl)
theorem dX1_count_192 : decode cX1_count 192 = .ok (.getfield 43, 3) := dk_180 0 43 (dk_at dksX1_count_7 13 rfl rfl)
theorem dX1_count_195 : decode cX1_count 195 = .ok (.iload_n 1, 1) := dk_27 (dk_at dksX1_count_7 16 rfl rfl)
theorem dX1_count_196 : decode cX1_count 196 = .ok (.bipush 12, 2) := dk_16 12 (dk_at dksX1_count_7 17 rfl rfl)
theorem dX1_count_198 : decode cX1_count 198 = .ok (.isub, 1) := dk_100 (dk_at dksX1_count_7 19 rfl rfl)
theorem dX1_count_199 : decode cX1_count 199 = .ok (.iaload, 1) := dk_46 (dk_at dksX1_count_7 20 rfl rfl)
theorem dX1_count_200 : decode cX1_count 200 = .ok (.ireturn, 1) := dk_172 (dk_at dksX1_count_7 21 rfl rfl)
abbrev cX1_found : ByteArray := prog_1_method_2_code
def yX1_found : MethodName := ⟨RX1, "found", "(Z)V"⟩
def dkwX1_found_0 : List UInt8 := [26, 154, 0, 11, 187, 0, 1, 89, 183, 0, 3, 191, 177]
abbrev dktX1_found_0 : List UInt8 := dkwX1_found_0 ++ []
theorem dksX1_found_0 : cX1_found.data.toList.drop 0 = dktX1_found_0 := by decide +kernel
theorem dX1_found_0 : decode cX1_found 0 = .ok (.iload_n 0, 1) := dk_26 (dk_at dksX1_found_0 0 rfl rfl)
theorem dX1_found_1 : decode cX1_found 1 = .ok (.ifCond .ne 11, 3) := dk_154 0 11 (dk_at dksX1_found_0 1 rfl rfl)
theorem dX1_found_4 : decode cX1_found 4 = .ok (.new 1, 3) := dk_187 0 1 (dk_at dksX1_found_0 4 rfl rfl)
theorem dX1_found_7 : decode cX1_found 7 = .ok (.dup, 1) := dk_89 (dk_at dksX1_found_0 7 rfl rfl)
theorem dX1_found_8 : decode cX1_found 8 = .ok (.invokespecial 3, 3) := dk_183 0 3 (dk_at dksX1_found_0 8 rfl rfl)
theorem dX1_found_11 : decode cX1_found 11 = .ok (.athrow, 1) := dk_191 (dk_at dksX1_found_0 11 rfl rfl)
theorem dX1_found_12 : decode cX1_found 12 = .ok (.return_, 1) := dk_177 (dk_at dksX1_found_0 12 rfl rfl)
abbrev cX1_singer : ByteArray := prog_1_method_13_code
def yX1_singer : MethodName := ⟨RX1, "singer", "(II)I"⟩
def dkwX1_singer_3 : List UInt8 := [172, 28, 8, 160, 0, 7, 4, 167, 0, 4, 3, 184, 0, 117, 42, 180, 0, 27, 180, 0, 147, 27, 46, 172]
abbrev dktX1_singer_3 : List UInt8 := dkwX1_singer_3 ++ []
def dkwX1_singer_2 : List UInt8 := [45, 180, 0, 132, 172, 45, 180, 0, 135, 172, 45, 180, 0, 138, 172, 45, 180, 0, 141, 172, 45, 180, 0, 144]
abbrev dktX1_singer_2 : List UInt8 := dkwX1_singer_2 ++ dktX1_singer_3
def dkwX1_singer_1 : List UInt8 := [170, 0, 0, 0, 58, 0, 0, 0, 0, 0, 0, 0, 4, 0, 0, 0, 33, 0, 0, 0, 38, 0, 0, 0, 43, 0, 0, 0, 48, 0, 0, 0, 53]
abbrev dktX1_singer_1 : List UInt8 := dkwX1_singer_1 ++ dktX1_singer_2
def dkwX1_singer_0 : List UInt8 := [42, 27, 182, 0, 128, 78, 28]
abbrev dktX1_singer_0 : List UInt8 := dkwX1_singer_0 ++ dktX1_singer_1
theorem dksX1_singer_0 : cX1_singer.data.toList.drop 0 = dktX1_singer_0 := by decide +kernel
theorem dksX1_singer_1 : cX1_singer.data.toList.drop 7 = dktX1_singer_1 := dk_seg dksX1_singer_0 7 rfl rfl
theorem dksX1_singer_2 : cX1_singer.data.toList.drop 40 = dktX1_singer_2 := dk_seg dksX1_singer_1 33 rfl rfl
theorem dksX1_singer_3 : cX1_singer.data.toList.drop 64 = dktX1_singer_3 := dk_seg dksX1_singer_2 24 rfl rfl
theorem dX1_singer_0 : decode cX1_singer 0 = .ok (.aload_n 0, 1) := dk_42 (dk_at dksX1_singer_0 0 rfl rfl)
theorem dX1_singer_1 : decode cX1_singer 1 = .ok (.iload_n 1, 1) := dk_27 (dk_at dksX1_singer_0 1 rfl rfl)
theorem dX1_singer_2 : decode cX1_singer 2 = .ok (.invokevirtual 128, 3) := dk_182 0 128 (dk_at dksX1_singer_0 2 rfl rfl)
theorem dX1_singer_5 : decode cX1_singer 5 = .ok (.astore_n 3, 1) := dk_78 (dk_at dksX1_singer_0 5 rfl rfl)
theorem dX1_singer_6 : decode cX1_singer 6 = .ok (.iload_n 2, 1) := dk_28 (dk_at dksX1_singer_0 6 rfl rfl)
theorem dX1_singer_7 : decode cX1_singer 7 = .ok (.tableswitch 58 0 4 #[33, 38, 43, 48, 53], 33) := by decide +kernel
theorem dX1_singer_40 : decode cX1_singer 40 = .ok (.aload_n 3, 1) := dk_45 (dk_at dksX1_singer_2 0 rfl rfl)
theorem dX1_singer_41 : decode cX1_singer 41 = .ok (.getfield 132, 3) := dk_180 0 132 (dk_at dksX1_singer_2 1 rfl rfl)
theorem dX1_singer_44 : decode cX1_singer 44 = .ok (.ireturn, 1) := dk_172 (dk_at dksX1_singer_2 4 rfl rfl)
theorem dX1_singer_45 : decode cX1_singer 45 = .ok (.aload_n 3, 1) := dk_45 (dk_at dksX1_singer_2 5 rfl rfl)
theorem dX1_singer_46 : decode cX1_singer 46 = .ok (.getfield 135, 3) := dk_180 0 135 (dk_at dksX1_singer_2 6 rfl rfl)
theorem dX1_singer_49 : decode cX1_singer 49 = .ok (.ireturn, 1) := dk_172 (dk_at dksX1_singer_2 9 rfl rfl)
theorem dX1_singer_50 : decode cX1_singer 50 = .ok (.aload_n 3, 1) := dk_45 (dk_at dksX1_singer_2 10 rfl rfl)
theorem dX1_singer_51 : decode cX1_singer 51 = .ok (.getfield 138, 3) := dk_180 0 138 (dk_at dksX1_singer_2 11 rfl rfl)
theorem dX1_singer_54 : decode cX1_singer 54 = .ok (.ireturn, 1) := dk_172 (dk_at dksX1_singer_2 14 rfl rfl)
theorem dX1_singer_55 : decode cX1_singer 55 = .ok (.aload_n 3, 1) := dk_45 (dk_at dksX1_singer_2 15 rfl rfl)
theorem dX1_singer_56 : decode cX1_singer 56 = .ok (.getfield 141, 3) := dk_180 0 141 (dk_at dksX1_singer_2 16 rfl rfl)
theorem dX1_singer_59 : decode cX1_singer 59 = .ok (.ireturn, 1) := dk_172 (dk_at dksX1_singer_2 19 rfl rfl)
theorem dX1_singer_60 : decode cX1_singer 60 = .ok (.aload_n 3, 1) := dk_45 (dk_at dksX1_singer_2 20 rfl rfl)
theorem dX1_singer_61 : decode cX1_singer 61 = .ok (.getfield 144, 3) := dk_180 0 144 (dk_at dksX1_singer_2 21 rfl rfl)
theorem dX1_singer_64 : decode cX1_singer 64 = .ok (.ireturn, 1) := dk_172 (dk_at dksX1_singer_3 0 rfl rfl)
theorem dX1_singer_65 : decode cX1_singer 65 = .ok (.iload_n 2, 1) := dk_28 (dk_at dksX1_singer_3 1 rfl rfl)
theorem dX1_singer_66 : decode cX1_singer 66 = .ok (.iconst 5, 1) := dk_8 (dk_at dksX1_singer_3 2 rfl rfl)
theorem dX1_singer_67 : decode cX1_singer 67 = .ok (.if_icmp .ne 7, 3) := dk_160 0 7 (dk_at dksX1_singer_3 3 rfl rfl)
theorem dX1_singer_70 : decode cX1_singer 70 = .ok (.iconst 1, 1) := dk_4 (dk_at dksX1_singer_3 6 rfl rfl)
theorem dX1_singer_71 : decode cX1_singer 71 = .ok (.goto 4, 3) := dk_167 0 4 (dk_at dksX1_singer_3 7 rfl rfl)
theorem dX1_singer_74 : decode cX1_singer 74 = .ok (.iconst 0, 1) := dk_3 (dk_at dksX1_singer_3 10 rfl rfl)
theorem dX1_singer_75 : decode cX1_singer 75 = .ok (.invokestatic 117, 3) := dk_184 0 117 (dk_at dksX1_singer_3 11 rfl rfl)
theorem dX1_singer_78 : decode cX1_singer 78 = .ok (.aload_n 0, 1) := dk_42 (dk_at dksX1_singer_3 14 rfl rfl)
theorem dX1_singer_79 : decode cX1_singer 79 = .ok (.getfield 27, 3) := dk_180 0 27 (dk_at dksX1_singer_3 15 rfl rfl)
theorem dX1_singer_82 : decode cX1_singer 82 = .ok (.getfield 147, 3) := dk_180 0 147 (dk_at dksX1_singer_3 18 rfl rfl)
theorem dX1_singer_85 : decode cX1_singer 85 = .ok (.iload_n 1, 1) := dk_27 (dk_at dksX1_singer_3 21 rfl rfl)
theorem dX1_singer_86 : decode cX1_singer 86 = .ok (.iaload, 1) := dk_46 (dk_at dksX1_singer_3 22 rfl rfl)
theorem dX1_singer_87 : decode cX1_singer 87 = .ok (.ireturn, 1) := dk_172 (dk_at dksX1_singer_3 23 rfl rfl)
abbrev cX1_aSinger : ByteArray := prog_1_method_10_code
def yX1_aSinger : MethodName := ⟨RX1, "aSinger", "(I)LValleyMass$Singer;"⟩
def dkwX1_aSinger_1 : List UInt8 := [180, 0, 16, 180, 0, 83, 27, 185, 0, 120, 2, 0, 192, 0, 124, 176]
abbrev dktX1_aSinger_1 : List UInt8 := dkwX1_aSinger_1 ++ []
def dkwX1_aSinger_0 : List UInt8 := [27, 3, 42, 180, 0, 16, 180, 0, 83, 185, 0, 86, 1, 0, 4, 100, 184, 0, 113, 184, 0, 117, 42]
abbrev dktX1_aSinger_0 : List UInt8 := dkwX1_aSinger_0 ++ dktX1_aSinger_1
theorem dksX1_aSinger_0 : cX1_aSinger.data.toList.drop 0 = dktX1_aSinger_0 := by decide +kernel
theorem dksX1_aSinger_1 : cX1_aSinger.data.toList.drop 23 = dktX1_aSinger_1 := dk_seg dksX1_aSinger_0 23 rfl rfl
theorem dX1_aSinger_0 : decode cX1_aSinger 0 = .ok (.iload_n 1, 1) := dk_27 (dk_at dksX1_aSinger_0 0 rfl rfl)
theorem dX1_aSinger_1 : decode cX1_aSinger 1 = .ok (.iconst 0, 1) := dk_3 (dk_at dksX1_aSinger_0 1 rfl rfl)
theorem dX1_aSinger_2 : decode cX1_aSinger 2 = .ok (.aload_n 0, 1) := dk_42 (dk_at dksX1_aSinger_0 2 rfl rfl)
theorem dX1_aSinger_3 : decode cX1_aSinger 3 = .ok (.getfield 16, 3) := dk_180 0 16 (dk_at dksX1_aSinger_0 3 rfl rfl)
theorem dX1_aSinger_6 : decode cX1_aSinger 6 = .ok (.getfield 83, 3) := dk_180 0 83 (dk_at dksX1_aSinger_0 6 rfl rfl)
theorem dX1_aSinger_9 : decode cX1_aSinger 9 = .ok (.invokeinterface 86 1, 5) := by decide +kernel
theorem dX1_aSinger_14 : decode cX1_aSinger 14 = .ok (.iconst 1, 1) := dk_4 (dk_at dksX1_aSinger_0 14 rfl rfl)
theorem dX1_aSinger_15 : decode cX1_aSinger 15 = .ok (.isub, 1) := dk_100 (dk_at dksX1_aSinger_0 15 rfl rfl)
theorem dX1_aSinger_16 : decode cX1_aSinger 16 = .ok (.invokestatic 113, 3) := dk_184 0 113 (dk_at dksX1_aSinger_0 16 rfl rfl)
theorem dX1_aSinger_19 : decode cX1_aSinger 19 = .ok (.invokestatic 117, 3) := dk_184 0 117 (dk_at dksX1_aSinger_0 19 rfl rfl)
theorem dX1_aSinger_22 : decode cX1_aSinger 22 = .ok (.aload_n 0, 1) := dk_42 (dk_at dksX1_aSinger_0 22 rfl rfl)
theorem dX1_aSinger_23 : decode cX1_aSinger 23 = .ok (.getfield 16, 3) := dk_180 0 16 (dk_at dksX1_aSinger_1 0 rfl rfl)
theorem dX1_aSinger_26 : decode cX1_aSinger 26 = .ok (.getfield 83, 3) := dk_180 0 83 (dk_at dksX1_aSinger_1 3 rfl rfl)
theorem dX1_aSinger_29 : decode cX1_aSinger 29 = .ok (.iload_n 1, 1) := dk_27 (dk_at dksX1_aSinger_1 6 rfl rfl)
theorem dX1_aSinger_30 : decode cX1_aSinger 30 = .ok (.invokeinterface 120 2, 5) := by decide +kernel
theorem dX1_aSinger_35 : decode cX1_aSinger 35 = .ok (.checkcast 124, 3) := dk_192 0 124 (dk_at dksX1_aSinger_1 12 rfl rfl)
theorem dX1_aSinger_38 : decode cX1_aSinger 38 = .ok (.areturn, 1) := dk_176 (dk_at dksX1_aSinger_1 15 rfl rfl)
abbrev cX1_row : ByteArray := prog_1_method_14_code
def yX1_row : MethodName := ⟨RX1, "row", "(III)I"⟩
def dkwX1_row_4 : List UInt8 := [184, 0, 117, 25, 5, 180, 0, 163, 29, 185, 0, 120, 2, 0, 192, 0, 166, 182, 0, 168, 172]
abbrev dktX1_row_4 : List UInt8 := dkwX1_row_4 ++ []
def dkwX1_row_3 : List UInt8 := [155, 0, 21, 29, 25, 5, 180, 0, 163, 185, 0, 86, 1, 0, 162, 0, 7, 4, 167, 0, 4, 3]
abbrev dktX1_row_3 : List UInt8 := dkwX1_row_3 ++ dktX1_row_4
def dkwX1_row_2 : List UInt8 := [199, 0, 7, 3, 167, 0, 13, 25, 5, 180, 0, 163, 185, 0, 86, 1, 0, 172, 25, 5, 198, 0, 25, 29]
abbrev dktX1_row_2 : List UInt8 := dkwX1_row_2 ++ dktX1_row_3
def dkwX1_row_1 : List UInt8 := [25, 5, 199, 0, 7, 3, 167, 0, 8, 25, 5, 180, 0, 158, 172, 29, 16, 254, 160, 0, 23, 25, 5]
abbrev dktX1_row_1 : List UInt8 := dkwX1_row_1 ++ dktX1_row_2
def dkwX1_row_0 : List UInt8 := [42, 27, 182, 0, 150, 58, 4, 28, 6, 184, 0, 154, 25, 4, 28, 50, 58, 5, 29, 2, 160, 0, 18]
abbrev dktX1_row_0 : List UInt8 := dkwX1_row_0 ++ dktX1_row_1
theorem dksX1_row_0 : cX1_row.data.toList.drop 0 = dktX1_row_0 := by decide +kernel
theorem dksX1_row_1 : cX1_row.data.toList.drop 23 = dktX1_row_1 := dk_seg dksX1_row_0 23 rfl rfl
theorem dksX1_row_2 : cX1_row.data.toList.drop 46 = dktX1_row_2 := dk_seg dksX1_row_1 23 rfl rfl
theorem dksX1_row_3 : cX1_row.data.toList.drop 70 = dktX1_row_3 := dk_seg dksX1_row_2 24 rfl rfl
theorem dksX1_row_4 : cX1_row.data.toList.drop 92 = dktX1_row_4 := dk_seg dksX1_row_3 22 rfl rfl
theorem dX1_row_0 : decode cX1_row 0 = .ok (.aload_n 0, 1) := dk_42 (dk_at dksX1_row_0 0 rfl rfl)
theorem dX1_row_1 : decode cX1_row 1 = .ok (.iload_n 1, 1) := dk_27 (dk_at dksX1_row_0 1 rfl rfl)
theorem dX1_row_2 : decode cX1_row 2 = .ok (.invokevirtual 150, 3) := dk_182 0 150 (dk_at dksX1_row_0 2 rfl rfl)
theorem dX1_row_5 : decode cX1_row 5 = .ok (.astore 4, 2) := dk_58 4 (dk_at dksX1_row_0 5 rfl rfl)
theorem dX1_row_7 : decode cX1_row 7 = .ok (.iload_n 2, 1) := dk_28 (dk_at dksX1_row_0 7 rfl rfl)
theorem dX1_row_8 : decode cX1_row 8 = .ok (.iconst 3, 1) := dk_6 (dk_at dksX1_row_0 8 rfl rfl)
theorem dX1_row_9 : decode cX1_row 9 = .ok (.invokestatic 154, 3) := dk_184 0 154 (dk_at dksX1_row_0 9 rfl rfl)
theorem dX1_row_12 : decode cX1_row 12 = .ok (.aload 4, 2) := dk_25 4 (dk_at dksX1_row_0 12 rfl rfl)
theorem dX1_row_14 : decode cX1_row 14 = .ok (.iload_n 2, 1) := dk_28 (dk_at dksX1_row_0 14 rfl rfl)
theorem dX1_row_15 : decode cX1_row 15 = .ok (.aaload, 1) := dk_50 (dk_at dksX1_row_0 15 rfl rfl)
theorem dX1_row_16 : decode cX1_row 16 = .ok (.astore 5, 2) := dk_58 5 (dk_at dksX1_row_0 16 rfl rfl)
theorem dX1_row_18 : decode cX1_row 18 = .ok (.iload_n 3, 1) := dk_29 (dk_at dksX1_row_0 18 rfl rfl)
theorem dX1_row_19 : decode cX1_row 19 = .ok (.iconst (-1), 1) := dk_2 (dk_at dksX1_row_0 19 rfl rfl)
theorem dX1_row_20 : decode cX1_row 20 = .ok (.if_icmp .ne 18, 3) := dk_160 0 18 (dk_at dksX1_row_0 20 rfl rfl)
theorem dX1_row_23 : decode cX1_row 23 = .ok (.aload 5, 2) := dk_25 5 (dk_at dksX1_row_1 0 rfl rfl)
theorem dX1_row_25 : decode cX1_row 25 = .ok (.ifnonnull 7, 3) := dk_199 0 7 (dk_at dksX1_row_1 2 rfl rfl)
theorem dX1_row_28 : decode cX1_row 28 = .ok (.iconst 0, 1) := dk_3 (dk_at dksX1_row_1 5 rfl rfl)
theorem dX1_row_29 : decode cX1_row 29 = .ok (.goto 8, 3) := dk_167 0 8 (dk_at dksX1_row_1 6 rfl rfl)
theorem dX1_row_32 : decode cX1_row 32 = .ok (.aload 5, 2) := dk_25 5 (dk_at dksX1_row_1 9 rfl rfl)
theorem dX1_row_34 : decode cX1_row 34 = .ok (.getfield 158, 3) := dk_180 0 158 (dk_at dksX1_row_1 11 rfl rfl)
theorem dX1_row_37 : decode cX1_row 37 = .ok (.ireturn, 1) := dk_172 (dk_at dksX1_row_1 14 rfl rfl)
theorem dX1_row_38 : decode cX1_row 38 = .ok (.iload_n 3, 1) := dk_29 (dk_at dksX1_row_1 15 rfl rfl)
theorem dX1_row_39 : decode cX1_row 39 = .ok (.bipush (-2), 2) := dk_16 254 (dk_at dksX1_row_1 16 rfl rfl)
theorem dX1_row_41 : decode cX1_row 41 = .ok (.if_icmp .ne 23, 3) := dk_160 0 23 (dk_at dksX1_row_1 18 rfl rfl)
theorem dX1_row_44 : decode cX1_row 44 = .ok (.aload 5, 2) := dk_25 5 (dk_at dksX1_row_1 21 rfl rfl)
theorem dX1_row_46 : decode cX1_row 46 = .ok (.ifnonnull 7, 3) := dk_199 0 7 (dk_at dksX1_row_2 0 rfl rfl)
theorem dX1_row_49 : decode cX1_row 49 = .ok (.iconst 0, 1) := dk_3 (dk_at dksX1_row_2 3 rfl rfl)
theorem dX1_row_50 : decode cX1_row 50 = .ok (.goto 13, 3) := dk_167 0 13 (dk_at dksX1_row_2 4 rfl rfl)
theorem dX1_row_53 : decode cX1_row 53 = .ok (.aload 5, 2) := dk_25 5 (dk_at dksX1_row_2 7 rfl rfl)
theorem dX1_row_55 : decode cX1_row 55 = .ok (.getfield 163, 3) := dk_180 0 163 (dk_at dksX1_row_2 9 rfl rfl)
theorem dX1_row_58 : decode cX1_row 58 = .ok (.invokeinterface 86 1, 5) := by decide +kernel
theorem dX1_row_63 : decode cX1_row 63 = .ok (.ireturn, 1) := dk_172 (dk_at dksX1_row_2 17 rfl rfl)
theorem dX1_row_64 : decode cX1_row 64 = .ok (.aload 5, 2) := dk_25 5 (dk_at dksX1_row_2 18 rfl rfl)
theorem dX1_row_66 : decode cX1_row 66 = .ok (.ifnull 25, 3) := dk_198 0 25 (dk_at dksX1_row_2 20 rfl rfl)
theorem dX1_row_69 : decode cX1_row 69 = .ok (.iload_n 3, 1) := dk_29 (dk_at dksX1_row_2 23 rfl rfl)
theorem dX1_row_70 : decode cX1_row 70 = .ok (.ifCond .lt 21, 3) := dk_155 0 21 (dk_at dksX1_row_3 0 rfl rfl)
theorem dX1_row_73 : decode cX1_row 73 = .ok (.iload_n 3, 1) := dk_29 (dk_at dksX1_row_3 3 rfl rfl)
theorem dX1_row_74 : decode cX1_row 74 = .ok (.aload 5, 2) := dk_25 5 (dk_at dksX1_row_3 4 rfl rfl)
theorem dX1_row_76 : decode cX1_row 76 = .ok (.getfield 163, 3) := dk_180 0 163 (dk_at dksX1_row_3 6 rfl rfl)
theorem dX1_row_79 : decode cX1_row 79 = .ok (.invokeinterface 86 1, 5) := by decide +kernel
theorem dX1_row_84 : decode cX1_row 84 = .ok (.if_icmp .ge 7, 3) := dk_162 0 7 (dk_at dksX1_row_3 14 rfl rfl)
theorem dX1_row_87 : decode cX1_row 87 = .ok (.iconst 1, 1) := dk_4 (dk_at dksX1_row_3 17 rfl rfl)
theorem dX1_row_88 : decode cX1_row 88 = .ok (.goto 4, 3) := dk_167 0 4 (dk_at dksX1_row_3 18 rfl rfl)
theorem dX1_row_91 : decode cX1_row 91 = .ok (.iconst 0, 1) := dk_3 (dk_at dksX1_row_3 21 rfl rfl)
theorem dX1_row_92 : decode cX1_row 92 = .ok (.invokestatic 117, 3) := dk_184 0 117 (dk_at dksX1_row_4 0 rfl rfl)
theorem dX1_row_95 : decode cX1_row 95 = .ok (.aload 5, 2) := dk_25 5 (dk_at dksX1_row_4 3 rfl rfl)
theorem dX1_row_97 : decode cX1_row 97 = .ok (.getfield 163, 3) := dk_180 0 163 (dk_at dksX1_row_4 5 rfl rfl)
theorem dX1_row_100 : decode cX1_row 100 = .ok (.iload_n 3, 1) := dk_29 (dk_at dksX1_row_4 8 rfl rfl)
theorem dX1_row_101 : decode cX1_row 101 = .ok (.invokeinterface 120 2, 5) := by decide +kernel
theorem dX1_row_106 : decode cX1_row 106 = .ok (.checkcast 166, 3) := dk_192 0 166 (dk_at dksX1_row_4 14 rfl rfl)
theorem dX1_row_109 : decode cX1_row 109 = .ok (.invokevirtual 168, 3) := dk_182 0 168 (dk_at dksX1_row_4 17 rfl rfl)
theorem dX1_row_112 : decode cX1_row 112 = .ok (.ireturn, 1) := dk_172 (dk_at dksX1_row_4 20 rfl rfl)
abbrev cX1_aPiece : ByteArray := prog_1_method_11_code
def yX1_aPiece : MethodName := ⟨RX1, "aPiece", "(I)[LValleyMass$Row;"⟩
def dkwX1_aPiece_1 : List UInt8 := [180, 0, 16, 180, 0, 92, 27, 185, 0, 120, 2, 0, 192, 0, 126, 176]
abbrev dktX1_aPiece_1 : List UInt8 := dkwX1_aPiece_1 ++ []
def dkwX1_aPiece_0 : List UInt8 := [27, 3, 42, 180, 0, 16, 180, 0, 92, 185, 0, 86, 1, 0, 4, 100, 184, 0, 113, 184, 0, 117, 42]
abbrev dktX1_aPiece_0 : List UInt8 := dkwX1_aPiece_0 ++ dktX1_aPiece_1
theorem dksX1_aPiece_0 : cX1_aPiece.data.toList.drop 0 = dktX1_aPiece_0 := by decide +kernel
theorem dksX1_aPiece_1 : cX1_aPiece.data.toList.drop 23 = dktX1_aPiece_1 := dk_seg dksX1_aPiece_0 23 rfl rfl
theorem dX1_aPiece_0 : decode cX1_aPiece 0 = .ok (.iload_n 1, 1) := dk_27 (dk_at dksX1_aPiece_0 0 rfl rfl)
theorem dX1_aPiece_1 : decode cX1_aPiece 1 = .ok (.iconst 0, 1) := dk_3 (dk_at dksX1_aPiece_0 1 rfl rfl)
theorem dX1_aPiece_2 : decode cX1_aPiece 2 = .ok (.aload_n 0, 1) := dk_42 (dk_at dksX1_aPiece_0 2 rfl rfl)
theorem dX1_aPiece_3 : decode cX1_aPiece 3 = .ok (.getfield 16, 3) := dk_180 0 16 (dk_at dksX1_aPiece_0 3 rfl rfl)
theorem dX1_aPiece_6 : decode cX1_aPiece 6 = .ok (.getfield 92, 3) := dk_180 0 92 (dk_at dksX1_aPiece_0 6 rfl rfl)
theorem dX1_aPiece_9 : decode cX1_aPiece 9 = .ok (.invokeinterface 86 1, 5) := by decide +kernel
theorem dX1_aPiece_14 : decode cX1_aPiece 14 = .ok (.iconst 1, 1) := dk_4 (dk_at dksX1_aPiece_0 14 rfl rfl)
theorem dX1_aPiece_15 : decode cX1_aPiece 15 = .ok (.isub, 1) := dk_100 (dk_at dksX1_aPiece_0 15 rfl rfl)
theorem dX1_aPiece_16 : decode cX1_aPiece 16 = .ok (.invokestatic 113, 3) := dk_184 0 113 (dk_at dksX1_aPiece_0 16 rfl rfl)
theorem dX1_aPiece_19 : decode cX1_aPiece 19 = .ok (.invokestatic 117, 3) := dk_184 0 117 (dk_at dksX1_aPiece_0 19 rfl rfl)
theorem dX1_aPiece_22 : decode cX1_aPiece 22 = .ok (.aload_n 0, 1) := dk_42 (dk_at dksX1_aPiece_0 22 rfl rfl)
theorem dX1_aPiece_23 : decode cX1_aPiece 23 = .ok (.getfield 16, 3) := dk_180 0 16 (dk_at dksX1_aPiece_1 0 rfl rfl)
theorem dX1_aPiece_26 : decode cX1_aPiece 26 = .ok (.getfield 92, 3) := dk_180 0 92 (dk_at dksX1_aPiece_1 3 rfl rfl)
theorem dX1_aPiece_29 : decode cX1_aPiece 29 = .ok (.iload_n 1, 1) := dk_27 (dk_at dksX1_aPiece_1 6 rfl rfl)
theorem dX1_aPiece_30 : decode cX1_aPiece 30 = .ok (.invokeinterface 120 2, 5) := by decide +kernel
theorem dX1_aPiece_35 : decode cX1_aPiece 35 = .ok (.checkcast 126, 3) := dk_192 0 126 (dk_at dksX1_aPiece_1 12 rfl rfl)
theorem dX1_aPiece_38 : decode cX1_aPiece 38 = .ok (.areturn, 1) := dk_176 (dk_at dksX1_aPiece_1 15 rfl rfl)
abbrev cX1_oneOf : ByteArray := prog_1_method_12_code
def yX1_oneOf : MethodName := ⟨RX1, "oneOf", "(II)V"⟩
def dkwX1_oneOf_0 : List UInt8 := [26, 3, 27, 184, 0, 113, 184, 0, 117, 177]
abbrev dktX1_oneOf_0 : List UInt8 := dkwX1_oneOf_0 ++ []
theorem dksX1_oneOf_0 : cX1_oneOf.data.toList.drop 0 = dktX1_oneOf_0 := by decide +kernel
theorem dX1_oneOf_0 : decode cX1_oneOf 0 = .ok (.iload_n 0, 1) := dk_26 (dk_at dksX1_oneOf_0 0 rfl rfl)
theorem dX1_oneOf_1 : decode cX1_oneOf 1 = .ok (.iconst 0, 1) := dk_3 (dk_at dksX1_oneOf_0 1 rfl rfl)
theorem dX1_oneOf_2 : decode cX1_oneOf 2 = .ok (.iload_n 1, 1) := dk_27 (dk_at dksX1_oneOf_0 2 rfl rfl)
theorem dX1_oneOf_3 : decode cX1_oneOf 3 = .ok (.invokestatic 113, 3) := dk_184 0 113 (dk_at dksX1_oneOf_0 3 rfl rfl)
theorem dX1_oneOf_6 : decode cX1_oneOf 6 = .ok (.invokestatic 117, 3) := dk_184 0 117 (dk_at dksX1_oneOf_0 6 rfl rfl)
theorem dX1_oneOf_9 : decode cX1_oneOf 9 = .ok (.return_, 1) := dk_177 (dk_at dksX1_oneOf_0 9 rfl rfl)
abbrev cX1_able_2 : ByteArray := prog_1_method_16_code
def yX1_able_2 : MethodName := ⟨RX1, "able", "(II)I"⟩
def dkwX1_able_2_1 : List UInt8 := [172]
abbrev dktX1_able_2_1 : List UInt8 := dkwX1_able_2_1 ++ []
def dkwX1_able_2_0 : List UInt8 := [42, 27, 182, 0, 150, 87, 28, 6, 184, 0, 154, 42, 27, 28, 42, 180, 0, 27, 182, 0, 104, 182, 0, 175]
abbrev dktX1_able_2_0 : List UInt8 := dkwX1_able_2_0 ++ dktX1_able_2_1
theorem dksX1_able_2_0 : cX1_able_2.data.toList.drop 0 = dktX1_able_2_0 := by decide +kernel
theorem dksX1_able_2_1 : cX1_able_2.data.toList.drop 24 = dktX1_able_2_1 := dk_seg dksX1_able_2_0 24 rfl rfl
theorem dX1_able_2_0 : decode cX1_able_2 0 = .ok (.aload_n 0, 1) := dk_42 (dk_at dksX1_able_2_0 0 rfl rfl)
theorem dX1_able_2_1 : decode cX1_able_2 1 = .ok (.iload_n 1, 1) := dk_27 (dk_at dksX1_able_2_0 1 rfl rfl)
theorem dX1_able_2_2 : decode cX1_able_2 2 = .ok (.invokevirtual 150, 3) := dk_182 0 150 (dk_at dksX1_able_2_0 2 rfl rfl)
theorem dX1_able_2_5 : decode cX1_able_2 5 = .ok (.pop, 1) := dk_87 (dk_at dksX1_able_2_0 5 rfl rfl)
theorem dX1_able_2_6 : decode cX1_able_2 6 = .ok (.iload_n 2, 1) := dk_28 (dk_at dksX1_able_2_0 6 rfl rfl)
theorem dX1_able_2_7 : decode cX1_able_2 7 = .ok (.iconst 3, 1) := dk_6 (dk_at dksX1_able_2_0 7 rfl rfl)
theorem dX1_able_2_8 : decode cX1_able_2 8 = .ok (.invokestatic 154, 3) := dk_184 0 154 (dk_at dksX1_able_2_0 8 rfl rfl)
theorem dX1_able_2_11 : decode cX1_able_2 11 = .ok (.aload_n 0, 1) := dk_42 (dk_at dksX1_able_2_0 11 rfl rfl)
theorem dX1_able_2_12 : decode cX1_able_2 12 = .ok (.iload_n 1, 1) := dk_27 (dk_at dksX1_able_2_0 12 rfl rfl)
theorem dX1_able_2_13 : decode cX1_able_2 13 = .ok (.iload_n 2, 1) := dk_28 (dk_at dksX1_able_2_0 13 rfl rfl)
theorem dX1_able_2_14 : decode cX1_able_2 14 = .ok (.aload_n 0, 1) := dk_42 (dk_at dksX1_able_2_0 14 rfl rfl)
theorem dX1_able_2_15 : decode cX1_able_2 15 = .ok (.getfield 27, 3) := dk_180 0 27 (dk_at dksX1_able_2_0 15 rfl rfl)
theorem dX1_able_2_18 : decode cX1_able_2 18 = .ok (.invokevirtual 104, 3) := dk_182 0 104 (dk_at dksX1_able_2_0 18 rfl rfl)
theorem dX1_able_2_21 : decode cX1_able_2 21 = .ok (.invokevirtual 175, 3) := dk_182 0 175 (dk_at dksX1_able_2_0 21 rfl rfl)
theorem dX1_able_2_24 : decode cX1_able_2 24 = .ok (.ireturn, 1) := dk_172 (dk_at dksX1_able_2_1 0 rfl rfl)
abbrev cX1_fall : ByteArray := prog_1_method_21_code
def yX1_fall : MethodName := ⟨RX1, "fall", "(I)Z"⟩
def dkwX1_fall_0 : List UInt8 := [42, 27, 3, 5, 182, 0, 198, 172]
abbrev dktX1_fall_0 : List UInt8 := dkwX1_fall_0 ++ []
theorem dksX1_fall_0 : cX1_fall.data.toList.drop 0 = dktX1_fall_0 := by decide +kernel
theorem dX1_fall_0 : decode cX1_fall 0 = .ok (.aload_n 0, 1) := dk_42 (dk_at dksX1_fall_0 0 rfl rfl)
theorem dX1_fall_1 : decode cX1_fall 1 = .ok (.iload_n 1, 1) := dk_27 (dk_at dksX1_fall_0 1 rfl rfl)
theorem dX1_fall_2 : decode cX1_fall 2 = .ok (.iconst 0, 1) := dk_3 (dk_at dksX1_fall_0 2 rfl rfl)
theorem dX1_fall_3 : decode cX1_fall 3 = .ok (.iconst 2, 1) := dk_5 (dk_at dksX1_fall_0 3 rfl rfl)
theorem dX1_fall_4 : decode cX1_fall 4 = .ok (.invokevirtual 198, 3) := dk_182 0 198 (dk_at dksX1_fall_0 4 rfl rfl)
theorem dX1_fall_7 : decode cX1_fall 7 = .ok (.ireturn, 1) := dk_172 (dk_at dksX1_fall_0 7 rfl rfl)
abbrev cX1_becomes : ByteArray := prog_1_method_20_code
def yX1_becomes : MethodName := ⟨RX1, "becomes", "(III)Z"⟩
def dkwX1_becomes_1 : List UInt8 := [92, 46, 4, 96, 79, 3, 172, 42, 182, 0, 192, 42, 180, 0, 27, 180, 0, 147, 27, 29, 79, 4, 172]
abbrev dktX1_becomes_1 : List UInt8 := dkwX1_becomes_1 ++ []
def dkwX1_becomes_0 : List UInt8 := [42, 27, 182, 0, 128, 87, 42, 180, 0, 27, 180, 0, 147, 27, 46, 28, 159, 0, 15, 42, 180, 0, 43, 4]
abbrev dktX1_becomes_0 : List UInt8 := dkwX1_becomes_0 ++ dktX1_becomes_1
theorem dksX1_becomes_0 : cX1_becomes.data.toList.drop 0 = dktX1_becomes_0 := by decide +kernel
theorem dksX1_becomes_1 : cX1_becomes.data.toList.drop 24 = dktX1_becomes_1 := dk_seg dksX1_becomes_0 24 rfl rfl
theorem dX1_becomes_0 : decode cX1_becomes 0 = .ok (.aload_n 0, 1) := dk_42 (dk_at dksX1_becomes_0 0 rfl rfl)
theorem dX1_becomes_1 : decode cX1_becomes 1 = .ok (.iload_n 1, 1) := dk_27 (dk_at dksX1_becomes_0 1 rfl rfl)
theorem dX1_becomes_2 : decode cX1_becomes 2 = .ok (.invokevirtual 128, 3) := dk_182 0 128 (dk_at dksX1_becomes_0 2 rfl rfl)
theorem dX1_becomes_5 : decode cX1_becomes 5 = .ok (.pop, 1) := dk_87 (dk_at dksX1_becomes_0 5 rfl rfl)
theorem dX1_becomes_6 : decode cX1_becomes 6 = .ok (.aload_n 0, 1) := dk_42 (dk_at dksX1_becomes_0 6 rfl rfl)
theorem dX1_becomes_7 : decode cX1_becomes 7 = .ok (.getfield 27, 3) := dk_180 0 27 (dk_at dksX1_becomes_0 7 rfl rfl)
theorem dX1_becomes_10 : decode cX1_becomes 10 = .ok (.getfield 147, 3) := dk_180 0 147 (dk_at dksX1_becomes_0 10 rfl rfl)
theorem dX1_becomes_13 : decode cX1_becomes 13 = .ok (.iload_n 1, 1) := dk_27 (dk_at dksX1_becomes_0 13 rfl rfl)
theorem dX1_becomes_14 : decode cX1_becomes 14 = .ok (.iaload, 1) := dk_46 (dk_at dksX1_becomes_0 14 rfl rfl)
theorem dX1_becomes_15 : decode cX1_becomes 15 = .ok (.iload_n 2, 1) := dk_28 (dk_at dksX1_becomes_0 15 rfl rfl)
theorem dX1_becomes_16 : decode cX1_becomes 16 = .ok (.if_icmp .eq 15, 3) := dk_159 0 15 (dk_at dksX1_becomes_0 16 rfl rfl)
theorem dX1_becomes_19 : decode cX1_becomes 19 = .ok (.aload_n 0, 1) := dk_42 (dk_at dksX1_becomes_0 19 rfl rfl)
theorem dX1_becomes_20 : decode cX1_becomes 20 = .ok (.getfield 43, 3) := dk_180 0 43 (dk_at dksX1_becomes_0 20 rfl rfl)
theorem dX1_becomes_23 : decode cX1_becomes 23 = .ok (.iconst 1, 1) := dk_4 (dk_at dksX1_becomes_0 23 rfl rfl)
theorem dX1_becomes_24 : decode cX1_becomes 24 = .ok (.dup2, 1) := dk_92 (dk_at dksX1_becomes_1 0 rfl rfl)
theorem dX1_becomes_25 : decode cX1_becomes 25 = .ok (.iaload, 1) := dk_46 (dk_at dksX1_becomes_1 1 rfl rfl)
theorem dX1_becomes_26 : decode cX1_becomes 26 = .ok (.iconst 1, 1) := dk_4 (dk_at dksX1_becomes_1 2 rfl rfl)
theorem dX1_becomes_27 : decode cX1_becomes 27 = .ok (.iadd, 1) := dk_96 (dk_at dksX1_becomes_1 3 rfl rfl)
theorem dX1_becomes_28 : decode cX1_becomes 28 = .ok (.iastore, 1) := dk_79 (dk_at dksX1_becomes_1 4 rfl rfl)
theorem dX1_becomes_29 : decode cX1_becomes 29 = .ok (.iconst 0, 1) := dk_3 (dk_at dksX1_becomes_1 5 rfl rfl)
theorem dX1_becomes_30 : decode cX1_becomes 30 = .ok (.ireturn, 1) := dk_172 (dk_at dksX1_becomes_1 6 rfl rfl)
theorem dX1_becomes_31 : decode cX1_becomes 31 = .ok (.aload_n 0, 1) := dk_42 (dk_at dksX1_becomes_1 7 rfl rfl)
theorem dX1_becomes_32 : decode cX1_becomes 32 = .ok (.invokevirtual 192, 3) := dk_182 0 192 (dk_at dksX1_becomes_1 8 rfl rfl)
theorem dX1_becomes_35 : decode cX1_becomes 35 = .ok (.aload_n 0, 1) := dk_42 (dk_at dksX1_becomes_1 11 rfl rfl)
theorem dX1_becomes_36 : decode cX1_becomes 36 = .ok (.getfield 27, 3) := dk_180 0 27 (dk_at dksX1_becomes_1 12 rfl rfl)
theorem dX1_becomes_39 : decode cX1_becomes 39 = .ok (.getfield 147, 3) := dk_180 0 147 (dk_at dksX1_becomes_1 15 rfl rfl)
theorem dX1_becomes_42 : decode cX1_becomes 42 = .ok (.iload_n 1, 1) := dk_27 (dk_at dksX1_becomes_1 18 rfl rfl)
theorem dX1_becomes_43 : decode cX1_becomes 43 = .ok (.iload_n 3, 1) := dk_29 (dk_at dksX1_becomes_1 19 rfl rfl)
theorem dX1_becomes_44 : decode cX1_becomes 44 = .ok (.iastore, 1) := dk_79 (dk_at dksX1_becomes_1 20 rfl rfl)
theorem dX1_becomes_45 : decode cX1_becomes 45 = .ok (.iconst 1, 1) := dk_4 (dk_at dksX1_becomes_1 21 rfl rfl)
theorem dX1_becomes_46 : decode cX1_becomes 46 = .ok (.ireturn, 1) := dk_172 (dk_at dksX1_becomes_1 22 rfl rfl)
abbrev cX1_catches : ByteArray := prog_1_method_22_code
def yX1_catches : MethodName := ⟨RX1, "catches", "(I)Z"⟩
def dkwX1_catches_0 : List UInt8 := [42, 27, 3, 4, 182, 0, 198, 172]
abbrev dktX1_catches_0 : List UInt8 := dkwX1_catches_0 ++ []
theorem dksX1_catches_0 : cX1_catches.data.toList.drop 0 = dktX1_catches_0 := by decide +kernel
theorem dX1_catches_0 : decode cX1_catches 0 = .ok (.aload_n 0, 1) := dk_42 (dk_at dksX1_catches_0 0 rfl rfl)
theorem dX1_catches_1 : decode cX1_catches 1 = .ok (.iload_n 1, 1) := dk_27 (dk_at dksX1_catches_0 1 rfl rfl)
theorem dX1_catches_2 : decode cX1_catches 2 = .ok (.iconst 0, 1) := dk_3 (dk_at dksX1_catches_0 2 rfl rfl)
theorem dX1_catches_3 : decode cX1_catches 3 = .ok (.iconst 1, 1) := dk_4 (dk_at dksX1_catches_0 3 rfl rfl)
theorem dX1_catches_4 : decode cX1_catches 4 = .ok (.invokevirtual 198, 3) := dk_182 0 198 (dk_at dksX1_catches_0 4 rfl rfl)
theorem dX1_catches_7 : decode cX1_catches 7 = .ok (.ireturn, 1) := dk_172 (dk_at dksX1_catches_0 7 rfl rfl)
abbrev cX1_release : ByteArray := prog_1_method_23_code
def yX1_release : MethodName := ⟨RX1, "release", "(I)Z"⟩
def dkwX1_release_0 : List UInt8 := [42, 27, 4, 3, 182, 0, 198, 172]
abbrev dktX1_release_0 : List UInt8 := dkwX1_release_0 ++ []
theorem dksX1_release_0 : cX1_release.data.toList.drop 0 = dktX1_release_0 := by decide +kernel
theorem dX1_release_0 : decode cX1_release 0 = .ok (.aload_n 0, 1) := dk_42 (dk_at dksX1_release_0 0 rfl rfl)
theorem dX1_release_1 : decode cX1_release 1 = .ok (.iload_n 1, 1) := dk_27 (dk_at dksX1_release_0 1 rfl rfl)
theorem dX1_release_2 : decode cX1_release 2 = .ok (.iconst 1, 1) := dk_4 (dk_at dksX1_release_0 2 rfl rfl)
theorem dX1_release_3 : decode cX1_release 3 = .ok (.iconst 0, 1) := dk_3 (dk_at dksX1_release_0 3 rfl rfl)
theorem dX1_release_4 : decode cX1_release 4 = .ok (.invokevirtual 198, 3) := dk_182 0 198 (dk_at dksX1_release_0 4 rfl rfl)
theorem dX1_release_7 : decode cX1_release 7 = .ok (.ireturn, 1) := dk_172 (dk_at dksX1_release_0 7 rfl rfl)
abbrev cX1_exchange : ByteArray := prog_1_method_24_code
def yX1_exchange : MethodName := ⟨RX1, "exchange", "(II)Z"⟩
def dkwX1_exchange_4 : List UInt8 := [172]
abbrev dktX1_exchange_4 : List UInt8 := dkwX1_exchange_4 ++ []
def dkwX1_exchange_3 : List UInt8 := [182, 0, 192, 42, 180, 0, 27, 180, 0, 147, 27, 3, 79, 42, 180, 0, 27, 180, 0, 147, 28, 3, 79, 4]
abbrev dktX1_exchange_3 : List UInt8 := dkwX1_exchange_3 ++ dktX1_exchange_4
def dkwX1_exchange_2 : List UInt8 := [180, 0, 147, 28, 46, 4, 159, 0, 15, 42, 180, 0, 43, 4, 92, 46, 4, 96, 79, 3, 172, 42]
abbrev dktX1_exchange_2 : List UInt8 := dkwX1_exchange_2 ++ dktX1_exchange_3
def dkwX1_exchange_1 : List UInt8 := [180, 0, 132, 4, 160, 0, 29, 42, 180, 0, 27, 180, 0, 147, 27, 46, 4, 160, 0, 16, 42, 180, 0, 27]
abbrev dktX1_exchange_1 : List UInt8 := dkwX1_exchange_1 ++ dktX1_exchange_2
def dkwX1_exchange_0 : List UInt8 := [42, 27, 182, 0, 128, 78, 42, 28, 182, 0, 128, 58, 4, 45, 180, 0, 132, 154, 0, 38, 25, 4]
abbrev dktX1_exchange_0 : List UInt8 := dkwX1_exchange_0 ++ dktX1_exchange_1
theorem dksX1_exchange_0 : cX1_exchange.data.toList.drop 0 = dktX1_exchange_0 := by decide +kernel
theorem dksX1_exchange_1 : cX1_exchange.data.toList.drop 22 = dktX1_exchange_1 := dk_seg dksX1_exchange_0 22 rfl rfl
theorem dksX1_exchange_2 : cX1_exchange.data.toList.drop 46 = dktX1_exchange_2 := dk_seg dksX1_exchange_1 24 rfl rfl
theorem dksX1_exchange_3 : cX1_exchange.data.toList.drop 68 = dktX1_exchange_3 := dk_seg dksX1_exchange_2 22 rfl rfl
theorem dksX1_exchange_4 : cX1_exchange.data.toList.drop 92 = dktX1_exchange_4 := dk_seg dksX1_exchange_3 24 rfl rfl
theorem dX1_exchange_0 : decode cX1_exchange 0 = .ok (.aload_n 0, 1) := dk_42 (dk_at dksX1_exchange_0 0 rfl rfl)
theorem dX1_exchange_1 : decode cX1_exchange 1 = .ok (.iload_n 1, 1) := dk_27 (dk_at dksX1_exchange_0 1 rfl rfl)
theorem dX1_exchange_2 : decode cX1_exchange 2 = .ok (.invokevirtual 128, 3) := dk_182 0 128 (dk_at dksX1_exchange_0 2 rfl rfl)
theorem dX1_exchange_5 : decode cX1_exchange 5 = .ok (.astore_n 3, 1) := dk_78 (dk_at dksX1_exchange_0 5 rfl rfl)
theorem dX1_exchange_6 : decode cX1_exchange 6 = .ok (.aload_n 0, 1) := dk_42 (dk_at dksX1_exchange_0 6 rfl rfl)
theorem dX1_exchange_7 : decode cX1_exchange 7 = .ok (.iload_n 2, 1) := dk_28 (dk_at dksX1_exchange_0 7 rfl rfl)
theorem dX1_exchange_8 : decode cX1_exchange 8 = .ok (.invokevirtual 128, 3) := dk_182 0 128 (dk_at dksX1_exchange_0 8 rfl rfl)
theorem dX1_exchange_11 : decode cX1_exchange 11 = .ok (.astore 4, 2) := dk_58 4 (dk_at dksX1_exchange_0 11 rfl rfl)
theorem dX1_exchange_13 : decode cX1_exchange 13 = .ok (.aload_n 3, 1) := dk_45 (dk_at dksX1_exchange_0 13 rfl rfl)
theorem dX1_exchange_14 : decode cX1_exchange 14 = .ok (.getfield 132, 3) := dk_180 0 132 (dk_at dksX1_exchange_0 14 rfl rfl)
theorem dX1_exchange_17 : decode cX1_exchange 17 = .ok (.ifCond .ne 38, 3) := dk_154 0 38 (dk_at dksX1_exchange_0 17 rfl rfl)
theorem dX1_exchange_20 : decode cX1_exchange 20 = .ok (.aload 4, 2) := dk_25 4 (dk_at dksX1_exchange_0 20 rfl rfl)
theorem dX1_exchange_22 : decode cX1_exchange 22 = .ok (.getfield 132, 3) := dk_180 0 132 (dk_at dksX1_exchange_1 0 rfl rfl)
theorem dX1_exchange_25 : decode cX1_exchange 25 = .ok (.iconst 1, 1) := dk_4 (dk_at dksX1_exchange_1 3 rfl rfl)
theorem dX1_exchange_26 : decode cX1_exchange 26 = .ok (.if_icmp .ne 29, 3) := dk_160 0 29 (dk_at dksX1_exchange_1 4 rfl rfl)
theorem dX1_exchange_29 : decode cX1_exchange 29 = .ok (.aload_n 0, 1) := dk_42 (dk_at dksX1_exchange_1 7 rfl rfl)
theorem dX1_exchange_30 : decode cX1_exchange 30 = .ok (.getfield 27, 3) := dk_180 0 27 (dk_at dksX1_exchange_1 8 rfl rfl)
theorem dX1_exchange_33 : decode cX1_exchange 33 = .ok (.getfield 147, 3) := dk_180 0 147 (dk_at dksX1_exchange_1 11 rfl rfl)
theorem dX1_exchange_36 : decode cX1_exchange 36 = .ok (.iload_n 1, 1) := dk_27 (dk_at dksX1_exchange_1 14 rfl rfl)
theorem dX1_exchange_37 : decode cX1_exchange 37 = .ok (.iaload, 1) := dk_46 (dk_at dksX1_exchange_1 15 rfl rfl)
theorem dX1_exchange_38 : decode cX1_exchange 38 = .ok (.iconst 1, 1) := dk_4 (dk_at dksX1_exchange_1 16 rfl rfl)
theorem dX1_exchange_39 : decode cX1_exchange 39 = .ok (.if_icmp .ne 16, 3) := dk_160 0 16 (dk_at dksX1_exchange_1 17 rfl rfl)
theorem dX1_exchange_42 : decode cX1_exchange 42 = .ok (.aload_n 0, 1) := dk_42 (dk_at dksX1_exchange_1 20 rfl rfl)
theorem dX1_exchange_43 : decode cX1_exchange 43 = .ok (.getfield 27, 3) := dk_180 0 27 (dk_at dksX1_exchange_1 21 rfl rfl)
theorem dX1_exchange_46 : decode cX1_exchange 46 = .ok (.getfield 147, 3) := dk_180 0 147 (dk_at dksX1_exchange_2 0 rfl rfl)
theorem dX1_exchange_49 : decode cX1_exchange 49 = .ok (.iload_n 2, 1) := dk_28 (dk_at dksX1_exchange_2 3 rfl rfl)
theorem dX1_exchange_50 : decode cX1_exchange 50 = .ok (.iaload, 1) := dk_46 (dk_at dksX1_exchange_2 4 rfl rfl)
theorem dX1_exchange_51 : decode cX1_exchange 51 = .ok (.iconst 1, 1) := dk_4 (dk_at dksX1_exchange_2 5 rfl rfl)
theorem dX1_exchange_52 : decode cX1_exchange 52 = .ok (.if_icmp .eq 15, 3) := dk_159 0 15 (dk_at dksX1_exchange_2 6 rfl rfl)
theorem dX1_exchange_55 : decode cX1_exchange 55 = .ok (.aload_n 0, 1) := dk_42 (dk_at dksX1_exchange_2 9 rfl rfl)
theorem dX1_exchange_56 : decode cX1_exchange 56 = .ok (.getfield 43, 3) := dk_180 0 43 (dk_at dksX1_exchange_2 10 rfl rfl)
theorem dX1_exchange_59 : decode cX1_exchange 59 = .ok (.iconst 1, 1) := dk_4 (dk_at dksX1_exchange_2 13 rfl rfl)
theorem dX1_exchange_60 : decode cX1_exchange 60 = .ok (.dup2, 1) := dk_92 (dk_at dksX1_exchange_2 14 rfl rfl)
theorem dX1_exchange_61 : decode cX1_exchange 61 = .ok (.iaload, 1) := dk_46 (dk_at dksX1_exchange_2 15 rfl rfl)
theorem dX1_exchange_62 : decode cX1_exchange 62 = .ok (.iconst 1, 1) := dk_4 (dk_at dksX1_exchange_2 16 rfl rfl)
theorem dX1_exchange_63 : decode cX1_exchange 63 = .ok (.iadd, 1) := dk_96 (dk_at dksX1_exchange_2 17 rfl rfl)
theorem dX1_exchange_64 : decode cX1_exchange 64 = .ok (.iastore, 1) := dk_79 (dk_at dksX1_exchange_2 18 rfl rfl)
theorem dX1_exchange_65 : decode cX1_exchange 65 = .ok (.iconst 0, 1) := dk_3 (dk_at dksX1_exchange_2 19 rfl rfl)
theorem dX1_exchange_66 : decode cX1_exchange 66 = .ok (.ireturn, 1) := dk_172 (dk_at dksX1_exchange_2 20 rfl rfl)
theorem dX1_exchange_67 : decode cX1_exchange 67 = .ok (.aload_n 0, 1) := dk_42 (dk_at dksX1_exchange_2 21 rfl rfl)
theorem dX1_exchange_68 : decode cX1_exchange 68 = .ok (.invokevirtual 192, 3) := dk_182 0 192 (dk_at dksX1_exchange_3 0 rfl rfl)
theorem dX1_exchange_71 : decode cX1_exchange 71 = .ok (.aload_n 0, 1) := dk_42 (dk_at dksX1_exchange_3 3 rfl rfl)
theorem dX1_exchange_72 : decode cX1_exchange 72 = .ok (.getfield 27, 3) := dk_180 0 27 (dk_at dksX1_exchange_3 4 rfl rfl)
theorem dX1_exchange_75 : decode cX1_exchange 75 = .ok (.getfield 147, 3) := dk_180 0 147 (dk_at dksX1_exchange_3 7 rfl rfl)
theorem dX1_exchange_78 : decode cX1_exchange 78 = .ok (.iload_n 1, 1) := dk_27 (dk_at dksX1_exchange_3 10 rfl rfl)
theorem dX1_exchange_79 : decode cX1_exchange 79 = .ok (.iconst 0, 1) := dk_3 (dk_at dksX1_exchange_3 11 rfl rfl)
theorem dX1_exchange_80 : decode cX1_exchange 80 = .ok (.iastore, 1) := dk_79 (dk_at dksX1_exchange_3 12 rfl rfl)
theorem dX1_exchange_81 : decode cX1_exchange 81 = .ok (.aload_n 0, 1) := dk_42 (dk_at dksX1_exchange_3 13 rfl rfl)
theorem dX1_exchange_82 : decode cX1_exchange 82 = .ok (.getfield 27, 3) := dk_180 0 27 (dk_at dksX1_exchange_3 14 rfl rfl)
theorem dX1_exchange_85 : decode cX1_exchange 85 = .ok (.getfield 147, 3) := dk_180 0 147 (dk_at dksX1_exchange_3 17 rfl rfl)
theorem dX1_exchange_88 : decode cX1_exchange 88 = .ok (.iload_n 2, 1) := dk_28 (dk_at dksX1_exchange_3 20 rfl rfl)
theorem dX1_exchange_89 : decode cX1_exchange 89 = .ok (.iconst 0, 1) := dk_3 (dk_at dksX1_exchange_3 21 rfl rfl)
theorem dX1_exchange_90 : decode cX1_exchange 90 = .ok (.iastore, 1) := dk_79 (dk_at dksX1_exchange_3 22 rfl rfl)
theorem dX1_exchange_91 : decode cX1_exchange 91 = .ok (.iconst 1, 1) := dk_4 (dk_at dksX1_exchange_3 23 rfl rfl)
theorem dX1_exchange_92 : decode cX1_exchange 92 = .ok (.ireturn, 1) := dk_172 (dk_at dksX1_exchange_4 0 rfl rfl)
abbrev cX1_moved : ByteArray := prog_1_method_29_code
def yX1_moved : MethodName := ⟨RX1, "moved", "(I)I"⟩
def dkwX1_moved_5 : List UInt8 := [21, 4, 153, 0, 10, 29, 17, 3, 232, 161, 0, 7, 2, 167, 0, 4, 29, 172]
abbrev dktX1_moved_5 : List UInt8 := dkwX1_moved_5 ++ []
def dkwX1_moved_4 : List UInt8 := [21, 8, 4, 100, 21, 6, 126, 54, 8, 167, 255, 210, 29, 21, 7, 96, 62, 132, 5, 1, 167, 255, 156]
abbrev dktX1_moved_4 : List UInt8 := dkwX1_moved_4 ++ dktX1_moved_5
def dkwX1_moved_3 : List UInt8 := [180, 0, 158, 160, 0, 20, 21, 7, 42, 44, 21, 5, 50, 21, 8, 182, 0, 223, 184, 0, 227, 54, 7]
abbrev dktX1_moved_3 : List UInt8 := dkwX1_moved_3 ++ dktX1_moved_4
def dkwX1_moved_2 : List UInt8 := [17, 3, 232, 54, 7, 21, 6, 54, 8, 21, 8, 158, 0, 47, 21, 8, 184, 0, 220, 44, 21, 5, 50]
abbrev dktX1_moved_2 : List UInt8 := dkwX1_moved_2 ++ dktX1_moved_3
def dkwX1_moved_1 : List UInt8 := [199, 0, 6, 167, 0, 84, 4, 54, 4, 42, 21, 5, 42, 180, 0, 27, 182, 0, 104, 182, 0, 216, 54, 6]
abbrev dktX1_moved_1 : List UInt8 := dkwX1_moved_1 ++ dktX1_moved_2
def dkwX1_moved_0 : List UInt8 := [42, 27, 182, 0, 150, 77, 3, 62, 3, 54, 4, 3, 54, 5, 21, 5, 7, 162, 0, 100, 44, 21, 5, 50]
abbrev dktX1_moved_0 : List UInt8 := dkwX1_moved_0 ++ dktX1_moved_1
theorem dksX1_moved_0 : cX1_moved.data.toList.drop 0 = dktX1_moved_0 := by decide +kernel
theorem dksX1_moved_1 : cX1_moved.data.toList.drop 24 = dktX1_moved_1 := dk_seg dksX1_moved_0 24 rfl rfl
theorem dksX1_moved_2 : cX1_moved.data.toList.drop 48 = dktX1_moved_2 := dk_seg dksX1_moved_1 24 rfl rfl
theorem dksX1_moved_3 : cX1_moved.data.toList.drop 71 = dktX1_moved_3 := dk_seg dksX1_moved_2 23 rfl rfl
theorem dksX1_moved_4 : cX1_moved.data.toList.drop 94 = dktX1_moved_4 := dk_seg dksX1_moved_3 23 rfl rfl
theorem dksX1_moved_5 : cX1_moved.data.toList.drop 117 = dktX1_moved_5 := dk_seg dksX1_moved_4 23 rfl rfl
theorem dX1_moved_0 : decode cX1_moved 0 = .ok (.aload_n 0, 1) := dk_42 (dk_at dksX1_moved_0 0 rfl rfl)
theorem dX1_moved_1 : decode cX1_moved 1 = .ok (.iload_n 1, 1) := dk_27 (dk_at dksX1_moved_0 1 rfl rfl)
theorem dX1_moved_2 : decode cX1_moved 2 = .ok (.invokevirtual 150, 3) := dk_182 0 150 (dk_at dksX1_moved_0 2 rfl rfl)
theorem dX1_moved_5 : decode cX1_moved 5 = .ok (.astore_n 2, 1) := dk_77 (dk_at dksX1_moved_0 5 rfl rfl)
theorem dX1_moved_6 : decode cX1_moved 6 = .ok (.iconst 0, 1) := dk_3 (dk_at dksX1_moved_0 6 rfl rfl)
theorem dX1_moved_7 : decode cX1_moved 7 = .ok (.istore_n 3, 1) := dk_62 (dk_at dksX1_moved_0 7 rfl rfl)
theorem dX1_moved_8 : decode cX1_moved 8 = .ok (.iconst 0, 1) := dk_3 (dk_at dksX1_moved_0 8 rfl rfl)
theorem dX1_moved_9 : decode cX1_moved 9 = .ok (.istore 4, 2) := dk_54 4 (dk_at dksX1_moved_0 9 rfl rfl)
theorem dX1_moved_11 : decode cX1_moved 11 = .ok (.iconst 0, 1) := dk_3 (dk_at dksX1_moved_0 11 rfl rfl)
theorem dX1_moved_12 : decode cX1_moved 12 = .ok (.istore 5, 2) := dk_54 5 (dk_at dksX1_moved_0 12 rfl rfl)
theorem dX1_moved_14 : decode cX1_moved 14 = .ok (.iload 5, 2) := dk_21 5 (dk_at dksX1_moved_0 14 rfl rfl)
theorem dX1_moved_16 : decode cX1_moved 16 = .ok (.iconst 4, 1) := dk_7 (dk_at dksX1_moved_0 16 rfl rfl)
theorem dX1_moved_17 : decode cX1_moved 17 = .ok (.if_icmp .ge 100, 3) := dk_162 0 100 (dk_at dksX1_moved_0 17 rfl rfl)
theorem dX1_moved_20 : decode cX1_moved 20 = .ok (.aload_n 2, 1) := dk_44 (dk_at dksX1_moved_0 20 rfl rfl)
theorem dX1_moved_21 : decode cX1_moved 21 = .ok (.iload 5, 2) := dk_21 5 (dk_at dksX1_moved_0 21 rfl rfl)
theorem dX1_moved_23 : decode cX1_moved 23 = .ok (.aaload, 1) := dk_50 (dk_at dksX1_moved_0 23 rfl rfl)
theorem dX1_moved_24 : decode cX1_moved 24 = .ok (.ifnonnull 6, 3) := dk_199 0 6 (dk_at dksX1_moved_1 0 rfl rfl)
theorem dX1_moved_27 : decode cX1_moved 27 = .ok (.goto 84, 3) := dk_167 0 84 (dk_at dksX1_moved_1 3 rfl rfl)
theorem dX1_moved_30 : decode cX1_moved 30 = .ok (.iconst 1, 1) := dk_4 (dk_at dksX1_moved_1 6 rfl rfl)
theorem dX1_moved_31 : decode cX1_moved 31 = .ok (.istore 4, 2) := dk_54 4 (dk_at dksX1_moved_1 7 rfl rfl)
theorem dX1_moved_33 : decode cX1_moved 33 = .ok (.aload_n 0, 1) := dk_42 (dk_at dksX1_moved_1 9 rfl rfl)
theorem dX1_moved_34 : decode cX1_moved 34 = .ok (.iload 5, 2) := dk_21 5 (dk_at dksX1_moved_1 10 rfl rfl)
theorem dX1_moved_36 : decode cX1_moved 36 = .ok (.aload_n 0, 1) := dk_42 (dk_at dksX1_moved_1 12 rfl rfl)
theorem dX1_moved_37 : decode cX1_moved 37 = .ok (.getfield 27, 3) := dk_180 0 27 (dk_at dksX1_moved_1 13 rfl rfl)
theorem dX1_moved_40 : decode cX1_moved 40 = .ok (.invokevirtual 104, 3) := dk_182 0 104 (dk_at dksX1_moved_1 16 rfl rfl)
theorem dX1_moved_43 : decode cX1_moved 43 = .ok (.invokevirtual 216, 3) := dk_182 0 216 (dk_at dksX1_moved_1 19 rfl rfl)
theorem dX1_moved_46 : decode cX1_moved 46 = .ok (.istore 6, 2) := dk_54 6 (dk_at dksX1_moved_1 22 rfl rfl)
theorem dX1_moved_48 : decode cX1_moved 48 = .ok (.sipush 1000, 3) := dk_17 3 232 (dk_at dksX1_moved_2 0 rfl rfl)
theorem dX1_moved_51 : decode cX1_moved 51 = .ok (.istore 7, 2) := dk_54 7 (dk_at dksX1_moved_2 3 rfl rfl)
theorem dX1_moved_53 : decode cX1_moved 53 = .ok (.iload 6, 2) := dk_21 6 (dk_at dksX1_moved_2 5 rfl rfl)
theorem dX1_moved_55 : decode cX1_moved 55 = .ok (.istore 8, 2) := dk_54 8 (dk_at dksX1_moved_2 7 rfl rfl)
theorem dX1_moved_57 : decode cX1_moved 57 = .ok (.iload 8, 2) := dk_21 8 (dk_at dksX1_moved_2 9 rfl rfl)
theorem dX1_moved_59 : decode cX1_moved 59 = .ok (.ifCond .le 47, 3) := dk_158 0 47 (dk_at dksX1_moved_2 11 rfl rfl)
theorem dX1_moved_62 : decode cX1_moved 62 = .ok (.iload 8, 2) := dk_21 8 (dk_at dksX1_moved_2 14 rfl rfl)
theorem dX1_moved_64 : decode cX1_moved 64 = .ok (.invokestatic 220, 3) := dk_184 0 220 (dk_at dksX1_moved_2 16 rfl rfl)
theorem dX1_moved_67 : decode cX1_moved 67 = .ok (.aload_n 2, 1) := dk_44 (dk_at dksX1_moved_2 19 rfl rfl)
theorem dX1_moved_68 : decode cX1_moved 68 = .ok (.iload 5, 2) := dk_21 5 (dk_at dksX1_moved_2 20 rfl rfl)
theorem dX1_moved_70 : decode cX1_moved 70 = .ok (.aaload, 1) := dk_50 (dk_at dksX1_moved_2 22 rfl rfl)
theorem dX1_moved_71 : decode cX1_moved 71 = .ok (.getfield 158, 3) := dk_180 0 158 (dk_at dksX1_moved_3 0 rfl rfl)
theorem dX1_moved_74 : decode cX1_moved 74 = .ok (.if_icmp .ne 20, 3) := dk_160 0 20 (dk_at dksX1_moved_3 3 rfl rfl)
theorem dX1_moved_77 : decode cX1_moved 77 = .ok (.iload 7, 2) := dk_21 7 (dk_at dksX1_moved_3 6 rfl rfl)
theorem dX1_moved_79 : decode cX1_moved 79 = .ok (.aload_n 0, 1) := dk_42 (dk_at dksX1_moved_3 8 rfl rfl)
theorem dX1_moved_80 : decode cX1_moved 80 = .ok (.aload_n 2, 1) := dk_44 (dk_at dksX1_moved_3 9 rfl rfl)
theorem dX1_moved_81 : decode cX1_moved 81 = .ok (.iload 5, 2) := dk_21 5 (dk_at dksX1_moved_3 10 rfl rfl)
theorem dX1_moved_83 : decode cX1_moved 83 = .ok (.aaload, 1) := dk_50 (dk_at dksX1_moved_3 12 rfl rfl)
theorem dX1_moved_84 : decode cX1_moved 84 = .ok (.iload 8, 2) := dk_21 8 (dk_at dksX1_moved_3 13 rfl rfl)
theorem dX1_moved_86 : decode cX1_moved 86 = .ok (.invokevirtual 223, 3) := dk_182 0 223 (dk_at dksX1_moved_3 15 rfl rfl)
theorem dX1_moved_89 : decode cX1_moved 89 = .ok (.invokestatic 227, 3) := dk_184 0 227 (dk_at dksX1_moved_3 18 rfl rfl)
theorem dX1_moved_92 : decode cX1_moved 92 = .ok (.istore 7, 2) := dk_54 7 (dk_at dksX1_moved_3 21 rfl rfl)
theorem dX1_moved_94 : decode cX1_moved 94 = .ok (.iload 8, 2) := dk_21 8 (dk_at dksX1_moved_4 0 rfl rfl)
theorem dX1_moved_96 : decode cX1_moved 96 = .ok (.iconst 1, 1) := dk_4 (dk_at dksX1_moved_4 2 rfl rfl)
theorem dX1_moved_97 : decode cX1_moved 97 = .ok (.isub, 1) := dk_100 (dk_at dksX1_moved_4 3 rfl rfl)
theorem dX1_moved_98 : decode cX1_moved 98 = .ok (.iload 6, 2) := dk_21 6 (dk_at dksX1_moved_4 4 rfl rfl)
theorem dX1_moved_100 : decode cX1_moved 100 = .ok (.iand, 1) := dk_126 (dk_at dksX1_moved_4 6 rfl rfl)
theorem dX1_moved_101 : decode cX1_moved 101 = .ok (.istore 8, 2) := dk_54 8 (dk_at dksX1_moved_4 7 rfl rfl)
theorem dX1_moved_103 : decode cX1_moved 103 = .ok (.goto (-46), 3) := dk_167 255 210 (dk_at dksX1_moved_4 9 rfl rfl)
theorem dX1_moved_106 : decode cX1_moved 106 = .ok (.iload_n 3, 1) := dk_29 (dk_at dksX1_moved_4 12 rfl rfl)
theorem dX1_moved_107 : decode cX1_moved 107 = .ok (.iload 7, 2) := dk_21 7 (dk_at dksX1_moved_4 13 rfl rfl)
theorem dX1_moved_109 : decode cX1_moved 109 = .ok (.iadd, 1) := dk_96 (dk_at dksX1_moved_4 15 rfl rfl)
theorem dX1_moved_110 : decode cX1_moved 110 = .ok (.istore_n 3, 1) := dk_62 (dk_at dksX1_moved_4 16 rfl rfl)
theorem dX1_moved_111 : decode cX1_moved 111 = .ok (.iinc 5 1, 3) := dk_132 5 1 (dk_at dksX1_moved_4 17 rfl rfl)
theorem dX1_moved_114 : decode cX1_moved 114 = .ok (.goto (-100), 3) := dk_167 255 156 (dk_at dksX1_moved_4 20 rfl rfl)
theorem dX1_moved_117 : decode cX1_moved 117 = .ok (.iload 4, 2) := dk_21 4 (dk_at dksX1_moved_5 0 rfl rfl)
theorem dX1_moved_119 : decode cX1_moved 119 = .ok (.ifCond .eq 10, 3) := dk_153 0 10 (dk_at dksX1_moved_5 2 rfl rfl)
theorem dX1_moved_122 : decode cX1_moved 122 = .ok (.iload_n 3, 1) := dk_29 (dk_at dksX1_moved_5 5 rfl rfl)
theorem dX1_moved_123 : decode cX1_moved 123 = .ok (.sipush 1000, 3) := dk_17 3 232 (dk_at dksX1_moved_5 6 rfl rfl)
theorem dX1_moved_126 : decode cX1_moved 126 = .ok (.if_icmp .lt 7, 3) := dk_161 0 7 (dk_at dksX1_moved_5 9 rfl rfl)
theorem dX1_moved_129 : decode cX1_moved 129 = .ok (.iconst (-1), 1) := dk_2 (dk_at dksX1_moved_5 12 rfl rfl)
theorem dX1_moved_130 : decode cX1_moved 130 = .ok (.goto 4, 3) := dk_167 0 4 (dk_at dksX1_moved_5 13 rfl rfl)
theorem dX1_moved_133 : decode cX1_moved 133 = .ok (.iload_n 3, 1) := dk_29 (dk_at dksX1_moved_5 16 rfl rfl)
theorem dX1_moved_134 : decode cX1_moved 134 = .ok (.ireturn, 1) := dk_172 (dk_at dksX1_moved_5 17 rfl rfl)
abbrev cX1_ofPart : ByteArray := prog_1_method_28_code
def yX1_ofPart : MethodName := ⟨RX1, "ofPart", "(II)I"⟩
def dkwX1_ofPart_3 : List UInt8 := [172]
abbrev dktX1_ofPart_3 : List UInt8 := dkwX1_ofPart_3 ++ []
def dkwX1_ofPart_2 : List UInt8 := [192, 0, 124, 180, 0, 135, 27, 160, 0, 10, 29, 4, 21, 4, 120, 128, 62, 132, 4, 1, 167, 255, 196, 29]
abbrev dktX1_ofPart_2 : List UInt8 := dkwX1_ofPart_2 ++ dktX1_ofPart_3
def dkwX1_ofPart_1 : List UInt8 := [21, 4, 184, 0, 209, 153, 0, 34, 42, 180, 0, 16, 180, 0, 83, 21, 4, 185, 0, 120, 2, 0]
abbrev dktX1_ofPart_1 : List UInt8 := dkwX1_ofPart_1 ++ dktX1_ofPart_2
def dkwX1_ofPart_0 : List UInt8 := [3, 62, 3, 54, 4, 21, 4, 42, 180, 0, 16, 180, 0, 83, 185, 0, 86, 1, 0, 162, 0, 49, 28]
abbrev dktX1_ofPart_0 : List UInt8 := dkwX1_ofPart_0 ++ dktX1_ofPart_1
theorem dksX1_ofPart_0 : cX1_ofPart.data.toList.drop 0 = dktX1_ofPart_0 := by decide +kernel
theorem dksX1_ofPart_1 : cX1_ofPart.data.toList.drop 23 = dktX1_ofPart_1 := dk_seg dksX1_ofPart_0 23 rfl rfl
theorem dksX1_ofPart_2 : cX1_ofPart.data.toList.drop 45 = dktX1_ofPart_2 := dk_seg dksX1_ofPart_1 22 rfl rfl
theorem dksX1_ofPart_3 : cX1_ofPart.data.toList.drop 69 = dktX1_ofPart_3 := dk_seg dksX1_ofPart_2 24 rfl rfl
theorem dX1_ofPart_0 : decode cX1_ofPart 0 = .ok (.iconst 0, 1) := dk_3 (dk_at dksX1_ofPart_0 0 rfl rfl)
theorem dX1_ofPart_1 : decode cX1_ofPart 1 = .ok (.istore_n 3, 1) := dk_62 (dk_at dksX1_ofPart_0 1 rfl rfl)
theorem dX1_ofPart_2 : decode cX1_ofPart 2 = .ok (.iconst 0, 1) := dk_3 (dk_at dksX1_ofPart_0 2 rfl rfl)
theorem dX1_ofPart_3 : decode cX1_ofPart 3 = .ok (.istore 4, 2) := dk_54 4 (dk_at dksX1_ofPart_0 3 rfl rfl)
theorem dX1_ofPart_5 : decode cX1_ofPart 5 = .ok (.iload 4, 2) := dk_21 4 (dk_at dksX1_ofPart_0 5 rfl rfl)
theorem dX1_ofPart_7 : decode cX1_ofPart 7 = .ok (.aload_n 0, 1) := dk_42 (dk_at dksX1_ofPart_0 7 rfl rfl)
theorem dX1_ofPart_8 : decode cX1_ofPart 8 = .ok (.getfield 16, 3) := dk_180 0 16 (dk_at dksX1_ofPart_0 8 rfl rfl)
theorem dX1_ofPart_11 : decode cX1_ofPart 11 = .ok (.getfield 83, 3) := dk_180 0 83 (dk_at dksX1_ofPart_0 11 rfl rfl)
theorem dX1_ofPart_14 : decode cX1_ofPart 14 = .ok (.invokeinterface 86 1, 5) := by decide +kernel
theorem dX1_ofPart_19 : decode cX1_ofPart 19 = .ok (.if_icmp .ge 49, 3) := dk_162 0 49 (dk_at dksX1_ofPart_0 19 rfl rfl)
theorem dX1_ofPart_22 : decode cX1_ofPart 22 = .ok (.iload_n 2, 1) := dk_28 (dk_at dksX1_ofPart_0 22 rfl rfl)
theorem dX1_ofPart_23 : decode cX1_ofPart 23 = .ok (.iload 4, 2) := dk_21 4 (dk_at dksX1_ofPart_1 0 rfl rfl)
theorem dX1_ofPart_25 : decode cX1_ofPart 25 = .ok (.invokestatic 209, 3) := dk_184 0 209 (dk_at dksX1_ofPart_1 2 rfl rfl)
theorem dX1_ofPart_28 : decode cX1_ofPart 28 = .ok (.ifCond .eq 34, 3) := dk_153 0 34 (dk_at dksX1_ofPart_1 5 rfl rfl)
theorem dX1_ofPart_31 : decode cX1_ofPart 31 = .ok (.aload_n 0, 1) := dk_42 (dk_at dksX1_ofPart_1 8 rfl rfl)
theorem dX1_ofPart_32 : decode cX1_ofPart 32 = .ok (.getfield 16, 3) := dk_180 0 16 (dk_at dksX1_ofPart_1 9 rfl rfl)
theorem dX1_ofPart_35 : decode cX1_ofPart 35 = .ok (.getfield 83, 3) := dk_180 0 83 (dk_at dksX1_ofPart_1 12 rfl rfl)
theorem dX1_ofPart_38 : decode cX1_ofPart 38 = .ok (.iload 4, 2) := dk_21 4 (dk_at dksX1_ofPart_1 15 rfl rfl)
theorem dX1_ofPart_40 : decode cX1_ofPart 40 = .ok (.invokeinterface 120 2, 5) := by decide +kernel
theorem dX1_ofPart_45 : decode cX1_ofPart 45 = .ok (.checkcast 124, 3) := dk_192 0 124 (dk_at dksX1_ofPart_2 0 rfl rfl)
theorem dX1_ofPart_48 : decode cX1_ofPart 48 = .ok (.getfield 135, 3) := dk_180 0 135 (dk_at dksX1_ofPart_2 3 rfl rfl)
theorem dX1_ofPart_51 : decode cX1_ofPart 51 = .ok (.iload_n 1, 1) := dk_27 (dk_at dksX1_ofPart_2 6 rfl rfl)
theorem dX1_ofPart_52 : decode cX1_ofPart 52 = .ok (.if_icmp .ne 10, 3) := dk_160 0 10 (dk_at dksX1_ofPart_2 7 rfl rfl)
theorem dX1_ofPart_55 : decode cX1_ofPart 55 = .ok (.iload_n 3, 1) := dk_29 (dk_at dksX1_ofPart_2 10 rfl rfl)
theorem dX1_ofPart_56 : decode cX1_ofPart 56 = .ok (.iconst 1, 1) := dk_4 (dk_at dksX1_ofPart_2 11 rfl rfl)
theorem dX1_ofPart_57 : decode cX1_ofPart 57 = .ok (.iload 4, 2) := dk_21 4 (dk_at dksX1_ofPart_2 12 rfl rfl)
theorem dX1_ofPart_59 : decode cX1_ofPart 59 = .ok (.ishl, 1) := dk_120 (dk_at dksX1_ofPart_2 14 rfl rfl)
theorem dX1_ofPart_60 : decode cX1_ofPart 60 = .ok (.ior, 1) := dk_128 (dk_at dksX1_ofPart_2 15 rfl rfl)
theorem dX1_ofPart_61 : decode cX1_ofPart 61 = .ok (.istore_n 3, 1) := dk_62 (dk_at dksX1_ofPart_2 16 rfl rfl)
theorem dX1_ofPart_62 : decode cX1_ofPart 62 = .ok (.iinc 4 1, 3) := dk_132 4 1 (dk_at dksX1_ofPart_2 17 rfl rfl)
theorem dX1_ofPart_65 : decode cX1_ofPart 65 = .ok (.goto (-60), 3) := dk_167 255 196 (dk_at dksX1_ofPart_2 20 rfl rfl)
theorem dX1_ofPart_68 : decode cX1_ofPart 68 = .ok (.iload_n 3, 1) := dk_29 (dk_at dksX1_ofPart_2 23 rfl rfl)
theorem dX1_ofPart_69 : decode cX1_ofPart 69 = .ok (.ireturn, 1) := dk_172 (dk_at dksX1_ofPart_3 0 rfl rfl)
abbrev cX1_movedFor : ByteArray := prog_1_method_26_code
def yX1_movedFor : MethodName := ⟨RX1, "movedFor", "(LValleyMass$Row;I)I"⟩
def dkwX1_movedFor_3 : List UInt8 := [16, 12, 100, 182, 0, 205, 154, 0, 7, 17, 3, 232, 172, 132, 3, 1, 132, 4, 1, 167, 255, 174, 29, 172]
abbrev dktX1_movedFor_3 : List UInt8 := dkwX1_movedFor_3 ++ []
def dkwX1_movedFor_2 : List UInt8 := [153, 0, 6, 167, 0, 36, 42, 28, 21, 5, 16, 12, 96, 182, 0, 205, 154, 0, 20, 42, 28, 21, 5]
abbrev dktX1_movedFor_2 : List UInt8 := dkwX1_movedFor_2 ++ dktX1_movedFor_3
def dkwX1_movedFor_1 : List UInt8 := [21, 4, 185, 0, 120, 2, 0, 192, 0, 166, 182, 0, 168, 54, 5, 42, 28, 21, 5, 182, 0, 205]
abbrev dktX1_movedFor_1 : List UInt8 := dkwX1_movedFor_1 ++ dktX1_movedFor_2
def dkwX1_movedFor_0 : List UInt8 := [3, 62, 3, 54, 4, 21, 4, 43, 180, 0, 163, 185, 0, 86, 1, 0, 162, 0, 74, 43, 180, 0, 163]
abbrev dktX1_movedFor_0 : List UInt8 := dkwX1_movedFor_0 ++ dktX1_movedFor_1
theorem dksX1_movedFor_0 : cX1_movedFor.data.toList.drop 0 = dktX1_movedFor_0 := by decide +kernel
theorem dksX1_movedFor_1 : cX1_movedFor.data.toList.drop 23 = dktX1_movedFor_1 := dk_seg dksX1_movedFor_0 23 rfl rfl
theorem dksX1_movedFor_2 : cX1_movedFor.data.toList.drop 45 = dktX1_movedFor_2 := dk_seg dksX1_movedFor_1 22 rfl rfl
theorem dksX1_movedFor_3 : cX1_movedFor.data.toList.drop 68 = dktX1_movedFor_3 := dk_seg dksX1_movedFor_2 23 rfl rfl
theorem dX1_movedFor_0 : decode cX1_movedFor 0 = .ok (.iconst 0, 1) := dk_3 (dk_at dksX1_movedFor_0 0 rfl rfl)
theorem dX1_movedFor_1 : decode cX1_movedFor 1 = .ok (.istore_n 3, 1) := dk_62 (dk_at dksX1_movedFor_0 1 rfl rfl)
theorem dX1_movedFor_2 : decode cX1_movedFor 2 = .ok (.iconst 0, 1) := dk_3 (dk_at dksX1_movedFor_0 2 rfl rfl)
theorem dX1_movedFor_3 : decode cX1_movedFor 3 = .ok (.istore 4, 2) := dk_54 4 (dk_at dksX1_movedFor_0 3 rfl rfl)
theorem dX1_movedFor_5 : decode cX1_movedFor 5 = .ok (.iload 4, 2) := dk_21 4 (dk_at dksX1_movedFor_0 5 rfl rfl)
theorem dX1_movedFor_7 : decode cX1_movedFor 7 = .ok (.aload_n 1, 1) := dk_43 (dk_at dksX1_movedFor_0 7 rfl rfl)
theorem dX1_movedFor_8 : decode cX1_movedFor 8 = .ok (.getfield 163, 3) := dk_180 0 163 (dk_at dksX1_movedFor_0 8 rfl rfl)
theorem dX1_movedFor_11 : decode cX1_movedFor 11 = .ok (.invokeinterface 86 1, 5) := by decide +kernel
theorem dX1_movedFor_16 : decode cX1_movedFor 16 = .ok (.if_icmp .ge 74, 3) := dk_162 0 74 (dk_at dksX1_movedFor_0 16 rfl rfl)
theorem dX1_movedFor_19 : decode cX1_movedFor 19 = .ok (.aload_n 1, 1) := dk_43 (dk_at dksX1_movedFor_0 19 rfl rfl)
theorem dX1_movedFor_20 : decode cX1_movedFor 20 = .ok (.getfield 163, 3) := dk_180 0 163 (dk_at dksX1_movedFor_0 20 rfl rfl)
theorem dX1_movedFor_23 : decode cX1_movedFor 23 = .ok (.iload 4, 2) := dk_21 4 (dk_at dksX1_movedFor_1 0 rfl rfl)
theorem dX1_movedFor_25 : decode cX1_movedFor 25 = .ok (.invokeinterface 120 2, 5) := by decide +kernel
theorem dX1_movedFor_30 : decode cX1_movedFor 30 = .ok (.checkcast 166, 3) := dk_192 0 166 (dk_at dksX1_movedFor_1 7 rfl rfl)
theorem dX1_movedFor_33 : decode cX1_movedFor 33 = .ok (.invokevirtual 168, 3) := dk_182 0 168 (dk_at dksX1_movedFor_1 10 rfl rfl)
theorem dX1_movedFor_36 : decode cX1_movedFor 36 = .ok (.istore 5, 2) := dk_54 5 (dk_at dksX1_movedFor_1 13 rfl rfl)
theorem dX1_movedFor_38 : decode cX1_movedFor 38 = .ok (.aload_n 0, 1) := dk_42 (dk_at dksX1_movedFor_1 15 rfl rfl)
theorem dX1_movedFor_39 : decode cX1_movedFor 39 = .ok (.iload_n 2, 1) := dk_28 (dk_at dksX1_movedFor_1 16 rfl rfl)
theorem dX1_movedFor_40 : decode cX1_movedFor 40 = .ok (.iload 5, 2) := dk_21 5 (dk_at dksX1_movedFor_1 17 rfl rfl)
theorem dX1_movedFor_42 : decode cX1_movedFor 42 = .ok (.invokevirtual 205, 3) := dk_182 0 205 (dk_at dksX1_movedFor_1 19 rfl rfl)
theorem dX1_movedFor_45 : decode cX1_movedFor 45 = .ok (.ifCond .eq 6, 3) := dk_153 0 6 (dk_at dksX1_movedFor_2 0 rfl rfl)
theorem dX1_movedFor_48 : decode cX1_movedFor 48 = .ok (.goto 36, 3) := dk_167 0 36 (dk_at dksX1_movedFor_2 3 rfl rfl)
theorem dX1_movedFor_51 : decode cX1_movedFor 51 = .ok (.aload_n 0, 1) := dk_42 (dk_at dksX1_movedFor_2 6 rfl rfl)
theorem dX1_movedFor_52 : decode cX1_movedFor 52 = .ok (.iload_n 2, 1) := dk_28 (dk_at dksX1_movedFor_2 7 rfl rfl)
theorem dX1_movedFor_53 : decode cX1_movedFor 53 = .ok (.iload 5, 2) := dk_21 5 (dk_at dksX1_movedFor_2 8 rfl rfl)
theorem dX1_movedFor_55 : decode cX1_movedFor 55 = .ok (.bipush 12, 2) := dk_16 12 (dk_at dksX1_movedFor_2 10 rfl rfl)
theorem dX1_movedFor_57 : decode cX1_movedFor 57 = .ok (.iadd, 1) := dk_96 (dk_at dksX1_movedFor_2 12 rfl rfl)
theorem dX1_movedFor_58 : decode cX1_movedFor 58 = .ok (.invokevirtual 205, 3) := dk_182 0 205 (dk_at dksX1_movedFor_2 13 rfl rfl)
theorem dX1_movedFor_61 : decode cX1_movedFor 61 = .ok (.ifCond .ne 20, 3) := dk_154 0 20 (dk_at dksX1_movedFor_2 16 rfl rfl)
theorem dX1_movedFor_64 : decode cX1_movedFor 64 = .ok (.aload_n 0, 1) := dk_42 (dk_at dksX1_movedFor_2 19 rfl rfl)
theorem dX1_movedFor_65 : decode cX1_movedFor 65 = .ok (.iload_n 2, 1) := dk_28 (dk_at dksX1_movedFor_2 20 rfl rfl)
theorem dX1_movedFor_66 : decode cX1_movedFor 66 = .ok (.iload 5, 2) := dk_21 5 (dk_at dksX1_movedFor_2 21 rfl rfl)
theorem dX1_movedFor_68 : decode cX1_movedFor 68 = .ok (.bipush 12, 2) := dk_16 12 (dk_at dksX1_movedFor_3 0 rfl rfl)
theorem dX1_movedFor_70 : decode cX1_movedFor 70 = .ok (.isub, 1) := dk_100 (dk_at dksX1_movedFor_3 2 rfl rfl)
theorem dX1_movedFor_71 : decode cX1_movedFor 71 = .ok (.invokevirtual 205, 3) := dk_182 0 205 (dk_at dksX1_movedFor_3 3 rfl rfl)
theorem dX1_movedFor_74 : decode cX1_movedFor 74 = .ok (.ifCond .ne 7, 3) := dk_154 0 7 (dk_at dksX1_movedFor_3 6 rfl rfl)
theorem dX1_movedFor_77 : decode cX1_movedFor 77 = .ok (.sipush 1000, 3) := dk_17 3 232 (dk_at dksX1_movedFor_3 9 rfl rfl)
theorem dX1_movedFor_80 : decode cX1_movedFor 80 = .ok (.ireturn, 1) := dk_172 (dk_at dksX1_movedFor_3 12 rfl rfl)
theorem dX1_movedFor_81 : decode cX1_movedFor 81 = .ok (.iinc 3 1, 3) := dk_132 3 1 (dk_at dksX1_movedFor_3 13 rfl rfl)
theorem dX1_movedFor_84 : decode cX1_movedFor 84 = .ok (.iinc 4 1, 3) := dk_132 4 1 (dk_at dksX1_movedFor_3 16 rfl rfl)
theorem dX1_movedFor_87 : decode cX1_movedFor 87 = .ok (.goto (-82), 3) := dk_167 255 174 (dk_at dksX1_movedFor_3 19 rfl rfl)
theorem dX1_movedFor_90 : decode cX1_movedFor 90 = .ok (.iload_n 3, 1) := dk_29 (dk_at dksX1_movedFor_3 22 rfl rfl)
theorem dX1_movedFor_91 : decode cX1_movedFor 91 = .ok (.ireturn, 1) := dk_172 (dk_at dksX1_movedFor_3 23 rfl rfl)
abbrev cX1_haveAll : ByteArray := prog_1_method_27_code
def yX1_haveAll : MethodName := ⟨RX1, "haveAll", "(II)Z"⟩
def dkwX1_haveAll_2 : List UInt8 := [154, 0, 5, 3, 172, 132, 3, 1, 167, 255, 204, 4, 172]
abbrev dktX1_haveAll_2 : List UInt8 := dkwX1_haveAll_2 ++ []
def dkwX1_haveAll_1 : List UInt8 := [153, 0, 28, 42, 180, 0, 16, 180, 0, 83, 29, 185, 0, 120, 2, 0, 192, 0, 124, 28, 182, 0, 212]
abbrev dktX1_haveAll_1 : List UInt8 := dkwX1_haveAll_1 ++ dktX1_haveAll_2
def dkwX1_haveAll_0 : List UInt8 := [3, 62, 29, 42, 180, 0, 16, 180, 0, 83, 185, 0, 86, 1, 0, 162, 0, 42, 27, 29, 184, 0, 209]
abbrev dktX1_haveAll_0 : List UInt8 := dkwX1_haveAll_0 ++ dktX1_haveAll_1
theorem dksX1_haveAll_0 : cX1_haveAll.data.toList.drop 0 = dktX1_haveAll_0 := by decide +kernel
theorem dksX1_haveAll_1 : cX1_haveAll.data.toList.drop 23 = dktX1_haveAll_1 := dk_seg dksX1_haveAll_0 23 rfl rfl
theorem dksX1_haveAll_2 : cX1_haveAll.data.toList.drop 46 = dktX1_haveAll_2 := dk_seg dksX1_haveAll_1 23 rfl rfl
theorem dX1_haveAll_0 : decode cX1_haveAll 0 = .ok (.iconst 0, 1) := dk_3 (dk_at dksX1_haveAll_0 0 rfl rfl)
theorem dX1_haveAll_1 : decode cX1_haveAll 1 = .ok (.istore_n 3, 1) := dk_62 (dk_at dksX1_haveAll_0 1 rfl rfl)
theorem dX1_haveAll_2 : decode cX1_haveAll 2 = .ok (.iload_n 3, 1) := dk_29 (dk_at dksX1_haveAll_0 2 rfl rfl)
theorem dX1_haveAll_3 : decode cX1_haveAll 3 = .ok (.aload_n 0, 1) := dk_42 (dk_at dksX1_haveAll_0 3 rfl rfl)
theorem dX1_haveAll_4 : decode cX1_haveAll 4 = .ok (.getfield 16, 3) := dk_180 0 16 (dk_at dksX1_haveAll_0 4 rfl rfl)
theorem dX1_haveAll_7 : decode cX1_haveAll 7 = .ok (.getfield 83, 3) := dk_180 0 83 (dk_at dksX1_haveAll_0 7 rfl rfl)
theorem dX1_haveAll_10 : decode cX1_haveAll 10 = .ok (.invokeinterface 86 1, 5) := by decide +kernel
theorem dX1_haveAll_15 : decode cX1_haveAll 15 = .ok (.if_icmp .ge 42, 3) := dk_162 0 42 (dk_at dksX1_haveAll_0 15 rfl rfl)
theorem dX1_haveAll_18 : decode cX1_haveAll 18 = .ok (.iload_n 1, 1) := dk_27 (dk_at dksX1_haveAll_0 18 rfl rfl)
theorem dX1_haveAll_19 : decode cX1_haveAll 19 = .ok (.iload_n 3, 1) := dk_29 (dk_at dksX1_haveAll_0 19 rfl rfl)
theorem dX1_haveAll_20 : decode cX1_haveAll 20 = .ok (.invokestatic 209, 3) := dk_184 0 209 (dk_at dksX1_haveAll_0 20 rfl rfl)
theorem dX1_haveAll_23 : decode cX1_haveAll 23 = .ok (.ifCond .eq 28, 3) := dk_153 0 28 (dk_at dksX1_haveAll_1 0 rfl rfl)
theorem dX1_haveAll_26 : decode cX1_haveAll 26 = .ok (.aload_n 0, 1) := dk_42 (dk_at dksX1_haveAll_1 3 rfl rfl)
theorem dX1_haveAll_27 : decode cX1_haveAll 27 = .ok (.getfield 16, 3) := dk_180 0 16 (dk_at dksX1_haveAll_1 4 rfl rfl)
theorem dX1_haveAll_30 : decode cX1_haveAll 30 = .ok (.getfield 83, 3) := dk_180 0 83 (dk_at dksX1_haveAll_1 7 rfl rfl)
theorem dX1_haveAll_33 : decode cX1_haveAll 33 = .ok (.iload_n 3, 1) := dk_29 (dk_at dksX1_haveAll_1 10 rfl rfl)
theorem dX1_haveAll_34 : decode cX1_haveAll 34 = .ok (.invokeinterface 120 2, 5) := by decide +kernel
theorem dX1_haveAll_39 : decode cX1_haveAll 39 = .ok (.checkcast 124, 3) := dk_192 0 124 (dk_at dksX1_haveAll_1 16 rfl rfl)
theorem dX1_haveAll_42 : decode cX1_haveAll 42 = .ok (.iload_n 2, 1) := dk_28 (dk_at dksX1_haveAll_1 19 rfl rfl)
theorem dX1_haveAll_43 : decode cX1_haveAll 43 = .ok (.invokevirtual 212, 3) := dk_182 0 212 (dk_at dksX1_haveAll_1 20 rfl rfl)
theorem dX1_haveAll_46 : decode cX1_haveAll 46 = .ok (.ifCond .ne 5, 3) := dk_154 0 5 (dk_at dksX1_haveAll_2 0 rfl rfl)
theorem dX1_haveAll_49 : decode cX1_haveAll 49 = .ok (.iconst 0, 1) := dk_3 (dk_at dksX1_haveAll_2 3 rfl rfl)
theorem dX1_haveAll_50 : decode cX1_haveAll 50 = .ok (.ireturn, 1) := dk_172 (dk_at dksX1_haveAll_2 4 rfl rfl)
theorem dX1_haveAll_51 : decode cX1_haveAll 51 = .ok (.iinc 3 1, 3) := dk_132 3 1 (dk_at dksX1_haveAll_2 5 rfl rfl)
theorem dX1_haveAll_54 : decode cX1_haveAll 54 = .ok (.goto (-52), 3) := dk_167 255 204 (dk_at dksX1_haveAll_2 8 rfl rfl)
theorem dX1_haveAll_57 : decode cX1_haveAll 57 = .ok (.iconst 1, 1) := dk_4 (dk_at dksX1_haveAll_2 11 rfl rfl)
theorem dX1_haveAll_58 : decode cX1_haveAll 58 = .ok (.ireturn, 1) := dk_172 (dk_at dksX1_haveAll_2 12 rfl rfl)
abbrev cX1_spare : ByteArray := prog_1_method_30_code
def yX1_spare : MethodName := ⟨RX1, "spare", "(I)I"⟩
def dkwX1_spare_3 : List UInt8 := [184, 0, 227, 62, 132, 4, 1, 167, 255, 210, 29, 172]
abbrev dktX1_spare_3 : List UInt8 := dkwX1_spare_3 ++ []
def dkwX1_spare_2 : List UInt8 := [21, 4, 42, 180, 0, 27, 182, 0, 104, 182, 0, 175, 184, 0, 220, 44, 21, 4, 50, 180, 0, 158, 100]
abbrev dktX1_spare_2 : List UInt8 := dkwX1_spare_2 ++ dktX1_spare_3
def dkwX1_spare_1 : List UInt8 := [2, 172, 16, 14, 62, 3, 54, 4, 21, 4, 7, 162, 0, 46, 44, 21, 4, 50, 198, 0, 33, 29, 42, 27]
abbrev dktX1_spare_1 : List UInt8 := dkwX1_spare_1 ++ dktX1_spare_2
def dkwX1_spare_0 : List UInt8 := [42, 27, 182, 0, 150, 77, 42, 180, 0, 16, 27, 42, 180, 0, 27, 182, 0, 104, 182, 0, 232, 154, 0, 5]
abbrev dktX1_spare_0 : List UInt8 := dkwX1_spare_0 ++ dktX1_spare_1
theorem dksX1_spare_0 : cX1_spare.data.toList.drop 0 = dktX1_spare_0 := by decide +kernel
theorem dksX1_spare_1 : cX1_spare.data.toList.drop 24 = dktX1_spare_1 := dk_seg dksX1_spare_0 24 rfl rfl
theorem dksX1_spare_2 : cX1_spare.data.toList.drop 48 = dktX1_spare_2 := dk_seg dksX1_spare_1 24 rfl rfl
theorem dksX1_spare_3 : cX1_spare.data.toList.drop 71 = dktX1_spare_3 := dk_seg dksX1_spare_2 23 rfl rfl
theorem dX1_spare_0 : decode cX1_spare 0 = .ok (.aload_n 0, 1) := dk_42 (dk_at dksX1_spare_0 0 rfl rfl)
theorem dX1_spare_1 : decode cX1_spare 1 = .ok (.iload_n 1, 1) := dk_27 (dk_at dksX1_spare_0 1 rfl rfl)
theorem dX1_spare_2 : decode cX1_spare 2 = .ok (.invokevirtual 150, 3) := dk_182 0 150 (dk_at dksX1_spare_0 2 rfl rfl)
theorem dX1_spare_5 : decode cX1_spare 5 = .ok (.astore_n 2, 1) := dk_77 (dk_at dksX1_spare_0 5 rfl rfl)
theorem dX1_spare_6 : decode cX1_spare 6 = .ok (.aload_n 0, 1) := dk_42 (dk_at dksX1_spare_0 6 rfl rfl)
theorem dX1_spare_7 : decode cX1_spare 7 = .ok (.getfield 16, 3) := dk_180 0 16 (dk_at dksX1_spare_0 7 rfl rfl)
theorem dX1_spare_10 : decode cX1_spare 10 = .ok (.iload_n 1, 1) := dk_27 (dk_at dksX1_spare_0 10 rfl rfl)
theorem dX1_spare_11 : decode cX1_spare 11 = .ok (.aload_n 0, 1) := dk_42 (dk_at dksX1_spare_0 11 rfl rfl)
theorem dX1_spare_12 : decode cX1_spare 12 = .ok (.getfield 27, 3) := dk_180 0 27 (dk_at dksX1_spare_0 12 rfl rfl)
theorem dX1_spare_15 : decode cX1_spare 15 = .ok (.invokevirtual 104, 3) := dk_182 0 104 (dk_at dksX1_spare_0 15 rfl rfl)
theorem dX1_spare_18 : decode cX1_spare 18 = .ok (.invokevirtual 232, 3) := dk_182 0 232 (dk_at dksX1_spare_0 18 rfl rfl)
theorem dX1_spare_21 : decode cX1_spare 21 = .ok (.ifCond .ne 5, 3) := dk_154 0 5 (dk_at dksX1_spare_0 21 rfl rfl)
theorem dX1_spare_24 : decode cX1_spare 24 = .ok (.iconst (-1), 1) := dk_2 (dk_at dksX1_spare_1 0 rfl rfl)
theorem dX1_spare_25 : decode cX1_spare 25 = .ok (.ireturn, 1) := dk_172 (dk_at dksX1_spare_1 1 rfl rfl)
theorem dX1_spare_26 : decode cX1_spare 26 = .ok (.bipush 14, 2) := dk_16 14 (dk_at dksX1_spare_1 2 rfl rfl)
theorem dX1_spare_28 : decode cX1_spare 28 = .ok (.istore_n 3, 1) := dk_62 (dk_at dksX1_spare_1 4 rfl rfl)
theorem dX1_spare_29 : decode cX1_spare 29 = .ok (.iconst 0, 1) := dk_3 (dk_at dksX1_spare_1 5 rfl rfl)
theorem dX1_spare_30 : decode cX1_spare 30 = .ok (.istore 4, 2) := dk_54 4 (dk_at dksX1_spare_1 6 rfl rfl)
theorem dX1_spare_32 : decode cX1_spare 32 = .ok (.iload 4, 2) := dk_21 4 (dk_at dksX1_spare_1 8 rfl rfl)
theorem dX1_spare_34 : decode cX1_spare 34 = .ok (.iconst 4, 1) := dk_7 (dk_at dksX1_spare_1 10 rfl rfl)
theorem dX1_spare_35 : decode cX1_spare 35 = .ok (.if_icmp .ge 46, 3) := dk_162 0 46 (dk_at dksX1_spare_1 11 rfl rfl)
theorem dX1_spare_38 : decode cX1_spare 38 = .ok (.aload_n 2, 1) := dk_44 (dk_at dksX1_spare_1 14 rfl rfl)
theorem dX1_spare_39 : decode cX1_spare 39 = .ok (.iload 4, 2) := dk_21 4 (dk_at dksX1_spare_1 15 rfl rfl)
theorem dX1_spare_41 : decode cX1_spare 41 = .ok (.aaload, 1) := dk_50 (dk_at dksX1_spare_1 17 rfl rfl)
theorem dX1_spare_42 : decode cX1_spare 42 = .ok (.ifnull 33, 3) := dk_198 0 33 (dk_at dksX1_spare_1 18 rfl rfl)
theorem dX1_spare_45 : decode cX1_spare 45 = .ok (.iload_n 3, 1) := dk_29 (dk_at dksX1_spare_1 21 rfl rfl)
theorem dX1_spare_46 : decode cX1_spare 46 = .ok (.aload_n 0, 1) := dk_42 (dk_at dksX1_spare_1 22 rfl rfl)
theorem dX1_spare_47 : decode cX1_spare 47 = .ok (.iload_n 1, 1) := dk_27 (dk_at dksX1_spare_1 23 rfl rfl)
theorem dX1_spare_48 : decode cX1_spare 48 = .ok (.iload 4, 2) := dk_21 4 (dk_at dksX1_spare_2 0 rfl rfl)
theorem dX1_spare_50 : decode cX1_spare 50 = .ok (.aload_n 0, 1) := dk_42 (dk_at dksX1_spare_2 2 rfl rfl)
theorem dX1_spare_51 : decode cX1_spare 51 = .ok (.getfield 27, 3) := dk_180 0 27 (dk_at dksX1_spare_2 3 rfl rfl)
theorem dX1_spare_54 : decode cX1_spare 54 = .ok (.invokevirtual 104, 3) := dk_182 0 104 (dk_at dksX1_spare_2 6 rfl rfl)
theorem dX1_spare_57 : decode cX1_spare 57 = .ok (.invokevirtual 175, 3) := dk_182 0 175 (dk_at dksX1_spare_2 9 rfl rfl)
theorem dX1_spare_60 : decode cX1_spare 60 = .ok (.invokestatic 220, 3) := dk_184 0 220 (dk_at dksX1_spare_2 12 rfl rfl)
theorem dX1_spare_63 : decode cX1_spare 63 = .ok (.aload_n 2, 1) := dk_44 (dk_at dksX1_spare_2 15 rfl rfl)
theorem dX1_spare_64 : decode cX1_spare 64 = .ok (.iload 4, 2) := dk_21 4 (dk_at dksX1_spare_2 16 rfl rfl)
theorem dX1_spare_66 : decode cX1_spare 66 = .ok (.aaload, 1) := dk_50 (dk_at dksX1_spare_2 18 rfl rfl)
theorem dX1_spare_67 : decode cX1_spare 67 = .ok (.getfield 158, 3) := dk_180 0 158 (dk_at dksX1_spare_2 19 rfl rfl)
theorem dX1_spare_70 : decode cX1_spare 70 = .ok (.isub, 1) := dk_100 (dk_at dksX1_spare_2 22 rfl rfl)
theorem dX1_spare_71 : decode cX1_spare 71 = .ok (.invokestatic 227, 3) := dk_184 0 227 (dk_at dksX1_spare_3 0 rfl rfl)
theorem dX1_spare_74 : decode cX1_spare 74 = .ok (.istore_n 3, 1) := dk_62 (dk_at dksX1_spare_3 3 rfl rfl)
theorem dX1_spare_75 : decode cX1_spare 75 = .ok (.iinc 4 1, 3) := dk_132 4 1 (dk_at dksX1_spare_3 4 rfl rfl)
theorem dX1_spare_78 : decode cX1_spare 78 = .ok (.goto (-46), 3) := dk_167 255 210 (dk_at dksX1_spare_3 7 rfl rfl)
theorem dX1_spare_81 : decode cX1_spare 81 = .ok (.iload_n 3, 1) := dk_29 (dk_at dksX1_spare_3 10 rfl rfl)
theorem dX1_spare_82 : decode cX1_spare 82 = .ok (.ireturn, 1) := dk_172 (dk_at dksX1_spare_3 11 rfl rfl)
abbrev cX1_ransom : ByteArray := prog_1_method_32_code
def yX1_ransom : MethodName := ⟨RX1, "ransom", "(I)I"⟩
def dkwX1_ransom_6 : List UInt8 := [167, 255, 166, 21, 4, 172]
abbrev dktX1_ransom_6 : List UInt8 := dkwX1_ransom_6 ++ []
def dkwX1_ransom_5 : List UInt8 := [180, 0, 27, 182, 0, 104, 21, 5, 128, 182, 0, 232, 153, 0, 7, 21, 5, 54, 4, 132, 5, 1]
abbrev dktX1_ransom_5 : List UInt8 := dkwX1_ransom_5 ++ dktX1_ransom_6
def dkwX1_ransom_4 : List UInt8 := [159, 0, 16, 21, 5, 184, 0, 220, 21, 4, 184, 0, 220, 162, 0, 28, 42, 180, 0, 16, 27, 42]
abbrev dktX1_ransom_4 : List UInt8 := dkwX1_ransom_4 ++ dktX1_ransom_5
def dkwX1_ransom_3 : List UInt8 := [21, 5, 28, 126, 184, 0, 220, 21, 5, 29, 126, 184, 0, 220, 159, 0, 6, 167, 0, 47, 21, 4, 2]
abbrev dktX1_ransom_3 : List UInt8 := dkwX1_ransom_3 ++ dktX1_ransom_4
def dkwX1_ransom_2 : List UInt8 := [21, 5, 42, 180, 0, 16, 182, 0, 238, 163, 0, 84, 21, 5, 28, 29, 128, 2, 130, 126, 154, 0, 67]
abbrev dktX1_ransom_2 : List UInt8 := dkwX1_ransom_2 ++ dktX1_ransom_3
def dkwX1_ransom_1 : List UInt8 := [42, 180, 0, 27, 4, 182, 0, 107, 42, 180, 0, 16, 4, 182, 0, 235, 126, 62, 2, 54, 4, 3, 54, 5]
abbrev dktX1_ransom_1 : List UInt8 := dkwX1_ransom_1 ++ dktX1_ransom_2
def dkwX1_ransom_0 : List UInt8 := [42, 27, 182, 0, 150, 87, 42, 180, 0, 27, 4, 182, 0, 107, 42, 180, 0, 16, 3, 182, 0, 235, 126, 61]
abbrev dktX1_ransom_0 : List UInt8 := dkwX1_ransom_0 ++ dktX1_ransom_1
theorem dksX1_ransom_0 : cX1_ransom.data.toList.drop 0 = dktX1_ransom_0 := by decide +kernel
theorem dksX1_ransom_1 : cX1_ransom.data.toList.drop 24 = dktX1_ransom_1 := dk_seg dksX1_ransom_0 24 rfl rfl
theorem dksX1_ransom_2 : cX1_ransom.data.toList.drop 48 = dktX1_ransom_2 := dk_seg dksX1_ransom_1 24 rfl rfl
theorem dksX1_ransom_3 : cX1_ransom.data.toList.drop 71 = dktX1_ransom_3 := dk_seg dksX1_ransom_2 23 rfl rfl
theorem dksX1_ransom_4 : cX1_ransom.data.toList.drop 94 = dktX1_ransom_4 := dk_seg dksX1_ransom_3 23 rfl rfl
theorem dksX1_ransom_5 : cX1_ransom.data.toList.drop 116 = dktX1_ransom_5 := dk_seg dksX1_ransom_4 22 rfl rfl
theorem dksX1_ransom_6 : cX1_ransom.data.toList.drop 138 = dktX1_ransom_6 := dk_seg dksX1_ransom_5 22 rfl rfl
theorem dX1_ransom_0 : decode cX1_ransom 0 = .ok (.aload_n 0, 1) := dk_42 (dk_at dksX1_ransom_0 0 rfl rfl)
theorem dX1_ransom_1 : decode cX1_ransom 1 = .ok (.iload_n 1, 1) := dk_27 (dk_at dksX1_ransom_0 1 rfl rfl)
theorem dX1_ransom_2 : decode cX1_ransom 2 = .ok (.invokevirtual 150, 3) := dk_182 0 150 (dk_at dksX1_ransom_0 2 rfl rfl)
theorem dX1_ransom_5 : decode cX1_ransom 5 = .ok (.pop, 1) := dk_87 (dk_at dksX1_ransom_0 5 rfl rfl)
theorem dX1_ransom_6 : decode cX1_ransom 6 = .ok (.aload_n 0, 1) := dk_42 (dk_at dksX1_ransom_0 6 rfl rfl)
theorem dX1_ransom_7 : decode cX1_ransom 7 = .ok (.getfield 27, 3) := dk_180 0 27 (dk_at dksX1_ransom_0 7 rfl rfl)
theorem dX1_ransom_10 : decode cX1_ransom 10 = .ok (.iconst 1, 1) := dk_4 (dk_at dksX1_ransom_0 10 rfl rfl)
theorem dX1_ransom_11 : decode cX1_ransom 11 = .ok (.invokevirtual 107, 3) := dk_182 0 107 (dk_at dksX1_ransom_0 11 rfl rfl)
theorem dX1_ransom_14 : decode cX1_ransom 14 = .ok (.aload_n 0, 1) := dk_42 (dk_at dksX1_ransom_0 14 rfl rfl)
theorem dX1_ransom_15 : decode cX1_ransom 15 = .ok (.getfield 16, 3) := dk_180 0 16 (dk_at dksX1_ransom_0 15 rfl rfl)
theorem dX1_ransom_18 : decode cX1_ransom 18 = .ok (.iconst 0, 1) := dk_3 (dk_at dksX1_ransom_0 18 rfl rfl)
theorem dX1_ransom_19 : decode cX1_ransom 19 = .ok (.invokevirtual 235, 3) := dk_182 0 235 (dk_at dksX1_ransom_0 19 rfl rfl)
theorem dX1_ransom_22 : decode cX1_ransom 22 = .ok (.iand, 1) := dk_126 (dk_at dksX1_ransom_0 22 rfl rfl)
theorem dX1_ransom_23 : decode cX1_ransom 23 = .ok (.istore_n 2, 1) := dk_61 (dk_at dksX1_ransom_0 23 rfl rfl)
theorem dX1_ransom_24 : decode cX1_ransom 24 = .ok (.aload_n 0, 1) := dk_42 (dk_at dksX1_ransom_1 0 rfl rfl)
theorem dX1_ransom_25 : decode cX1_ransom 25 = .ok (.getfield 27, 3) := dk_180 0 27 (dk_at dksX1_ransom_1 1 rfl rfl)
theorem dX1_ransom_28 : decode cX1_ransom 28 = .ok (.iconst 1, 1) := dk_4 (dk_at dksX1_ransom_1 4 rfl rfl)
theorem dX1_ransom_29 : decode cX1_ransom 29 = .ok (.invokevirtual 107, 3) := dk_182 0 107 (dk_at dksX1_ransom_1 5 rfl rfl)
theorem dX1_ransom_32 : decode cX1_ransom 32 = .ok (.aload_n 0, 1) := dk_42 (dk_at dksX1_ransom_1 8 rfl rfl)
theorem dX1_ransom_33 : decode cX1_ransom 33 = .ok (.getfield 16, 3) := dk_180 0 16 (dk_at dksX1_ransom_1 9 rfl rfl)
theorem dX1_ransom_36 : decode cX1_ransom 36 = .ok (.iconst 1, 1) := dk_4 (dk_at dksX1_ransom_1 12 rfl rfl)
theorem dX1_ransom_37 : decode cX1_ransom 37 = .ok (.invokevirtual 235, 3) := dk_182 0 235 (dk_at dksX1_ransom_1 13 rfl rfl)
theorem dX1_ransom_40 : decode cX1_ransom 40 = .ok (.iand, 1) := dk_126 (dk_at dksX1_ransom_1 16 rfl rfl)
theorem dX1_ransom_41 : decode cX1_ransom 41 = .ok (.istore_n 3, 1) := dk_62 (dk_at dksX1_ransom_1 17 rfl rfl)
theorem dX1_ransom_42 : decode cX1_ransom 42 = .ok (.iconst (-1), 1) := dk_2 (dk_at dksX1_ransom_1 18 rfl rfl)
theorem dX1_ransom_43 : decode cX1_ransom 43 = .ok (.istore 4, 2) := dk_54 4 (dk_at dksX1_ransom_1 19 rfl rfl)
theorem dX1_ransom_45 : decode cX1_ransom 45 = .ok (.iconst 0, 1) := dk_3 (dk_at dksX1_ransom_1 21 rfl rfl)
theorem dX1_ransom_46 : decode cX1_ransom 46 = .ok (.istore 5, 2) := dk_54 5 (dk_at dksX1_ransom_1 22 rfl rfl)
theorem dX1_ransom_48 : decode cX1_ransom 48 = .ok (.iload 5, 2) := dk_21 5 (dk_at dksX1_ransom_2 0 rfl rfl)
theorem dX1_ransom_50 : decode cX1_ransom 50 = .ok (.aload_n 0, 1) := dk_42 (dk_at dksX1_ransom_2 2 rfl rfl)
theorem dX1_ransom_51 : decode cX1_ransom 51 = .ok (.getfield 16, 3) := dk_180 0 16 (dk_at dksX1_ransom_2 3 rfl rfl)
theorem dX1_ransom_54 : decode cX1_ransom 54 = .ok (.invokevirtual 238, 3) := dk_182 0 238 (dk_at dksX1_ransom_2 6 rfl rfl)
theorem dX1_ransom_57 : decode cX1_ransom 57 = .ok (.if_icmp .gt 84, 3) := dk_163 0 84 (dk_at dksX1_ransom_2 9 rfl rfl)
theorem dX1_ransom_60 : decode cX1_ransom 60 = .ok (.iload 5, 2) := dk_21 5 (dk_at dksX1_ransom_2 12 rfl rfl)
theorem dX1_ransom_62 : decode cX1_ransom 62 = .ok (.iload_n 2, 1) := dk_28 (dk_at dksX1_ransom_2 14 rfl rfl)
theorem dX1_ransom_63 : decode cX1_ransom 63 = .ok (.iload_n 3, 1) := dk_29 (dk_at dksX1_ransom_2 15 rfl rfl)
theorem dX1_ransom_64 : decode cX1_ransom 64 = .ok (.ior, 1) := dk_128 (dk_at dksX1_ransom_2 16 rfl rfl)
theorem dX1_ransom_65 : decode cX1_ransom 65 = .ok (.iconst (-1), 1) := dk_2 (dk_at dksX1_ransom_2 17 rfl rfl)
theorem dX1_ransom_66 : decode cX1_ransom 66 = .ok (.ixor, 1) := dk_130 (dk_at dksX1_ransom_2 18 rfl rfl)
theorem dX1_ransom_67 : decode cX1_ransom 67 = .ok (.iand, 1) := dk_126 (dk_at dksX1_ransom_2 19 rfl rfl)
theorem dX1_ransom_68 : decode cX1_ransom 68 = .ok (.ifCond .ne 67, 3) := dk_154 0 67 (dk_at dksX1_ransom_2 20 rfl rfl)
theorem dX1_ransom_71 : decode cX1_ransom 71 = .ok (.iload 5, 2) := dk_21 5 (dk_at dksX1_ransom_3 0 rfl rfl)
theorem dX1_ransom_73 : decode cX1_ransom 73 = .ok (.iload_n 2, 1) := dk_28 (dk_at dksX1_ransom_3 2 rfl rfl)
theorem dX1_ransom_74 : decode cX1_ransom 74 = .ok (.iand, 1) := dk_126 (dk_at dksX1_ransom_3 3 rfl rfl)
theorem dX1_ransom_75 : decode cX1_ransom 75 = .ok (.invokestatic 220, 3) := dk_184 0 220 (dk_at dksX1_ransom_3 4 rfl rfl)
theorem dX1_ransom_78 : decode cX1_ransom 78 = .ok (.iload 5, 2) := dk_21 5 (dk_at dksX1_ransom_3 7 rfl rfl)
theorem dX1_ransom_80 : decode cX1_ransom 80 = .ok (.iload_n 3, 1) := dk_29 (dk_at dksX1_ransom_3 9 rfl rfl)
theorem dX1_ransom_81 : decode cX1_ransom 81 = .ok (.iand, 1) := dk_126 (dk_at dksX1_ransom_3 10 rfl rfl)
theorem dX1_ransom_82 : decode cX1_ransom 82 = .ok (.invokestatic 220, 3) := dk_184 0 220 (dk_at dksX1_ransom_3 11 rfl rfl)
theorem dX1_ransom_85 : decode cX1_ransom 85 = .ok (.if_icmp .eq 6, 3) := dk_159 0 6 (dk_at dksX1_ransom_3 14 rfl rfl)
theorem dX1_ransom_88 : decode cX1_ransom 88 = .ok (.goto 47, 3) := dk_167 0 47 (dk_at dksX1_ransom_3 17 rfl rfl)
theorem dX1_ransom_91 : decode cX1_ransom 91 = .ok (.iload 4, 2) := dk_21 4 (dk_at dksX1_ransom_3 20 rfl rfl)
theorem dX1_ransom_93 : decode cX1_ransom 93 = .ok (.iconst (-1), 1) := dk_2 (dk_at dksX1_ransom_3 22 rfl rfl)
theorem dX1_ransom_94 : decode cX1_ransom 94 = .ok (.if_icmp .eq 16, 3) := dk_159 0 16 (dk_at dksX1_ransom_4 0 rfl rfl)
theorem dX1_ransom_97 : decode cX1_ransom 97 = .ok (.iload 5, 2) := dk_21 5 (dk_at dksX1_ransom_4 3 rfl rfl)
theorem dX1_ransom_99 : decode cX1_ransom 99 = .ok (.invokestatic 220, 3) := dk_184 0 220 (dk_at dksX1_ransom_4 5 rfl rfl)
theorem dX1_ransom_102 : decode cX1_ransom 102 = .ok (.iload 4, 2) := dk_21 4 (dk_at dksX1_ransom_4 8 rfl rfl)
theorem dX1_ransom_104 : decode cX1_ransom 104 = .ok (.invokestatic 220, 3) := dk_184 0 220 (dk_at dksX1_ransom_4 10 rfl rfl)
theorem dX1_ransom_107 : decode cX1_ransom 107 = .ok (.if_icmp .ge 28, 3) := dk_162 0 28 (dk_at dksX1_ransom_4 13 rfl rfl)
theorem dX1_ransom_110 : decode cX1_ransom 110 = .ok (.aload_n 0, 1) := dk_42 (dk_at dksX1_ransom_4 16 rfl rfl)
theorem dX1_ransom_111 : decode cX1_ransom 111 = .ok (.getfield 16, 3) := dk_180 0 16 (dk_at dksX1_ransom_4 17 rfl rfl)
theorem dX1_ransom_114 : decode cX1_ransom 114 = .ok (.iload_n 1, 1) := dk_27 (dk_at dksX1_ransom_4 20 rfl rfl)
theorem dX1_ransom_115 : decode cX1_ransom 115 = .ok (.aload_n 0, 1) := dk_42 (dk_at dksX1_ransom_4 21 rfl rfl)
theorem dX1_ransom_116 : decode cX1_ransom 116 = .ok (.getfield 27, 3) := dk_180 0 27 (dk_at dksX1_ransom_5 0 rfl rfl)
theorem dX1_ransom_119 : decode cX1_ransom 119 = .ok (.invokevirtual 104, 3) := dk_182 0 104 (dk_at dksX1_ransom_5 3 rfl rfl)
theorem dX1_ransom_122 : decode cX1_ransom 122 = .ok (.iload 5, 2) := dk_21 5 (dk_at dksX1_ransom_5 6 rfl rfl)
theorem dX1_ransom_124 : decode cX1_ransom 124 = .ok (.ior, 1) := dk_128 (dk_at dksX1_ransom_5 8 rfl rfl)
theorem dX1_ransom_125 : decode cX1_ransom 125 = .ok (.invokevirtual 232, 3) := dk_182 0 232 (dk_at dksX1_ransom_5 9 rfl rfl)
theorem dX1_ransom_128 : decode cX1_ransom 128 = .ok (.ifCond .eq 7, 3) := dk_153 0 7 (dk_at dksX1_ransom_5 12 rfl rfl)
theorem dX1_ransom_131 : decode cX1_ransom 131 = .ok (.iload 5, 2) := dk_21 5 (dk_at dksX1_ransom_5 15 rfl rfl)
theorem dX1_ransom_133 : decode cX1_ransom 133 = .ok (.istore 4, 2) := dk_54 4 (dk_at dksX1_ransom_5 17 rfl rfl)
theorem dX1_ransom_135 : decode cX1_ransom 135 = .ok (.iinc 5 1, 3) := dk_132 5 1 (dk_at dksX1_ransom_5 19 rfl rfl)
theorem dX1_ransom_138 : decode cX1_ransom 138 = .ok (.goto (-90), 3) := dk_167 255 166 (dk_at dksX1_ransom_6 0 rfl rfl)
theorem dX1_ransom_141 : decode cX1_ransom 141 = .ok (.iload 4, 2) := dk_21 4 (dk_at dksX1_ransom_6 3 rfl rfl)
theorem dX1_ransom_143 : decode cX1_ransom 143 = .ok (.ireturn, 1) := dk_172 (dk_at dksX1_ransom_6 5 rfl rfl)
abbrev cX1_luck : ByteArray := prog_1_method_40_code
def yX1_luck : MethodName := ⟨RX1, "luck", "(III)I"⟩
def dkwX1_luck_6 : List UInt8 := [172]
abbrev dktX1_luck_6 : List UInt8 := dkwX1_luck_6 ++ []
def dkwX1_luck_5 : List UInt8 := [133, 184, 0, 247, 136, 54, 7, 29, 154, 0, 11, 21, 5, 21, 7, 108, 167, 0, 8, 21, 6, 21, 7, 108]
abbrev dktX1_luck_5 : List UInt8 := dkwX1_luck_5 ++ dktX1_luck_6
def dkwX1_luck_4 : List UInt8 := [153, 0, 6, 132, 5, 1, 132, 7, 1, 167, 255, 195, 21, 5, 154, 0, 5, 29, 172, 21, 6, 133, 21, 5]
abbrev dktX1_luck_4 : List UInt8 := dkwX1_luck_4 ++ dktX1_luck_5
def dkwX1_luck_3 : List UInt8 := [159, 0, 6, 167, 0, 27, 132, 6, 1, 42, 180, 0, 16, 27, 21, 4, 21, 7, 2, 130, 126, 182, 0, 232]
abbrev dktX1_luck_3 : List UInt8 := dkwX1_luck_3 ++ dktX1_luck_4
def dkwX1_luck_2 : List UInt8 := [182, 0, 238, 163, 0, 55, 21, 7, 21, 4, 2, 130, 126, 154, 0, 39, 21, 7, 184, 0, 220, 28]
abbrev dktX1_luck_2 : List UInt8 := dkwX1_luck_2 ++ dktX1_luck_3
def dkwX1_luck_1 : List UInt8 := [180, 0, 27, 182, 0, 104, 54, 4, 3, 54, 5, 3, 54, 6, 3, 54, 7, 21, 7, 42, 180, 0, 16]
abbrev dktX1_luck_1 : List UInt8 := dkwX1_luck_1 ++ dktX1_luck_2
def dkwX1_luck_0 : List UInt8 := [42, 27, 182, 0, 150, 87, 29, 4, 184, 0, 154, 28, 3, 16, 14, 184, 0, 113, 184, 0, 59, 42]
abbrev dktX1_luck_0 : List UInt8 := dkwX1_luck_0 ++ dktX1_luck_1
theorem dksX1_luck_0 : cX1_luck.data.toList.drop 0 = dktX1_luck_0 := by decide +kernel
theorem dksX1_luck_1 : cX1_luck.data.toList.drop 22 = dktX1_luck_1 := dk_seg dksX1_luck_0 22 rfl rfl
theorem dksX1_luck_2 : cX1_luck.data.toList.drop 45 = dktX1_luck_2 := dk_seg dksX1_luck_1 23 rfl rfl
theorem dksX1_luck_3 : cX1_luck.data.toList.drop 67 = dktX1_luck_3 := dk_seg dksX1_luck_2 22 rfl rfl
theorem dksX1_luck_4 : cX1_luck.data.toList.drop 91 = dktX1_luck_4 := dk_seg dksX1_luck_3 24 rfl rfl
theorem dksX1_luck_5 : cX1_luck.data.toList.drop 115 = dktX1_luck_5 := dk_seg dksX1_luck_4 24 rfl rfl
theorem dksX1_luck_6 : cX1_luck.data.toList.drop 139 = dktX1_luck_6 := dk_seg dksX1_luck_5 24 rfl rfl
theorem dX1_luck_0 : decode cX1_luck 0 = .ok (.aload_n 0, 1) := dk_42 (dk_at dksX1_luck_0 0 rfl rfl)
theorem dX1_luck_1 : decode cX1_luck 1 = .ok (.iload_n 1, 1) := dk_27 (dk_at dksX1_luck_0 1 rfl rfl)
theorem dX1_luck_2 : decode cX1_luck 2 = .ok (.invokevirtual 150, 3) := dk_182 0 150 (dk_at dksX1_luck_0 2 rfl rfl)
theorem dX1_luck_5 : decode cX1_luck 5 = .ok (.pop, 1) := dk_87 (dk_at dksX1_luck_0 5 rfl rfl)
theorem dX1_luck_6 : decode cX1_luck 6 = .ok (.iload_n 3, 1) := dk_29 (dk_at dksX1_luck_0 6 rfl rfl)
theorem dX1_luck_7 : decode cX1_luck 7 = .ok (.iconst 1, 1) := dk_4 (dk_at dksX1_luck_0 7 rfl rfl)
theorem dX1_luck_8 : decode cX1_luck 8 = .ok (.invokestatic 154, 3) := dk_184 0 154 (dk_at dksX1_luck_0 8 rfl rfl)
theorem dX1_luck_11 : decode cX1_luck 11 = .ok (.iload_n 2, 1) := dk_28 (dk_at dksX1_luck_0 11 rfl rfl)
theorem dX1_luck_12 : decode cX1_luck 12 = .ok (.iconst 0, 1) := dk_3 (dk_at dksX1_luck_0 12 rfl rfl)
theorem dX1_luck_13 : decode cX1_luck 13 = .ok (.bipush 14, 2) := dk_16 14 (dk_at dksX1_luck_0 13 rfl rfl)
theorem dX1_luck_15 : decode cX1_luck 15 = .ok (.invokestatic 113, 3) := dk_184 0 113 (dk_at dksX1_luck_0 15 rfl rfl)
theorem dX1_luck_18 : decode cX1_luck 18 = .ok (.invokestatic 59, 3) := dk_184 0 59 (dk_at dksX1_luck_0 18 rfl rfl)
theorem dX1_luck_21 : decode cX1_luck 21 = .ok (.aload_n 0, 1) := dk_42 (dk_at dksX1_luck_0 21 rfl rfl)
theorem dX1_luck_22 : decode cX1_luck 22 = .ok (.getfield 27, 3) := dk_180 0 27 (dk_at dksX1_luck_1 0 rfl rfl)
theorem dX1_luck_25 : decode cX1_luck 25 = .ok (.invokevirtual 104, 3) := dk_182 0 104 (dk_at dksX1_luck_1 3 rfl rfl)
theorem dX1_luck_28 : decode cX1_luck 28 = .ok (.istore 4, 2) := dk_54 4 (dk_at dksX1_luck_1 6 rfl rfl)
theorem dX1_luck_30 : decode cX1_luck 30 = .ok (.iconst 0, 1) := dk_3 (dk_at dksX1_luck_1 8 rfl rfl)
theorem dX1_luck_31 : decode cX1_luck 31 = .ok (.istore 5, 2) := dk_54 5 (dk_at dksX1_luck_1 9 rfl rfl)
theorem dX1_luck_33 : decode cX1_luck 33 = .ok (.iconst 0, 1) := dk_3 (dk_at dksX1_luck_1 11 rfl rfl)
theorem dX1_luck_34 : decode cX1_luck 34 = .ok (.istore 6, 2) := dk_54 6 (dk_at dksX1_luck_1 12 rfl rfl)
theorem dX1_luck_36 : decode cX1_luck 36 = .ok (.iconst 0, 1) := dk_3 (dk_at dksX1_luck_1 14 rfl rfl)
theorem dX1_luck_37 : decode cX1_luck 37 = .ok (.istore 7, 2) := dk_54 7 (dk_at dksX1_luck_1 15 rfl rfl)
theorem dX1_luck_39 : decode cX1_luck 39 = .ok (.iload 7, 2) := dk_21 7 (dk_at dksX1_luck_1 17 rfl rfl)
theorem dX1_luck_41 : decode cX1_luck 41 = .ok (.aload_n 0, 1) := dk_42 (dk_at dksX1_luck_1 19 rfl rfl)
theorem dX1_luck_42 : decode cX1_luck 42 = .ok (.getfield 16, 3) := dk_180 0 16 (dk_at dksX1_luck_1 20 rfl rfl)
theorem dX1_luck_45 : decode cX1_luck 45 = .ok (.invokevirtual 238, 3) := dk_182 0 238 (dk_at dksX1_luck_2 0 rfl rfl)
theorem dX1_luck_48 : decode cX1_luck 48 = .ok (.if_icmp .gt 55, 3) := dk_163 0 55 (dk_at dksX1_luck_2 3 rfl rfl)
theorem dX1_luck_51 : decode cX1_luck 51 = .ok (.iload 7, 2) := dk_21 7 (dk_at dksX1_luck_2 6 rfl rfl)
theorem dX1_luck_53 : decode cX1_luck 53 = .ok (.iload 4, 2) := dk_21 4 (dk_at dksX1_luck_2 8 rfl rfl)
theorem dX1_luck_55 : decode cX1_luck 55 = .ok (.iconst (-1), 1) := dk_2 (dk_at dksX1_luck_2 10 rfl rfl)
theorem dX1_luck_56 : decode cX1_luck 56 = .ok (.ixor, 1) := dk_130 (dk_at dksX1_luck_2 11 rfl rfl)
theorem dX1_luck_57 : decode cX1_luck 57 = .ok (.iand, 1) := dk_126 (dk_at dksX1_luck_2 12 rfl rfl)
theorem dX1_luck_58 : decode cX1_luck 58 = .ok (.ifCond .ne 39, 3) := dk_154 0 39 (dk_at dksX1_luck_2 13 rfl rfl)
theorem dX1_luck_61 : decode cX1_luck 61 = .ok (.iload 7, 2) := dk_21 7 (dk_at dksX1_luck_2 16 rfl rfl)
theorem dX1_luck_63 : decode cX1_luck 63 = .ok (.invokestatic 220, 3) := dk_184 0 220 (dk_at dksX1_luck_2 18 rfl rfl)
theorem dX1_luck_66 : decode cX1_luck 66 = .ok (.iload_n 2, 1) := dk_28 (dk_at dksX1_luck_2 21 rfl rfl)
theorem dX1_luck_67 : decode cX1_luck 67 = .ok (.if_icmp .eq 6, 3) := dk_159 0 6 (dk_at dksX1_luck_3 0 rfl rfl)
theorem dX1_luck_70 : decode cX1_luck 70 = .ok (.goto 27, 3) := dk_167 0 27 (dk_at dksX1_luck_3 3 rfl rfl)
theorem dX1_luck_73 : decode cX1_luck 73 = .ok (.iinc 6 1, 3) := dk_132 6 1 (dk_at dksX1_luck_3 6 rfl rfl)
theorem dX1_luck_76 : decode cX1_luck 76 = .ok (.aload_n 0, 1) := dk_42 (dk_at dksX1_luck_3 9 rfl rfl)
theorem dX1_luck_77 : decode cX1_luck 77 = .ok (.getfield 16, 3) := dk_180 0 16 (dk_at dksX1_luck_3 10 rfl rfl)
theorem dX1_luck_80 : decode cX1_luck 80 = .ok (.iload_n 1, 1) := dk_27 (dk_at dksX1_luck_3 13 rfl rfl)
theorem dX1_luck_81 : decode cX1_luck 81 = .ok (.iload 4, 2) := dk_21 4 (dk_at dksX1_luck_3 14 rfl rfl)
theorem dX1_luck_83 : decode cX1_luck 83 = .ok (.iload 7, 2) := dk_21 7 (dk_at dksX1_luck_3 16 rfl rfl)
theorem dX1_luck_85 : decode cX1_luck 85 = .ok (.iconst (-1), 1) := dk_2 (dk_at dksX1_luck_3 18 rfl rfl)
theorem dX1_luck_86 : decode cX1_luck 86 = .ok (.ixor, 1) := dk_130 (dk_at dksX1_luck_3 19 rfl rfl)
theorem dX1_luck_87 : decode cX1_luck 87 = .ok (.iand, 1) := dk_126 (dk_at dksX1_luck_3 20 rfl rfl)
theorem dX1_luck_88 : decode cX1_luck 88 = .ok (.invokevirtual 232, 3) := dk_182 0 232 (dk_at dksX1_luck_3 21 rfl rfl)
theorem dX1_luck_91 : decode cX1_luck 91 = .ok (.ifCond .eq 6, 3) := dk_153 0 6 (dk_at dksX1_luck_4 0 rfl rfl)
theorem dX1_luck_94 : decode cX1_luck 94 = .ok (.iinc 5 1, 3) := dk_132 5 1 (dk_at dksX1_luck_4 3 rfl rfl)
theorem dX1_luck_97 : decode cX1_luck 97 = .ok (.iinc 7 1, 3) := dk_132 7 1 (dk_at dksX1_luck_4 6 rfl rfl)
theorem dX1_luck_100 : decode cX1_luck 100 = .ok (.goto (-61), 3) := dk_167 255 195 (dk_at dksX1_luck_4 9 rfl rfl)
theorem dX1_luck_103 : decode cX1_luck 103 = .ok (.iload 5, 2) := dk_21 5 (dk_at dksX1_luck_4 12 rfl rfl)
theorem dX1_luck_105 : decode cX1_luck 105 = .ok (.ifCond .ne 5, 3) := dk_154 0 5 (dk_at dksX1_luck_4 14 rfl rfl)
theorem dX1_luck_108 : decode cX1_luck 108 = .ok (.iload_n 3, 1) := dk_29 (dk_at dksX1_luck_4 17 rfl rfl)
theorem dX1_luck_109 : decode cX1_luck 109 = .ok (.ireturn, 1) := dk_172 (dk_at dksX1_luck_4 18 rfl rfl)
theorem dX1_luck_110 : decode cX1_luck 110 = .ok (.iload 6, 2) := dk_21 6 (dk_at dksX1_luck_4 19 rfl rfl)
theorem dX1_luck_112 : decode cX1_luck 112 = .ok (.i2l, 1) := dk_133 (dk_at dksX1_luck_4 21 rfl rfl)
theorem dX1_luck_113 : decode cX1_luck 113 = .ok (.iload 5, 2) := dk_21 5 (dk_at dksX1_luck_4 22 rfl rfl)
theorem dX1_luck_115 : decode cX1_luck 115 = .ok (.i2l, 1) := dk_133 (dk_at dksX1_luck_5 0 rfl rfl)
theorem dX1_luck_116 : decode cX1_luck 116 = .ok (.invokestatic 247, 3) := dk_184 0 247 (dk_at dksX1_luck_5 1 rfl rfl)
theorem dX1_luck_119 : decode cX1_luck 119 = .ok (.l2i, 1) := dk_136 (dk_at dksX1_luck_5 4 rfl rfl)
theorem dX1_luck_120 : decode cX1_luck 120 = .ok (.istore 7, 2) := dk_54 7 (dk_at dksX1_luck_5 5 rfl rfl)
theorem dX1_luck_122 : decode cX1_luck 122 = .ok (.iload_n 3, 1) := dk_29 (dk_at dksX1_luck_5 7 rfl rfl)
theorem dX1_luck_123 : decode cX1_luck 123 = .ok (.ifCond .ne 11, 3) := dk_154 0 11 (dk_at dksX1_luck_5 8 rfl rfl)
theorem dX1_luck_126 : decode cX1_luck 126 = .ok (.iload 5, 2) := dk_21 5 (dk_at dksX1_luck_5 11 rfl rfl)
theorem dX1_luck_128 : decode cX1_luck 128 = .ok (.iload 7, 2) := dk_21 7 (dk_at dksX1_luck_5 13 rfl rfl)
theorem dX1_luck_130 : decode cX1_luck 130 = .ok (.idiv, 1) := dk_108 (dk_at dksX1_luck_5 15 rfl rfl)
theorem dX1_luck_131 : decode cX1_luck 131 = .ok (.goto 8, 3) := dk_167 0 8 (dk_at dksX1_luck_5 16 rfl rfl)
theorem dX1_luck_134 : decode cX1_luck 134 = .ok (.iload 6, 2) := dk_21 6 (dk_at dksX1_luck_5 19 rfl rfl)
theorem dX1_luck_136 : decode cX1_luck 136 = .ok (.iload 7, 2) := dk_21 7 (dk_at dksX1_luck_5 21 rfl rfl)
theorem dX1_luck_138 : decode cX1_luck 138 = .ok (.idiv, 1) := dk_108 (dk_at dksX1_luck_5 23 rfl rfl)
theorem dX1_luck_139 : decode cX1_luck 139 = .ok (.ireturn, 1) := dk_172 (dk_at dksX1_luck_6 0 rfl rfl)
abbrev cX1_common : ByteArray := prog_1_method_39_code
def yX1_common : MethodName := ⟨RX1, "common", "(JJ)J"⟩
def dkwX1_common_0 : List UInt8 := [32, 9, 148, 154, 0, 7, 30, 167, 0, 10, 32, 30, 32, 113, 184, 0, 247, 173]
abbrev dktX1_common_0 : List UInt8 := dkwX1_common_0 ++ []
theorem dksX1_common_0 : cX1_common.data.toList.drop 0 = dktX1_common_0 := by decide +kernel
theorem dX1_common_0 : decode cX1_common 0 = .ok (.lload_n 2, 1) := dk_32 (dk_at dksX1_common_0 0 rfl rfl)
theorem dX1_common_1 : decode cX1_common 1 = .ok (.lconst 0, 1) := dk_9 (dk_at dksX1_common_0 1 rfl rfl)
theorem dX1_common_2 : decode cX1_common 2 = .ok (.lcmp, 1) := dk_148 (dk_at dksX1_common_0 2 rfl rfl)
theorem dX1_common_3 : decode cX1_common 3 = .ok (.ifCond .ne 7, 3) := dk_154 0 7 (dk_at dksX1_common_0 3 rfl rfl)
theorem dX1_common_6 : decode cX1_common 6 = .ok (.lload_n 0, 1) := dk_30 (dk_at dksX1_common_0 6 rfl rfl)
theorem dX1_common_7 : decode cX1_common 7 = .ok (.goto 10, 3) := dk_167 0 10 (dk_at dksX1_common_0 7 rfl rfl)
theorem dX1_common_10 : decode cX1_common 10 = .ok (.lload_n 2, 1) := dk_32 (dk_at dksX1_common_0 10 rfl rfl)
theorem dX1_common_11 : decode cX1_common 11 = .ok (.lload_n 0, 1) := dk_30 (dk_at dksX1_common_0 11 rfl rfl)
theorem dX1_common_12 : decode cX1_common 12 = .ok (.lload_n 2, 1) := dk_32 (dk_at dksX1_common_0 12 rfl rfl)
theorem dX1_common_13 : decode cX1_common 13 = .ok (.lrem, 1) := dk_113 (dk_at dksX1_common_0 13 rfl rfl)
theorem dX1_common_14 : decode cX1_common 14 = .ok (.invokestatic 247, 3) := dk_184 0 247 (dk_at dksX1_common_0 14 rfl rfl)
theorem dX1_common_17 : decode cX1_common 17 = .ok (.lreturn, 1) := dk_173 (dk_at dksX1_common_0 17 rfl rfl)
abbrev cX1_codes : ByteArray := prog_1_method_42_code
def yX1_codes : MethodName := ⟨RX1, "codes", "(II)J"⟩
def dkwX1_codes_0 : List UInt8 := [42, 27, 182, 0, 150, 87, 28, 3, 16, 12, 184, 0, 113, 184, 0, 59, 42, 27, 28, 182, 0, 253, 173]
abbrev dktX1_codes_0 : List UInt8 := dkwX1_codes_0 ++ []
theorem dksX1_codes_0 : cX1_codes.data.toList.drop 0 = dktX1_codes_0 := by decide +kernel
theorem dX1_codes_0 : decode cX1_codes 0 = .ok (.aload_n 0, 1) := dk_42 (dk_at dksX1_codes_0 0 rfl rfl)
theorem dX1_codes_1 : decode cX1_codes 1 = .ok (.iload_n 1, 1) := dk_27 (dk_at dksX1_codes_0 1 rfl rfl)
theorem dX1_codes_2 : decode cX1_codes 2 = .ok (.invokevirtual 150, 3) := dk_182 0 150 (dk_at dksX1_codes_0 2 rfl rfl)
theorem dX1_codes_5 : decode cX1_codes 5 = .ok (.pop, 1) := dk_87 (dk_at dksX1_codes_0 5 rfl rfl)
theorem dX1_codes_6 : decode cX1_codes 6 = .ok (.iload_n 2, 1) := dk_28 (dk_at dksX1_codes_0 6 rfl rfl)
theorem dX1_codes_7 : decode cX1_codes 7 = .ok (.iconst 0, 1) := dk_3 (dk_at dksX1_codes_0 7 rfl rfl)
theorem dX1_codes_8 : decode cX1_codes 8 = .ok (.bipush 12, 2) := dk_16 12 (dk_at dksX1_codes_0 8 rfl rfl)
theorem dX1_codes_10 : decode cX1_codes 10 = .ok (.invokestatic 113, 3) := dk_184 0 113 (dk_at dksX1_codes_0 10 rfl rfl)
theorem dX1_codes_13 : decode cX1_codes 13 = .ok (.invokestatic 59, 3) := dk_184 0 59 (dk_at dksX1_codes_0 13 rfl rfl)
theorem dX1_codes_16 : decode cX1_codes 16 = .ok (.aload_n 0, 1) := dk_42 (dk_at dksX1_codes_0 16 rfl rfl)
theorem dX1_codes_17 : decode cX1_codes 17 = .ok (.iload_n 1, 1) := dk_27 (dk_at dksX1_codes_0 17 rfl rfl)
theorem dX1_codes_18 : decode cX1_codes 18 = .ok (.iload_n 2, 1) := dk_28 (dk_at dksX1_codes_0 18 rfl rfl)
theorem dX1_codes_19 : decode cX1_codes 19 = .ok (.invokevirtual 253, 3) := dk_182 0 253 (dk_at dksX1_codes_0 19 rfl rfl)
theorem dX1_codes_22 : decode cX1_codes 22 = .ok (.lreturn, 1) := dk_173 (dk_at dksX1_codes_0 22 rfl rfl)
abbrev cX1_codesOf : ByteArray := prog_1_method_41_code
def yX1_codesOf : MethodName := ⟨RX1, "codesOf", "(II)J"⟩
def dkwX1_codesOf_4 : List UInt8 := [21, 9, 4, 96, 133, 109, 55, 7, 132, 9, 1, 167, 255, 220, 22, 5, 173]
abbrev dktX1_codesOf_4 : List UInt8 := dkwX1_codesOf_4 ++ []
def dkwX1_codesOf_3 : List UInt8 := [28, 163, 0, 36, 22, 5, 22, 7, 97, 55, 5, 22, 7, 20, 0, 251, 105, 29, 21, 9, 100, 133, 105]
abbrev dktX1_codesOf_3 : List UInt8 := dkwX1_codesOf_3 ++ dktX1_codesOf_4
def dkwX1_codesOf_2 : List UInt8 := [185, 0, 86, 1, 0, 96, 62, 132, 5, 1, 167, 255, 223, 9, 55, 5, 10, 55, 7, 3, 54, 9, 21, 9]
abbrev dktX1_codesOf_2 : List UInt8 := dkwX1_codesOf_2 ++ dktX1_codesOf_3
def dkwX1_codesOf_1 : List UInt8 := [21, 5, 7, 162, 0, 33, 25, 4, 21, 5, 50, 198, 0, 19, 29, 25, 4, 21, 5, 50, 180, 0, 163]
abbrev dktX1_codesOf_1 : List UInt8 := dkwX1_codesOf_1 ++ dktX1_codesOf_2
def dkwX1_codesOf_0 : List UInt8 := [3, 62, 42, 180, 0, 16, 180, 0, 92, 27, 185, 0, 120, 2, 0, 192, 0, 126, 58, 4, 3, 54, 5]
abbrev dktX1_codesOf_0 : List UInt8 := dkwX1_codesOf_0 ++ dktX1_codesOf_1
theorem dksX1_codesOf_0 : cX1_codesOf.data.toList.drop 0 = dktX1_codesOf_0 := by decide +kernel
theorem dksX1_codesOf_1 : cX1_codesOf.data.toList.drop 23 = dktX1_codesOf_1 := dk_seg dksX1_codesOf_0 23 rfl rfl
theorem dksX1_codesOf_2 : cX1_codesOf.data.toList.drop 46 = dktX1_codesOf_2 := dk_seg dksX1_codesOf_1 23 rfl rfl
theorem dksX1_codesOf_3 : cX1_codesOf.data.toList.drop 70 = dktX1_codesOf_3 := dk_seg dksX1_codesOf_2 24 rfl rfl
theorem dksX1_codesOf_4 : cX1_codesOf.data.toList.drop 93 = dktX1_codesOf_4 := dk_seg dksX1_codesOf_3 23 rfl rfl
theorem dX1_codesOf_0 : decode cX1_codesOf 0 = .ok (.iconst 0, 1) := dk_3 (dk_at dksX1_codesOf_0 0 rfl rfl)
theorem dX1_codesOf_1 : decode cX1_codesOf 1 = .ok (.istore_n 3, 1) := dk_62 (dk_at dksX1_codesOf_0 1 rfl rfl)
theorem dX1_codesOf_2 : decode cX1_codesOf 2 = .ok (.aload_n 0, 1) := dk_42 (dk_at dksX1_codesOf_0 2 rfl rfl)
theorem dX1_codesOf_3 : decode cX1_codesOf 3 = .ok (.getfield 16, 3) := dk_180 0 16 (dk_at dksX1_codesOf_0 3 rfl rfl)
theorem dX1_codesOf_6 : decode cX1_codesOf 6 = .ok (.getfield 92, 3) := dk_180 0 92 (dk_at dksX1_codesOf_0 6 rfl rfl)
theorem dX1_codesOf_9 : decode cX1_codesOf 9 = .ok (.iload_n 1, 1) := dk_27 (dk_at dksX1_codesOf_0 9 rfl rfl)
theorem dX1_codesOf_10 : decode cX1_codesOf 10 = .ok (.invokeinterface 120 2, 5) := by decide +kernel
theorem dX1_codesOf_15 : decode cX1_codesOf 15 = .ok (.checkcast 126, 3) := dk_192 0 126 (dk_at dksX1_codesOf_0 15 rfl rfl)
theorem dX1_codesOf_18 : decode cX1_codesOf 18 = .ok (.astore 4, 2) := dk_58 4 (dk_at dksX1_codesOf_0 18 rfl rfl)
theorem dX1_codesOf_20 : decode cX1_codesOf 20 = .ok (.iconst 0, 1) := dk_3 (dk_at dksX1_codesOf_0 20 rfl rfl)
theorem dX1_codesOf_21 : decode cX1_codesOf 21 = .ok (.istore 5, 2) := dk_54 5 (dk_at dksX1_codesOf_0 21 rfl rfl)
theorem dX1_codesOf_23 : decode cX1_codesOf 23 = .ok (.iload 5, 2) := dk_21 5 (dk_at dksX1_codesOf_1 0 rfl rfl)
theorem dX1_codesOf_25 : decode cX1_codesOf 25 = .ok (.iconst 4, 1) := dk_7 (dk_at dksX1_codesOf_1 2 rfl rfl)
theorem dX1_codesOf_26 : decode cX1_codesOf 26 = .ok (.if_icmp .ge 33, 3) := dk_162 0 33 (dk_at dksX1_codesOf_1 3 rfl rfl)
theorem dX1_codesOf_29 : decode cX1_codesOf 29 = .ok (.aload 4, 2) := dk_25 4 (dk_at dksX1_codesOf_1 6 rfl rfl)
theorem dX1_codesOf_31 : decode cX1_codesOf 31 = .ok (.iload 5, 2) := dk_21 5 (dk_at dksX1_codesOf_1 8 rfl rfl)
theorem dX1_codesOf_33 : decode cX1_codesOf 33 = .ok (.aaload, 1) := dk_50 (dk_at dksX1_codesOf_1 10 rfl rfl)
theorem dX1_codesOf_34 : decode cX1_codesOf 34 = .ok (.ifnull 19, 3) := dk_198 0 19 (dk_at dksX1_codesOf_1 11 rfl rfl)
theorem dX1_codesOf_37 : decode cX1_codesOf 37 = .ok (.iload_n 3, 1) := dk_29 (dk_at dksX1_codesOf_1 14 rfl rfl)
theorem dX1_codesOf_38 : decode cX1_codesOf 38 = .ok (.aload 4, 2) := dk_25 4 (dk_at dksX1_codesOf_1 15 rfl rfl)
theorem dX1_codesOf_40 : decode cX1_codesOf 40 = .ok (.iload 5, 2) := dk_21 5 (dk_at dksX1_codesOf_1 17 rfl rfl)
theorem dX1_codesOf_42 : decode cX1_codesOf 42 = .ok (.aaload, 1) := dk_50 (dk_at dksX1_codesOf_1 19 rfl rfl)
theorem dX1_codesOf_43 : decode cX1_codesOf 43 = .ok (.getfield 163, 3) := dk_180 0 163 (dk_at dksX1_codesOf_1 20 rfl rfl)
theorem dX1_codesOf_46 : decode cX1_codesOf 46 = .ok (.invokeinterface 86 1, 5) := by decide +kernel
theorem dX1_codesOf_51 : decode cX1_codesOf 51 = .ok (.iadd, 1) := dk_96 (dk_at dksX1_codesOf_2 5 rfl rfl)
theorem dX1_codesOf_52 : decode cX1_codesOf 52 = .ok (.istore_n 3, 1) := dk_62 (dk_at dksX1_codesOf_2 6 rfl rfl)
theorem dX1_codesOf_53 : decode cX1_codesOf 53 = .ok (.iinc 5 1, 3) := dk_132 5 1 (dk_at dksX1_codesOf_2 7 rfl rfl)
theorem dX1_codesOf_56 : decode cX1_codesOf 56 = .ok (.goto (-33), 3) := dk_167 255 223 (dk_at dksX1_codesOf_2 10 rfl rfl)
theorem dX1_codesOf_59 : decode cX1_codesOf 59 = .ok (.lconst 0, 1) := dk_9 (dk_at dksX1_codesOf_2 13 rfl rfl)
theorem dX1_codesOf_60 : decode cX1_codesOf 60 = .ok (.lstore 5, 2) := dk_55 5 (dk_at dksX1_codesOf_2 14 rfl rfl)
theorem dX1_codesOf_62 : decode cX1_codesOf 62 = .ok (.lconst 1, 1) := dk_10 (dk_at dksX1_codesOf_2 16 rfl rfl)
theorem dX1_codesOf_63 : decode cX1_codesOf 63 = .ok (.lstore 7, 2) := dk_55 7 (dk_at dksX1_codesOf_2 17 rfl rfl)
theorem dX1_codesOf_65 : decode cX1_codesOf 65 = .ok (.iconst 0, 1) := dk_3 (dk_at dksX1_codesOf_2 19 rfl rfl)
theorem dX1_codesOf_66 : decode cX1_codesOf 66 = .ok (.istore 9, 2) := dk_54 9 (dk_at dksX1_codesOf_2 20 rfl rfl)
theorem dX1_codesOf_68 : decode cX1_codesOf 68 = .ok (.iload 9, 2) := dk_21 9 (dk_at dksX1_codesOf_2 22 rfl rfl)
theorem dX1_codesOf_70 : decode cX1_codesOf 70 = .ok (.iload_n 2, 1) := dk_28 (dk_at dksX1_codesOf_3 0 rfl rfl)
theorem dX1_codesOf_71 : decode cX1_codesOf 71 = .ok (.if_icmp .gt 36, 3) := dk_163 0 36 (dk_at dksX1_codesOf_3 1 rfl rfl)
theorem dX1_codesOf_74 : decode cX1_codesOf 74 = .ok (.lload 5, 2) := dk_22 5 (dk_at dksX1_codesOf_3 4 rfl rfl)
theorem dX1_codesOf_76 : decode cX1_codesOf 76 = .ok (.lload 7, 2) := dk_22 7 (dk_at dksX1_codesOf_3 6 rfl rfl)
theorem dX1_codesOf_78 : decode cX1_codesOf 78 = .ok (.ladd, 1) := dk_97 (dk_at dksX1_codesOf_3 8 rfl rfl)
theorem dX1_codesOf_79 : decode cX1_codesOf 79 = .ok (.lstore 5, 2) := dk_55 5 (dk_at dksX1_codesOf_3 9 rfl rfl)
theorem dX1_codesOf_81 : decode cX1_codesOf 81 = .ok (.lload 7, 2) := dk_22 7 (dk_at dksX1_codesOf_3 11 rfl rfl)
theorem dX1_codesOf_83 : decode cX1_codesOf 83 = .ok (.ldc2_w 251, 3) := dk_20 0 251 (dk_at dksX1_codesOf_3 13 rfl rfl)
theorem dX1_codesOf_86 : decode cX1_codesOf 86 = .ok (.lmul, 1) := dk_105 (dk_at dksX1_codesOf_3 16 rfl rfl)
theorem dX1_codesOf_87 : decode cX1_codesOf 87 = .ok (.iload_n 3, 1) := dk_29 (dk_at dksX1_codesOf_3 17 rfl rfl)
theorem dX1_codesOf_88 : decode cX1_codesOf 88 = .ok (.iload 9, 2) := dk_21 9 (dk_at dksX1_codesOf_3 18 rfl rfl)
theorem dX1_codesOf_90 : decode cX1_codesOf 90 = .ok (.isub, 1) := dk_100 (dk_at dksX1_codesOf_3 20 rfl rfl)
theorem dX1_codesOf_91 : decode cX1_codesOf 91 = .ok (.i2l, 1) := dk_133 (dk_at dksX1_codesOf_3 21 rfl rfl)
theorem dX1_codesOf_92 : decode cX1_codesOf 92 = .ok (.lmul, 1) := dk_105 (dk_at dksX1_codesOf_3 22 rfl rfl)
theorem dX1_codesOf_93 : decode cX1_codesOf 93 = .ok (.iload 9, 2) := dk_21 9 (dk_at dksX1_codesOf_4 0 rfl rfl)
theorem dX1_codesOf_95 : decode cX1_codesOf 95 = .ok (.iconst 1, 1) := dk_4 (dk_at dksX1_codesOf_4 2 rfl rfl)
theorem dX1_codesOf_96 : decode cX1_codesOf 96 = .ok (.iadd, 1) := dk_96 (dk_at dksX1_codesOf_4 3 rfl rfl)
theorem dX1_codesOf_97 : decode cX1_codesOf 97 = .ok (.i2l, 1) := dk_133 (dk_at dksX1_codesOf_4 4 rfl rfl)
theorem dX1_codesOf_98 : decode cX1_codesOf 98 = .ok (.ldiv, 1) := dk_109 (dk_at dksX1_codesOf_4 5 rfl rfl)
theorem dX1_codesOf_99 : decode cX1_codesOf 99 = .ok (.lstore 7, 2) := dk_55 7 (dk_at dksX1_codesOf_4 6 rfl rfl)
theorem dX1_codesOf_101 : decode cX1_codesOf 101 = .ok (.iinc 9 1, 3) := dk_132 9 1 (dk_at dksX1_codesOf_4 8 rfl rfl)
theorem dX1_codesOf_104 : decode cX1_codesOf 104 = .ok (.goto (-36), 3) := dk_167 255 220 (dk_at dksX1_codesOf_4 11 rfl rfl)
theorem dX1_codesOf_107 : decode cX1_codesOf 107 = .ok (.lload 5, 2) := dk_22 5 (dk_at dksX1_codesOf_4 14 rfl rfl)
theorem dX1_codesOf_109 : decode cX1_codesOf 109 = .ok (.lreturn, 1) := dk_173 (dk_at dksX1_codesOf_4 16 rfl rfl)
abbrev cX1_slips : ByteArray := prog_1_method_43_code
def yX1_slips : MethodName := ⟨RX1, "slips", "(II)I"⟩
def dkwX1_slips_2 : List UInt8 := [172]
abbrev dktX1_slips_2 : List UInt8 := dkwX1_slips_2 ++ []
def dkwX1_slips_1 : List UInt8 := [163, 0, 23, 42, 27, 29, 182, 0, 253, 28, 133, 148, 155, 0, 5, 29, 172, 132, 3, 1, 167, 255, 233, 2]
abbrev dktX1_slips_1 : List UInt8 := dkwX1_slips_1 ++ dktX1_slips_2
def dkwX1_slips_0 : List UInt8 := [42, 27, 182, 0, 150, 87, 28, 3, 19, 1, 1, 184, 0, 113, 184, 0, 59, 3, 62, 29, 16, 12]
abbrev dktX1_slips_0 : List UInt8 := dkwX1_slips_0 ++ dktX1_slips_1
theorem dksX1_slips_0 : cX1_slips.data.toList.drop 0 = dktX1_slips_0 := by decide +kernel
theorem dksX1_slips_1 : cX1_slips.data.toList.drop 22 = dktX1_slips_1 := dk_seg dksX1_slips_0 22 rfl rfl
theorem dksX1_slips_2 : cX1_slips.data.toList.drop 46 = dktX1_slips_2 := dk_seg dksX1_slips_1 24 rfl rfl
theorem dX1_slips_0 : decode cX1_slips 0 = .ok (.aload_n 0, 1) := dk_42 (dk_at dksX1_slips_0 0 rfl rfl)
theorem dX1_slips_1 : decode cX1_slips 1 = .ok (.iload_n 1, 1) := dk_27 (dk_at dksX1_slips_0 1 rfl rfl)
theorem dX1_slips_2 : decode cX1_slips 2 = .ok (.invokevirtual 150, 3) := dk_182 0 150 (dk_at dksX1_slips_0 2 rfl rfl)
theorem dX1_slips_5 : decode cX1_slips 5 = .ok (.pop, 1) := dk_87 (dk_at dksX1_slips_0 5 rfl rfl)
theorem dX1_slips_6 : decode cX1_slips 6 = .ok (.iload_n 2, 1) := dk_28 (dk_at dksX1_slips_0 6 rfl rfl)
theorem dX1_slips_7 : decode cX1_slips 7 = .ok (.iconst 0, 1) := dk_3 (dk_at dksX1_slips_0 7 rfl rfl)
theorem dX1_slips_8 : decode cX1_slips 8 = .ok (.ldc_w 257, 3) := dk_19 1 1 (dk_at dksX1_slips_0 8 rfl rfl)
theorem dX1_slips_11 : decode cX1_slips 11 = .ok (.invokestatic 113, 3) := dk_184 0 113 (dk_at dksX1_slips_0 11 rfl rfl)
theorem dX1_slips_14 : decode cX1_slips 14 = .ok (.invokestatic 59, 3) := dk_184 0 59 (dk_at dksX1_slips_0 14 rfl rfl)
theorem dX1_slips_17 : decode cX1_slips 17 = .ok (.iconst 0, 1) := dk_3 (dk_at dksX1_slips_0 17 rfl rfl)
theorem dX1_slips_18 : decode cX1_slips 18 = .ok (.istore_n 3, 1) := dk_62 (dk_at dksX1_slips_0 18 rfl rfl)
theorem dX1_slips_19 : decode cX1_slips 19 = .ok (.iload_n 3, 1) := dk_29 (dk_at dksX1_slips_0 19 rfl rfl)
theorem dX1_slips_20 : decode cX1_slips 20 = .ok (.bipush 12, 2) := dk_16 12 (dk_at dksX1_slips_0 20 rfl rfl)
theorem dX1_slips_22 : decode cX1_slips 22 = .ok (.if_icmp .gt 23, 3) := dk_163 0 23 (dk_at dksX1_slips_1 0 rfl rfl)
theorem dX1_slips_25 : decode cX1_slips 25 = .ok (.aload_n 0, 1) := dk_42 (dk_at dksX1_slips_1 3 rfl rfl)
theorem dX1_slips_26 : decode cX1_slips 26 = .ok (.iload_n 1, 1) := dk_27 (dk_at dksX1_slips_1 4 rfl rfl)
theorem dX1_slips_27 : decode cX1_slips 27 = .ok (.iload_n 3, 1) := dk_29 (dk_at dksX1_slips_1 5 rfl rfl)
theorem dX1_slips_28 : decode cX1_slips 28 = .ok (.invokevirtual 253, 3) := dk_182 0 253 (dk_at dksX1_slips_1 6 rfl rfl)
theorem dX1_slips_31 : decode cX1_slips 31 = .ok (.iload_n 2, 1) := dk_28 (dk_at dksX1_slips_1 9 rfl rfl)
theorem dX1_slips_32 : decode cX1_slips 32 = .ok (.i2l, 1) := dk_133 (dk_at dksX1_slips_1 10 rfl rfl)
theorem dX1_slips_33 : decode cX1_slips 33 = .ok (.lcmp, 1) := dk_148 (dk_at dksX1_slips_1 11 rfl rfl)
theorem dX1_slips_34 : decode cX1_slips 34 = .ok (.ifCond .lt 5, 3) := dk_155 0 5 (dk_at dksX1_slips_1 12 rfl rfl)
theorem dX1_slips_37 : decode cX1_slips 37 = .ok (.iload_n 3, 1) := dk_29 (dk_at dksX1_slips_1 15 rfl rfl)
theorem dX1_slips_38 : decode cX1_slips 38 = .ok (.ireturn, 1) := dk_172 (dk_at dksX1_slips_1 16 rfl rfl)
theorem dX1_slips_39 : decode cX1_slips 39 = .ok (.iinc 3 1, 3) := dk_132 3 1 (dk_at dksX1_slips_1 17 rfl rfl)
theorem dX1_slips_42 : decode cX1_slips 42 = .ok (.goto (-23), 3) := dk_167 255 233 (dk_at dksX1_slips_1 20 rfl rfl)
theorem dX1_slips_45 : decode cX1_slips 45 = .ok (.iconst (-1), 1) := dk_2 (dk_at dksX1_slips_1 23 rfl rfl)
theorem dX1_slips_46 : decode cX1_slips 46 = .ok (.ireturn, 1) := dk_172 (dk_at dksX1_slips_2 0 rfl rfl)
abbrev cX1_hear : ByteArray := prog_1_method_44_code
def yX1_hear : MethodName := ⟨RX1, "hear", "(IIII)I"⟩
def dkwX1_hear_4 : List UInt8 := [79, 89, 6, 21, 4, 79, 185, 0, 182, 2, 0, 87, 42, 180, 0, 53, 185, 0, 86, 1, 0, 172]
abbrev dktX1_hear_4 : List UInt8 := dkwX1_hear_4 ++ []
def dkwX1_hear_3 : List UInt8 := [42, 5, 182, 0, 189, 172, 42, 180, 0, 53, 7, 188, 10, 89, 3, 27, 79, 89, 4, 28, 79, 89, 5, 29]
abbrev dktX1_hear_3 : List UInt8 := dkwX1_hear_3 ++ dktX1_hear_4
def dkwX1_hear_2 : List UInt8 := [185, 0, 86, 1, 0, 4, 100, 184, 0, 113, 153, 0, 14, 21, 4, 3, 16, 60, 184, 0, 113, 154, 0, 9]
abbrev dktX1_hear_2 : List UInt8 := dkwX1_hear_2 ++ dktX1_hear_3
def dkwX1_hear_1 : List UInt8 := [185, 0, 86, 1, 0, 16, 8, 159, 0, 39, 25, 6, 198, 0, 34, 29, 3, 25, 6, 180, 0, 163]
abbrev dktX1_hear_1 : List UInt8 := dkwX1_hear_1 ++ dktX1_hear_2
def dkwX1_hear_0 : List UInt8 := [42, 27, 182, 0, 150, 58, 5, 28, 6, 184, 0, 154, 25, 5, 28, 50, 58, 6, 42, 180, 0, 53]
abbrev dktX1_hear_0 : List UInt8 := dkwX1_hear_0 ++ dktX1_hear_1
theorem dksX1_hear_0 : cX1_hear.data.toList.drop 0 = dktX1_hear_0 := by decide +kernel
theorem dksX1_hear_1 : cX1_hear.data.toList.drop 22 = dktX1_hear_1 := dk_seg dksX1_hear_0 22 rfl rfl
theorem dksX1_hear_2 : cX1_hear.data.toList.drop 44 = dktX1_hear_2 := dk_seg dksX1_hear_1 22 rfl rfl
theorem dksX1_hear_3 : cX1_hear.data.toList.drop 68 = dktX1_hear_3 := dk_seg dksX1_hear_2 24 rfl rfl
theorem dksX1_hear_4 : cX1_hear.data.toList.drop 92 = dktX1_hear_4 := dk_seg dksX1_hear_3 24 rfl rfl
theorem dX1_hear_0 : decode cX1_hear 0 = .ok (.aload_n 0, 1) := dk_42 (dk_at dksX1_hear_0 0 rfl rfl)
theorem dX1_hear_1 : decode cX1_hear 1 = .ok (.iload_n 1, 1) := dk_27 (dk_at dksX1_hear_0 1 rfl rfl)
theorem dX1_hear_2 : decode cX1_hear 2 = .ok (.invokevirtual 150, 3) := dk_182 0 150 (dk_at dksX1_hear_0 2 rfl rfl)
theorem dX1_hear_5 : decode cX1_hear 5 = .ok (.astore 5, 2) := dk_58 5 (dk_at dksX1_hear_0 5 rfl rfl)
theorem dX1_hear_7 : decode cX1_hear 7 = .ok (.iload_n 2, 1) := dk_28 (dk_at dksX1_hear_0 7 rfl rfl)
theorem dX1_hear_8 : decode cX1_hear 8 = .ok (.iconst 3, 1) := dk_6 (dk_at dksX1_hear_0 8 rfl rfl)
theorem dX1_hear_9 : decode cX1_hear 9 = .ok (.invokestatic 154, 3) := dk_184 0 154 (dk_at dksX1_hear_0 9 rfl rfl)
theorem dX1_hear_12 : decode cX1_hear 12 = .ok (.aload 5, 2) := dk_25 5 (dk_at dksX1_hear_0 12 rfl rfl)
theorem dX1_hear_14 : decode cX1_hear 14 = .ok (.iload_n 2, 1) := dk_28 (dk_at dksX1_hear_0 14 rfl rfl)
theorem dX1_hear_15 : decode cX1_hear 15 = .ok (.aaload, 1) := dk_50 (dk_at dksX1_hear_0 15 rfl rfl)
theorem dX1_hear_16 : decode cX1_hear 16 = .ok (.astore 6, 2) := dk_58 6 (dk_at dksX1_hear_0 16 rfl rfl)
theorem dX1_hear_18 : decode cX1_hear 18 = .ok (.aload_n 0, 1) := dk_42 (dk_at dksX1_hear_0 18 rfl rfl)
theorem dX1_hear_19 : decode cX1_hear 19 = .ok (.getfield 53, 3) := dk_180 0 53 (dk_at dksX1_hear_0 19 rfl rfl)
theorem dX1_hear_22 : decode cX1_hear 22 = .ok (.invokeinterface 86 1, 5) := by decide +kernel
theorem dX1_hear_27 : decode cX1_hear 27 = .ok (.bipush 8, 2) := dk_16 8 (dk_at dksX1_hear_1 5 rfl rfl)
theorem dX1_hear_29 : decode cX1_hear 29 = .ok (.if_icmp .eq 39, 3) := dk_159 0 39 (dk_at dksX1_hear_1 7 rfl rfl)
theorem dX1_hear_32 : decode cX1_hear 32 = .ok (.aload 6, 2) := dk_25 6 (dk_at dksX1_hear_1 10 rfl rfl)
theorem dX1_hear_34 : decode cX1_hear 34 = .ok (.ifnull 34, 3) := dk_198 0 34 (dk_at dksX1_hear_1 12 rfl rfl)
theorem dX1_hear_37 : decode cX1_hear 37 = .ok (.iload_n 3, 1) := dk_29 (dk_at dksX1_hear_1 15 rfl rfl)
theorem dX1_hear_38 : decode cX1_hear 38 = .ok (.iconst 0, 1) := dk_3 (dk_at dksX1_hear_1 16 rfl rfl)
theorem dX1_hear_39 : decode cX1_hear 39 = .ok (.aload 6, 2) := dk_25 6 (dk_at dksX1_hear_1 17 rfl rfl)
theorem dX1_hear_41 : decode cX1_hear 41 = .ok (.getfield 163, 3) := dk_180 0 163 (dk_at dksX1_hear_1 19 rfl rfl)
theorem dX1_hear_44 : decode cX1_hear 44 = .ok (.invokeinterface 86 1, 5) := by decide +kernel
theorem dX1_hear_49 : decode cX1_hear 49 = .ok (.iconst 1, 1) := dk_4 (dk_at dksX1_hear_2 5 rfl rfl)
theorem dX1_hear_50 : decode cX1_hear 50 = .ok (.isub, 1) := dk_100 (dk_at dksX1_hear_2 6 rfl rfl)
theorem dX1_hear_51 : decode cX1_hear 51 = .ok (.invokestatic 113, 3) := dk_184 0 113 (dk_at dksX1_hear_2 7 rfl rfl)
theorem dX1_hear_54 : decode cX1_hear 54 = .ok (.ifCond .eq 14, 3) := dk_153 0 14 (dk_at dksX1_hear_2 10 rfl rfl)
theorem dX1_hear_57 : decode cX1_hear 57 = .ok (.iload 4, 2) := dk_21 4 (dk_at dksX1_hear_2 13 rfl rfl)
theorem dX1_hear_59 : decode cX1_hear 59 = .ok (.iconst 0, 1) := dk_3 (dk_at dksX1_hear_2 15 rfl rfl)
theorem dX1_hear_60 : decode cX1_hear 60 = .ok (.bipush 60, 2) := dk_16 60 (dk_at dksX1_hear_2 16 rfl rfl)
theorem dX1_hear_62 : decode cX1_hear 62 = .ok (.invokestatic 113, 3) := dk_184 0 113 (dk_at dksX1_hear_2 18 rfl rfl)
theorem dX1_hear_65 : decode cX1_hear 65 = .ok (.ifCond .ne 9, 3) := dk_154 0 9 (dk_at dksX1_hear_2 21 rfl rfl)
theorem dX1_hear_68 : decode cX1_hear 68 = .ok (.aload_n 0, 1) := dk_42 (dk_at dksX1_hear_3 0 rfl rfl)
theorem dX1_hear_69 : decode cX1_hear 69 = .ok (.iconst 2, 1) := dk_5 (dk_at dksX1_hear_3 1 rfl rfl)
theorem dX1_hear_70 : decode cX1_hear 70 = .ok (.invokevirtual 189, 3) := dk_182 0 189 (dk_at dksX1_hear_3 2 rfl rfl)
theorem dX1_hear_73 : decode cX1_hear 73 = .ok (.ireturn, 1) := dk_172 (dk_at dksX1_hear_3 5 rfl rfl)
theorem dX1_hear_74 : decode cX1_hear 74 = .ok (.aload_n 0, 1) := dk_42 (dk_at dksX1_hear_3 6 rfl rfl)
theorem dX1_hear_75 : decode cX1_hear 75 = .ok (.getfield 53, 3) := dk_180 0 53 (dk_at dksX1_hear_3 7 rfl rfl)
theorem dX1_hear_78 : decode cX1_hear 78 = .ok (.iconst 4, 1) := dk_7 (dk_at dksX1_hear_3 10 rfl rfl)
theorem dX1_hear_79 : decode cX1_hear 79 = .ok (.newarray .int, 2) := dk_188_10 (dk_at dksX1_hear_3 11 rfl rfl)
theorem dX1_hear_81 : decode cX1_hear 81 = .ok (.dup, 1) := dk_89 (dk_at dksX1_hear_3 13 rfl rfl)
theorem dX1_hear_82 : decode cX1_hear 82 = .ok (.iconst 0, 1) := dk_3 (dk_at dksX1_hear_3 14 rfl rfl)
theorem dX1_hear_83 : decode cX1_hear 83 = .ok (.iload_n 1, 1) := dk_27 (dk_at dksX1_hear_3 15 rfl rfl)
theorem dX1_hear_84 : decode cX1_hear 84 = .ok (.iastore, 1) := dk_79 (dk_at dksX1_hear_3 16 rfl rfl)
theorem dX1_hear_85 : decode cX1_hear 85 = .ok (.dup, 1) := dk_89 (dk_at dksX1_hear_3 17 rfl rfl)
theorem dX1_hear_86 : decode cX1_hear 86 = .ok (.iconst 1, 1) := dk_4 (dk_at dksX1_hear_3 18 rfl rfl)
theorem dX1_hear_87 : decode cX1_hear 87 = .ok (.iload_n 2, 1) := dk_28 (dk_at dksX1_hear_3 19 rfl rfl)
theorem dX1_hear_88 : decode cX1_hear 88 = .ok (.iastore, 1) := dk_79 (dk_at dksX1_hear_3 20 rfl rfl)
theorem dX1_hear_89 : decode cX1_hear 89 = .ok (.dup, 1) := dk_89 (dk_at dksX1_hear_3 21 rfl rfl)
theorem dX1_hear_90 : decode cX1_hear 90 = .ok (.iconst 2, 1) := dk_5 (dk_at dksX1_hear_3 22 rfl rfl)
theorem dX1_hear_91 : decode cX1_hear 91 = .ok (.iload_n 3, 1) := dk_29 (dk_at dksX1_hear_3 23 rfl rfl)
theorem dX1_hear_92 : decode cX1_hear 92 = .ok (.iastore, 1) := dk_79 (dk_at dksX1_hear_4 0 rfl rfl)
theorem dX1_hear_93 : decode cX1_hear 93 = .ok (.dup, 1) := dk_89 (dk_at dksX1_hear_4 1 rfl rfl)
theorem dX1_hear_94 : decode cX1_hear 94 = .ok (.iconst 3, 1) := dk_6 (dk_at dksX1_hear_4 2 rfl rfl)
theorem dX1_hear_95 : decode cX1_hear 95 = .ok (.iload 4, 2) := dk_21 4 (dk_at dksX1_hear_4 3 rfl rfl)
theorem dX1_hear_97 : decode cX1_hear 97 = .ok (.iastore, 1) := dk_79 (dk_at dksX1_hear_4 5 rfl rfl)
theorem dX1_hear_98 : decode cX1_hear 98 = .ok (.invokeinterface 182 2, 5) := by decide +kernel
theorem dX1_hear_103 : decode cX1_hear 103 = .ok (.pop, 1) := dk_87 (dk_at dksX1_hear_4 11 rfl rfl)
theorem dX1_hear_104 : decode cX1_hear 104 = .ok (.aload_n 0, 1) := dk_42 (dk_at dksX1_hear_4 12 rfl rfl)
theorem dX1_hear_105 : decode cX1_hear 105 = .ok (.getfield 53, 3) := dk_180 0 53 (dk_at dksX1_hear_4 13 rfl rfl)
theorem dX1_hear_108 : decode cX1_hear 108 = .ok (.invokeinterface 86 1, 5) := by decide +kernel
theorem dX1_hear_113 : decode cX1_hear 113 = .ok (.ireturn, 1) := dk_172 (dk_at dksX1_hear_4 21 rfl rfl)
abbrev cX1_flat : ByteArray := prog_1_method_46_code
def yX1_flat : MethodName := ⟨RX1, "flat", "(I)I"⟩
def dkwX1_flat_4 : List UInt8 := [167, 255, 217, 132, 4, 1, 167, 255, 191, 27, 154, 0, 7, 28, 167, 0, 4, 29, 172]
abbrev dktX1_flat_4 : List UInt8 := dkwX1_flat_4 ++ []
def dkwX1_flat_3 : List UInt8 := [167, 0, 19, 28, 154, 0, 12, 16, 10, 21, 4, 104, 21, 5, 96, 62, 132, 2, 1, 132, 5, 1]
abbrev dktX1_flat_3 : List UInt8 := dkwX1_flat_3 ++ dktX1_flat_4
def dkwX1_flat_2 : List UInt8 := [162, 0, 54, 4, 54, 5, 21, 5, 8, 163, 0, 39, 42, 21, 4, 21, 5, 182, 1, 3, 154, 0, 6]
abbrev dktX1_flat_2 : List UInt8 := dkwX1_flat_2 ++ dktX1_flat_3
def dkwX1_flat_1 : List UInt8 := [172, 3, 61, 2, 62, 3, 54, 4, 21, 4, 42, 180, 0, 16, 180, 0, 83, 185, 0, 86, 1, 0]
abbrev dktX1_flat_1 : List UInt8 := dkwX1_flat_1 ++ dktX1_flat_2
def dkwX1_flat_0 : List UInt8 := [27, 5, 184, 0, 154, 27, 5, 160, 0, 18, 42, 2, 3, 182, 1, 3, 153, 0, 7, 4, 167, 0, 4, 3]
abbrev dktX1_flat_0 : List UInt8 := dkwX1_flat_0 ++ dktX1_flat_1
theorem dksX1_flat_0 : cX1_flat.data.toList.drop 0 = dktX1_flat_0 := by decide +kernel
theorem dksX1_flat_1 : cX1_flat.data.toList.drop 24 = dktX1_flat_1 := dk_seg dksX1_flat_0 24 rfl rfl
theorem dksX1_flat_2 : cX1_flat.data.toList.drop 46 = dktX1_flat_2 := dk_seg dksX1_flat_1 22 rfl rfl
theorem dksX1_flat_3 : cX1_flat.data.toList.drop 69 = dktX1_flat_3 := dk_seg dksX1_flat_2 23 rfl rfl
theorem dksX1_flat_4 : cX1_flat.data.toList.drop 91 = dktX1_flat_4 := dk_seg dksX1_flat_3 22 rfl rfl
theorem dX1_flat_0 : decode cX1_flat 0 = .ok (.iload_n 1, 1) := dk_27 (dk_at dksX1_flat_0 0 rfl rfl)
theorem dX1_flat_1 : decode cX1_flat 1 = .ok (.iconst 2, 1) := dk_5 (dk_at dksX1_flat_0 1 rfl rfl)
theorem dX1_flat_2 : decode cX1_flat 2 = .ok (.invokestatic 154, 3) := dk_184 0 154 (dk_at dksX1_flat_0 2 rfl rfl)
theorem dX1_flat_5 : decode cX1_flat 5 = .ok (.iload_n 1, 1) := dk_27 (dk_at dksX1_flat_0 5 rfl rfl)
theorem dX1_flat_6 : decode cX1_flat 6 = .ok (.iconst 2, 1) := dk_5 (dk_at dksX1_flat_0 6 rfl rfl)
theorem dX1_flat_7 : decode cX1_flat 7 = .ok (.if_icmp .ne 18, 3) := dk_160 0 18 (dk_at dksX1_flat_0 7 rfl rfl)
theorem dX1_flat_10 : decode cX1_flat 10 = .ok (.aload_n 0, 1) := dk_42 (dk_at dksX1_flat_0 10 rfl rfl)
theorem dX1_flat_11 : decode cX1_flat 11 = .ok (.iconst (-1), 1) := dk_2 (dk_at dksX1_flat_0 11 rfl rfl)
theorem dX1_flat_12 : decode cX1_flat 12 = .ok (.iconst 0, 1) := dk_3 (dk_at dksX1_flat_0 12 rfl rfl)
theorem dX1_flat_13 : decode cX1_flat 13 = .ok (.invokevirtual 259, 3) := dk_182 1 3 (dk_at dksX1_flat_0 13 rfl rfl)
theorem dX1_flat_16 : decode cX1_flat 16 = .ok (.ifCond .eq 7, 3) := dk_153 0 7 (dk_at dksX1_flat_0 16 rfl rfl)
theorem dX1_flat_19 : decode cX1_flat 19 = .ok (.iconst 1, 1) := dk_4 (dk_at dksX1_flat_0 19 rfl rfl)
theorem dX1_flat_20 : decode cX1_flat 20 = .ok (.goto 4, 3) := dk_167 0 4 (dk_at dksX1_flat_0 20 rfl rfl)
theorem dX1_flat_23 : decode cX1_flat 23 = .ok (.iconst 0, 1) := dk_3 (dk_at dksX1_flat_0 23 rfl rfl)
theorem dX1_flat_24 : decode cX1_flat 24 = .ok (.ireturn, 1) := dk_172 (dk_at dksX1_flat_1 0 rfl rfl)
theorem dX1_flat_25 : decode cX1_flat 25 = .ok (.iconst 0, 1) := dk_3 (dk_at dksX1_flat_1 1 rfl rfl)
theorem dX1_flat_26 : decode cX1_flat 26 = .ok (.istore_n 2, 1) := dk_61 (dk_at dksX1_flat_1 2 rfl rfl)
theorem dX1_flat_27 : decode cX1_flat 27 = .ok (.iconst (-1), 1) := dk_2 (dk_at dksX1_flat_1 3 rfl rfl)
theorem dX1_flat_28 : decode cX1_flat 28 = .ok (.istore_n 3, 1) := dk_62 (dk_at dksX1_flat_1 4 rfl rfl)
theorem dX1_flat_29 : decode cX1_flat 29 = .ok (.iconst 0, 1) := dk_3 (dk_at dksX1_flat_1 5 rfl rfl)
theorem dX1_flat_30 : decode cX1_flat 30 = .ok (.istore 4, 2) := dk_54 4 (dk_at dksX1_flat_1 6 rfl rfl)
theorem dX1_flat_32 : decode cX1_flat 32 = .ok (.iload 4, 2) := dk_21 4 (dk_at dksX1_flat_1 8 rfl rfl)
theorem dX1_flat_34 : decode cX1_flat 34 = .ok (.aload_n 0, 1) := dk_42 (dk_at dksX1_flat_1 10 rfl rfl)
theorem dX1_flat_35 : decode cX1_flat 35 = .ok (.getfield 16, 3) := dk_180 0 16 (dk_at dksX1_flat_1 11 rfl rfl)
theorem dX1_flat_38 : decode cX1_flat 38 = .ok (.getfield 83, 3) := dk_180 0 83 (dk_at dksX1_flat_1 14 rfl rfl)
theorem dX1_flat_41 : decode cX1_flat 41 = .ok (.invokeinterface 86 1, 5) := by decide +kernel
theorem dX1_flat_46 : decode cX1_flat 46 = .ok (.if_icmp .ge 54, 3) := dk_162 0 54 (dk_at dksX1_flat_2 0 rfl rfl)
theorem dX1_flat_49 : decode cX1_flat 49 = .ok (.iconst 1, 1) := dk_4 (dk_at dksX1_flat_2 3 rfl rfl)
theorem dX1_flat_50 : decode cX1_flat 50 = .ok (.istore 5, 2) := dk_54 5 (dk_at dksX1_flat_2 4 rfl rfl)
theorem dX1_flat_52 : decode cX1_flat 52 = .ok (.iload 5, 2) := dk_21 5 (dk_at dksX1_flat_2 6 rfl rfl)
theorem dX1_flat_54 : decode cX1_flat 54 = .ok (.iconst 5, 1) := dk_8 (dk_at dksX1_flat_2 8 rfl rfl)
theorem dX1_flat_55 : decode cX1_flat 55 = .ok (.if_icmp .gt 39, 3) := dk_163 0 39 (dk_at dksX1_flat_2 9 rfl rfl)
theorem dX1_flat_58 : decode cX1_flat 58 = .ok (.aload_n 0, 1) := dk_42 (dk_at dksX1_flat_2 12 rfl rfl)
theorem dX1_flat_59 : decode cX1_flat 59 = .ok (.iload 4, 2) := dk_21 4 (dk_at dksX1_flat_2 13 rfl rfl)
theorem dX1_flat_61 : decode cX1_flat 61 = .ok (.iload 5, 2) := dk_21 5 (dk_at dksX1_flat_2 15 rfl rfl)
theorem dX1_flat_63 : decode cX1_flat 63 = .ok (.invokevirtual 259, 3) := dk_182 1 3 (dk_at dksX1_flat_2 17 rfl rfl)
theorem dX1_flat_66 : decode cX1_flat 66 = .ok (.ifCond .ne 6, 3) := dk_154 0 6 (dk_at dksX1_flat_2 20 rfl rfl)
theorem dX1_flat_69 : decode cX1_flat 69 = .ok (.goto 19, 3) := dk_167 0 19 (dk_at dksX1_flat_3 0 rfl rfl)
theorem dX1_flat_72 : decode cX1_flat 72 = .ok (.iload_n 2, 1) := dk_28 (dk_at dksX1_flat_3 3 rfl rfl)
theorem dX1_flat_73 : decode cX1_flat 73 = .ok (.ifCond .ne 12, 3) := dk_154 0 12 (dk_at dksX1_flat_3 4 rfl rfl)
theorem dX1_flat_76 : decode cX1_flat 76 = .ok (.bipush 10, 2) := dk_16 10 (dk_at dksX1_flat_3 7 rfl rfl)
theorem dX1_flat_78 : decode cX1_flat 78 = .ok (.iload 4, 2) := dk_21 4 (dk_at dksX1_flat_3 9 rfl rfl)
theorem dX1_flat_80 : decode cX1_flat 80 = .ok (.imul, 1) := dk_104 (dk_at dksX1_flat_3 11 rfl rfl)
theorem dX1_flat_81 : decode cX1_flat 81 = .ok (.iload 5, 2) := dk_21 5 (dk_at dksX1_flat_3 12 rfl rfl)
theorem dX1_flat_83 : decode cX1_flat 83 = .ok (.iadd, 1) := dk_96 (dk_at dksX1_flat_3 14 rfl rfl)
theorem dX1_flat_84 : decode cX1_flat 84 = .ok (.istore_n 3, 1) := dk_62 (dk_at dksX1_flat_3 15 rfl rfl)
theorem dX1_flat_85 : decode cX1_flat 85 = .ok (.iinc 2 1, 3) := dk_132 2 1 (dk_at dksX1_flat_3 16 rfl rfl)
theorem dX1_flat_88 : decode cX1_flat 88 = .ok (.iinc 5 1, 3) := dk_132 5 1 (dk_at dksX1_flat_3 19 rfl rfl)
theorem dX1_flat_91 : decode cX1_flat 91 = .ok (.goto (-39), 3) := dk_167 255 217 (dk_at dksX1_flat_4 0 rfl rfl)
theorem dX1_flat_94 : decode cX1_flat 94 = .ok (.iinc 4 1, 3) := dk_132 4 1 (dk_at dksX1_flat_4 3 rfl rfl)
theorem dX1_flat_97 : decode cX1_flat 97 = .ok (.goto (-65), 3) := dk_167 255 191 (dk_at dksX1_flat_4 6 rfl rfl)
theorem dX1_flat_100 : decode cX1_flat 100 = .ok (.iload_n 1, 1) := dk_27 (dk_at dksX1_flat_4 9 rfl rfl)
theorem dX1_flat_101 : decode cX1_flat 101 = .ok (.ifCond .ne 7, 3) := dk_154 0 7 (dk_at dksX1_flat_4 10 rfl rfl)
theorem dX1_flat_104 : decode cX1_flat 104 = .ok (.iload_n 2, 1) := dk_28 (dk_at dksX1_flat_4 13 rfl rfl)
theorem dX1_flat_105 : decode cX1_flat 105 = .ok (.goto 4, 3) := dk_167 0 4 (dk_at dksX1_flat_4 14 rfl rfl)
theorem dX1_flat_108 : decode cX1_flat 108 = .ok (.iload_n 3, 1) := dk_29 (dk_at dksX1_flat_4 17 rfl rfl)
theorem dX1_flat_109 : decode cX1_flat 109 = .ok (.ireturn, 1) := dk_172 (dk_at dksX1_flat_4 18 rfl rfl)
abbrev cX1_isAsHeard : ByteArray := prog_1_method_45_code
def yX1_isAsHeard : MethodName := ⟨RX1, "isAsHeard", "(II)Z"⟩
def dkwX1_isAsHeard_5 : List UInt8 := [21, 5, 153, 0, 7, 28, 167, 0, 4, 3, 100, 159, 0, 5, 3, 172, 132, 3, 1, 167, 255, 125, 4, 172]
abbrev dktX1_isAsHeard_5 : List UInt8 := dkwX1_isAsHeard_5 ++ []
def dkwX1_isAsHeard_4 : List UInt8 := [25, 4, 4, 46, 50, 180, 0, 163, 25, 4, 5, 46, 185, 0, 120, 2, 0, 192, 0, 166, 182, 0, 168]
abbrev dktX1_isAsHeard_4 : List UInt8 := dkwX1_isAsHeard_4 ++ dktX1_isAsHeard_5
def dkwX1_isAsHeard_3 : List UInt8 := [25, 4, 6, 46, 42, 180, 0, 16, 180, 0, 92, 25, 4, 3, 46, 185, 0, 120, 2, 0, 192, 0, 126]
abbrev dktX1_isAsHeard_3 : List UInt8 := dkwX1_isAsHeard_3 ++ dktX1_isAsHeard_4
def dkwX1_isAsHeard_2 : List UInt8 := [42, 180, 0, 27, 182, 0, 104, 182, 0, 175, 27, 184, 0, 209, 153, 0, 7, 4, 167, 0, 4, 3, 54, 5]
abbrev dktX1_isAsHeard_2 : List UInt8 := dkwX1_isAsHeard_2 ++ dktX1_isAsHeard_3
def dkwX1_isAsHeard_1 : List UInt8 := [185, 0, 120, 2, 0, 192, 1, 2, 58, 4, 27, 2, 159, 0, 33, 42, 25, 4, 3, 46, 25, 4, 4, 46]
abbrev dktX1_isAsHeard_1 : List UInt8 := dkwX1_isAsHeard_1 ++ dktX1_isAsHeard_2
def dkwX1_isAsHeard_0 : List UInt8 := [3, 62, 29, 42, 180, 0, 53, 185, 0, 86, 1, 0, 162, 0, 124, 42, 180, 0, 53, 29]
abbrev dktX1_isAsHeard_0 : List UInt8 := dkwX1_isAsHeard_0 ++ dktX1_isAsHeard_1
theorem dksX1_isAsHeard_0 : cX1_isAsHeard.data.toList.drop 0 = dktX1_isAsHeard_0 := by decide +kernel
theorem dksX1_isAsHeard_1 : cX1_isAsHeard.data.toList.drop 20 = dktX1_isAsHeard_1 := dk_seg dksX1_isAsHeard_0 20 rfl rfl
theorem dksX1_isAsHeard_2 : cX1_isAsHeard.data.toList.drop 44 = dktX1_isAsHeard_2 := dk_seg dksX1_isAsHeard_1 24 rfl rfl
theorem dksX1_isAsHeard_3 : cX1_isAsHeard.data.toList.drop 68 = dktX1_isAsHeard_3 := dk_seg dksX1_isAsHeard_2 24 rfl rfl
theorem dksX1_isAsHeard_4 : cX1_isAsHeard.data.toList.drop 91 = dktX1_isAsHeard_4 := dk_seg dksX1_isAsHeard_3 23 rfl rfl
theorem dksX1_isAsHeard_5 : cX1_isAsHeard.data.toList.drop 114 = dktX1_isAsHeard_5 := dk_seg dksX1_isAsHeard_4 23 rfl rfl
theorem dX1_isAsHeard_0 : decode cX1_isAsHeard 0 = .ok (.iconst 0, 1) := dk_3 (dk_at dksX1_isAsHeard_0 0 rfl rfl)
theorem dX1_isAsHeard_1 : decode cX1_isAsHeard 1 = .ok (.istore_n 3, 1) := dk_62 (dk_at dksX1_isAsHeard_0 1 rfl rfl)
theorem dX1_isAsHeard_2 : decode cX1_isAsHeard 2 = .ok (.iload_n 3, 1) := dk_29 (dk_at dksX1_isAsHeard_0 2 rfl rfl)
theorem dX1_isAsHeard_3 : decode cX1_isAsHeard 3 = .ok (.aload_n 0, 1) := dk_42 (dk_at dksX1_isAsHeard_0 3 rfl rfl)
theorem dX1_isAsHeard_4 : decode cX1_isAsHeard 4 = .ok (.getfield 53, 3) := dk_180 0 53 (dk_at dksX1_isAsHeard_0 4 rfl rfl)
theorem dX1_isAsHeard_7 : decode cX1_isAsHeard 7 = .ok (.invokeinterface 86 1, 5) := by decide +kernel
theorem dX1_isAsHeard_12 : decode cX1_isAsHeard 12 = .ok (.if_icmp .ge 124, 3) := dk_162 0 124 (dk_at dksX1_isAsHeard_0 12 rfl rfl)
theorem dX1_isAsHeard_15 : decode cX1_isAsHeard 15 = .ok (.aload_n 0, 1) := dk_42 (dk_at dksX1_isAsHeard_0 15 rfl rfl)
theorem dX1_isAsHeard_16 : decode cX1_isAsHeard 16 = .ok (.getfield 53, 3) := dk_180 0 53 (dk_at dksX1_isAsHeard_0 16 rfl rfl)
theorem dX1_isAsHeard_19 : decode cX1_isAsHeard 19 = .ok (.iload_n 3, 1) := dk_29 (dk_at dksX1_isAsHeard_0 19 rfl rfl)
theorem dX1_isAsHeard_20 : decode cX1_isAsHeard 20 = .ok (.invokeinterface 120 2, 5) := by decide +kernel
theorem dX1_isAsHeard_25 : decode cX1_isAsHeard 25 = .ok (.checkcast 258, 3) := dk_192 1 2 (dk_at dksX1_isAsHeard_1 5 rfl rfl)
theorem dX1_isAsHeard_28 : decode cX1_isAsHeard 28 = .ok (.astore 4, 2) := dk_58 4 (dk_at dksX1_isAsHeard_1 8 rfl rfl)
theorem dX1_isAsHeard_30 : decode cX1_isAsHeard 30 = .ok (.iload_n 1, 1) := dk_27 (dk_at dksX1_isAsHeard_1 10 rfl rfl)
theorem dX1_isAsHeard_31 : decode cX1_isAsHeard 31 = .ok (.iconst (-1), 1) := dk_2 (dk_at dksX1_isAsHeard_1 11 rfl rfl)
theorem dX1_isAsHeard_32 : decode cX1_isAsHeard 32 = .ok (.if_icmp .eq 33, 3) := dk_159 0 33 (dk_at dksX1_isAsHeard_1 12 rfl rfl)
theorem dX1_isAsHeard_35 : decode cX1_isAsHeard 35 = .ok (.aload_n 0, 1) := dk_42 (dk_at dksX1_isAsHeard_1 15 rfl rfl)
theorem dX1_isAsHeard_36 : decode cX1_isAsHeard 36 = .ok (.aload 4, 2) := dk_25 4 (dk_at dksX1_isAsHeard_1 16 rfl rfl)
theorem dX1_isAsHeard_38 : decode cX1_isAsHeard 38 = .ok (.iconst 0, 1) := dk_3 (dk_at dksX1_isAsHeard_1 18 rfl rfl)
theorem dX1_isAsHeard_39 : decode cX1_isAsHeard 39 = .ok (.iaload, 1) := dk_46 (dk_at dksX1_isAsHeard_1 19 rfl rfl)
theorem dX1_isAsHeard_40 : decode cX1_isAsHeard 40 = .ok (.aload 4, 2) := dk_25 4 (dk_at dksX1_isAsHeard_1 20 rfl rfl)
theorem dX1_isAsHeard_42 : decode cX1_isAsHeard 42 = .ok (.iconst 1, 1) := dk_4 (dk_at dksX1_isAsHeard_1 22 rfl rfl)
theorem dX1_isAsHeard_43 : decode cX1_isAsHeard 43 = .ok (.iaload, 1) := dk_46 (dk_at dksX1_isAsHeard_1 23 rfl rfl)
theorem dX1_isAsHeard_44 : decode cX1_isAsHeard 44 = .ok (.aload_n 0, 1) := dk_42 (dk_at dksX1_isAsHeard_2 0 rfl rfl)
theorem dX1_isAsHeard_45 : decode cX1_isAsHeard 45 = .ok (.getfield 27, 3) := dk_180 0 27 (dk_at dksX1_isAsHeard_2 1 rfl rfl)
theorem dX1_isAsHeard_48 : decode cX1_isAsHeard 48 = .ok (.invokevirtual 104, 3) := dk_182 0 104 (dk_at dksX1_isAsHeard_2 4 rfl rfl)
theorem dX1_isAsHeard_51 : decode cX1_isAsHeard 51 = .ok (.invokevirtual 175, 3) := dk_182 0 175 (dk_at dksX1_isAsHeard_2 7 rfl rfl)
theorem dX1_isAsHeard_54 : decode cX1_isAsHeard 54 = .ok (.iload_n 1, 1) := dk_27 (dk_at dksX1_isAsHeard_2 10 rfl rfl)
theorem dX1_isAsHeard_55 : decode cX1_isAsHeard 55 = .ok (.invokestatic 209, 3) := dk_184 0 209 (dk_at dksX1_isAsHeard_2 11 rfl rfl)
theorem dX1_isAsHeard_58 : decode cX1_isAsHeard 58 = .ok (.ifCond .eq 7, 3) := dk_153 0 7 (dk_at dksX1_isAsHeard_2 14 rfl rfl)
theorem dX1_isAsHeard_61 : decode cX1_isAsHeard 61 = .ok (.iconst 1, 1) := dk_4 (dk_at dksX1_isAsHeard_2 17 rfl rfl)
theorem dX1_isAsHeard_62 : decode cX1_isAsHeard 62 = .ok (.goto 4, 3) := dk_167 0 4 (dk_at dksX1_isAsHeard_2 18 rfl rfl)
theorem dX1_isAsHeard_65 : decode cX1_isAsHeard 65 = .ok (.iconst 0, 1) := dk_3 (dk_at dksX1_isAsHeard_2 21 rfl rfl)
theorem dX1_isAsHeard_66 : decode cX1_isAsHeard 66 = .ok (.istore 5, 2) := dk_54 5 (dk_at dksX1_isAsHeard_2 22 rfl rfl)
theorem dX1_isAsHeard_68 : decode cX1_isAsHeard 68 = .ok (.aload 4, 2) := dk_25 4 (dk_at dksX1_isAsHeard_3 0 rfl rfl)
theorem dX1_isAsHeard_70 : decode cX1_isAsHeard 70 = .ok (.iconst 3, 1) := dk_6 (dk_at dksX1_isAsHeard_3 2 rfl rfl)
theorem dX1_isAsHeard_71 : decode cX1_isAsHeard 71 = .ok (.iaload, 1) := dk_46 (dk_at dksX1_isAsHeard_3 3 rfl rfl)
theorem dX1_isAsHeard_72 : decode cX1_isAsHeard 72 = .ok (.aload_n 0, 1) := dk_42 (dk_at dksX1_isAsHeard_3 4 rfl rfl)
theorem dX1_isAsHeard_73 : decode cX1_isAsHeard 73 = .ok (.getfield 16, 3) := dk_180 0 16 (dk_at dksX1_isAsHeard_3 5 rfl rfl)
theorem dX1_isAsHeard_76 : decode cX1_isAsHeard 76 = .ok (.getfield 92, 3) := dk_180 0 92 (dk_at dksX1_isAsHeard_3 8 rfl rfl)
theorem dX1_isAsHeard_79 : decode cX1_isAsHeard 79 = .ok (.aload 4, 2) := dk_25 4 (dk_at dksX1_isAsHeard_3 11 rfl rfl)
theorem dX1_isAsHeard_81 : decode cX1_isAsHeard 81 = .ok (.iconst 0, 1) := dk_3 (dk_at dksX1_isAsHeard_3 13 rfl rfl)
theorem dX1_isAsHeard_82 : decode cX1_isAsHeard 82 = .ok (.iaload, 1) := dk_46 (dk_at dksX1_isAsHeard_3 14 rfl rfl)
theorem dX1_isAsHeard_83 : decode cX1_isAsHeard 83 = .ok (.invokeinterface 120 2, 5) := by decide +kernel
theorem dX1_isAsHeard_88 : decode cX1_isAsHeard 88 = .ok (.checkcast 126, 3) := dk_192 0 126 (dk_at dksX1_isAsHeard_3 20 rfl rfl)
theorem dX1_isAsHeard_91 : decode cX1_isAsHeard 91 = .ok (.aload 4, 2) := dk_25 4 (dk_at dksX1_isAsHeard_4 0 rfl rfl)
theorem dX1_isAsHeard_93 : decode cX1_isAsHeard 93 = .ok (.iconst 1, 1) := dk_4 (dk_at dksX1_isAsHeard_4 2 rfl rfl)
theorem dX1_isAsHeard_94 : decode cX1_isAsHeard 94 = .ok (.iaload, 1) := dk_46 (dk_at dksX1_isAsHeard_4 3 rfl rfl)
theorem dX1_isAsHeard_95 : decode cX1_isAsHeard 95 = .ok (.aaload, 1) := dk_50 (dk_at dksX1_isAsHeard_4 4 rfl rfl)
theorem dX1_isAsHeard_96 : decode cX1_isAsHeard 96 = .ok (.getfield 163, 3) := dk_180 0 163 (dk_at dksX1_isAsHeard_4 5 rfl rfl)
theorem dX1_isAsHeard_99 : decode cX1_isAsHeard 99 = .ok (.aload 4, 2) := dk_25 4 (dk_at dksX1_isAsHeard_4 8 rfl rfl)
theorem dX1_isAsHeard_101 : decode cX1_isAsHeard 101 = .ok (.iconst 2, 1) := dk_5 (dk_at dksX1_isAsHeard_4 10 rfl rfl)
theorem dX1_isAsHeard_102 : decode cX1_isAsHeard 102 = .ok (.iaload, 1) := dk_46 (dk_at dksX1_isAsHeard_4 11 rfl rfl)
theorem dX1_isAsHeard_103 : decode cX1_isAsHeard 103 = .ok (.invokeinterface 120 2, 5) := by decide +kernel
theorem dX1_isAsHeard_108 : decode cX1_isAsHeard 108 = .ok (.checkcast 166, 3) := dk_192 0 166 (dk_at dksX1_isAsHeard_4 17 rfl rfl)
theorem dX1_isAsHeard_111 : decode cX1_isAsHeard 111 = .ok (.invokevirtual 168, 3) := dk_182 0 168 (dk_at dksX1_isAsHeard_4 20 rfl rfl)
theorem dX1_isAsHeard_114 : decode cX1_isAsHeard 114 = .ok (.iload 5, 2) := dk_21 5 (dk_at dksX1_isAsHeard_5 0 rfl rfl)
theorem dX1_isAsHeard_116 : decode cX1_isAsHeard 116 = .ok (.ifCond .eq 7, 3) := dk_153 0 7 (dk_at dksX1_isAsHeard_5 2 rfl rfl)
theorem dX1_isAsHeard_119 : decode cX1_isAsHeard 119 = .ok (.iload_n 2, 1) := dk_28 (dk_at dksX1_isAsHeard_5 5 rfl rfl)
theorem dX1_isAsHeard_120 : decode cX1_isAsHeard 120 = .ok (.goto 4, 3) := dk_167 0 4 (dk_at dksX1_isAsHeard_5 6 rfl rfl)
theorem dX1_isAsHeard_123 : decode cX1_isAsHeard 123 = .ok (.iconst 0, 1) := dk_3 (dk_at dksX1_isAsHeard_5 9 rfl rfl)
theorem dX1_isAsHeard_124 : decode cX1_isAsHeard 124 = .ok (.isub, 1) := dk_100 (dk_at dksX1_isAsHeard_5 10 rfl rfl)
theorem dX1_isAsHeard_125 : decode cX1_isAsHeard 125 = .ok (.if_icmp .eq 5, 3) := dk_159 0 5 (dk_at dksX1_isAsHeard_5 11 rfl rfl)
theorem dX1_isAsHeard_128 : decode cX1_isAsHeard 128 = .ok (.iconst 0, 1) := dk_3 (dk_at dksX1_isAsHeard_5 14 rfl rfl)
theorem dX1_isAsHeard_129 : decode cX1_isAsHeard 129 = .ok (.ireturn, 1) := dk_172 (dk_at dksX1_isAsHeard_5 15 rfl rfl)
theorem dX1_isAsHeard_130 : decode cX1_isAsHeard 130 = .ok (.iinc 3 1, 3) := dk_132 3 1 (dk_at dksX1_isAsHeard_5 16 rfl rfl)
theorem dX1_isAsHeard_133 : decode cX1_isAsHeard 133 = .ok (.goto (-131), 3) := dk_167 255 125 (dk_at dksX1_isAsHeard_5 19 rfl rfl)
theorem dX1_isAsHeard_136 : decode cX1_isAsHeard 136 = .ok (.iconst 1, 1) := dk_4 (dk_at dksX1_isAsHeard_5 22 rfl rfl)
theorem dX1_isAsHeard_137 : decode cX1_isAsHeard 137 = .ok (.ireturn, 1) := dk_172 (dk_at dksX1_isAsHeard_5 23 rfl rfl)
abbrev cX1_game : ByteArray := prog_1_method_49_code
def yX1_game : MethodName := ⟨RX1, "game", "(II)I"⟩
def dkwX1_game_5 : List UInt8 := [167, 255, 162, 28, 154, 0, 7, 29, 167, 0, 5, 21, 4, 172]
abbrev dktX1_game_5 : List UInt8 := dkwX1_game_5 ++ []
def dkwX1_game_4 : List UInt8 := [16, 10, 21, 5, 104, 21, 6, 96, 54, 4, 132, 3, 1, 132, 6, 1, 167, 255, 177, 132, 5, 1]
abbrev dktX1_game_4 : List UInt8 := dkwX1_game_4 ++ dktX1_game_5
def dkwX1_game_3 : List UInt8 := [27, 182, 1, 12, 42, 4, 21, 5, 21, 6, 27, 182, 1, 12, 164, 0, 6, 167, 0, 20, 29, 154, 0, 13]
abbrev dktX1_game_3 : List UInt8 := dkwX1_game_3 ++ dktX1_game_4
def dkwX1_game_2 : List UInt8 := [182, 1, 12, 42, 3, 21, 5, 21, 6, 27, 182, 1, 12, 163, 0, 48, 42, 4, 21, 5, 4, 21, 6, 100]
abbrev dktX1_game_2 : List UInt8 := dkwX1_game_2 ++ dktX1_game_3
def dkwX1_game_1 : List UInt8 := [21, 5, 5, 162, 0, 94, 3, 54, 6, 21, 6, 5, 162, 0, 79, 42, 3, 4, 21, 5, 100, 21, 6, 27]
abbrev dktX1_game_1 : List UInt8 := dkwX1_game_1 ++ dktX1_game_2
def dkwX1_game_0 : List UInt8 := [28, 4, 184, 0, 154, 27, 3, 16, 99, 184, 0, 113, 184, 0, 59, 3, 62, 2, 54, 4, 3, 54, 5]
abbrev dktX1_game_0 : List UInt8 := dkwX1_game_0 ++ dktX1_game_1
theorem dksX1_game_0 : cX1_game.data.toList.drop 0 = dktX1_game_0 := by decide +kernel
theorem dksX1_game_1 : cX1_game.data.toList.drop 23 = dktX1_game_1 := dk_seg dksX1_game_0 23 rfl rfl
theorem dksX1_game_2 : cX1_game.data.toList.drop 47 = dktX1_game_2 := dk_seg dksX1_game_1 24 rfl rfl
theorem dksX1_game_3 : cX1_game.data.toList.drop 71 = dktX1_game_3 := dk_seg dksX1_game_2 24 rfl rfl
theorem dksX1_game_4 : cX1_game.data.toList.drop 95 = dktX1_game_4 := dk_seg dksX1_game_3 24 rfl rfl
theorem dksX1_game_5 : cX1_game.data.toList.drop 117 = dktX1_game_5 := dk_seg dksX1_game_4 22 rfl rfl
theorem dX1_game_0 : decode cX1_game 0 = .ok (.iload_n 2, 1) := dk_28 (dk_at dksX1_game_0 0 rfl rfl)
theorem dX1_game_1 : decode cX1_game 1 = .ok (.iconst 1, 1) := dk_4 (dk_at dksX1_game_0 1 rfl rfl)
theorem dX1_game_2 : decode cX1_game 2 = .ok (.invokestatic 154, 3) := dk_184 0 154 (dk_at dksX1_game_0 2 rfl rfl)
theorem dX1_game_5 : decode cX1_game 5 = .ok (.iload_n 1, 1) := dk_27 (dk_at dksX1_game_0 5 rfl rfl)
theorem dX1_game_6 : decode cX1_game 6 = .ok (.iconst 0, 1) := dk_3 (dk_at dksX1_game_0 6 rfl rfl)
theorem dX1_game_7 : decode cX1_game 7 = .ok (.bipush 99, 2) := dk_16 99 (dk_at dksX1_game_0 7 rfl rfl)
theorem dX1_game_9 : decode cX1_game 9 = .ok (.invokestatic 113, 3) := dk_184 0 113 (dk_at dksX1_game_0 9 rfl rfl)
theorem dX1_game_12 : decode cX1_game 12 = .ok (.invokestatic 59, 3) := dk_184 0 59 (dk_at dksX1_game_0 12 rfl rfl)
theorem dX1_game_15 : decode cX1_game 15 = .ok (.iconst 0, 1) := dk_3 (dk_at dksX1_game_0 15 rfl rfl)
theorem dX1_game_16 : decode cX1_game 16 = .ok (.istore_n 3, 1) := dk_62 (dk_at dksX1_game_0 16 rfl rfl)
theorem dX1_game_17 : decode cX1_game 17 = .ok (.iconst (-1), 1) := dk_2 (dk_at dksX1_game_0 17 rfl rfl)
theorem dX1_game_18 : decode cX1_game 18 = .ok (.istore 4, 2) := dk_54 4 (dk_at dksX1_game_0 18 rfl rfl)
theorem dX1_game_20 : decode cX1_game 20 = .ok (.iconst 0, 1) := dk_3 (dk_at dksX1_game_0 20 rfl rfl)
theorem dX1_game_21 : decode cX1_game 21 = .ok (.istore 5, 2) := dk_54 5 (dk_at dksX1_game_0 21 rfl rfl)
theorem dX1_game_23 : decode cX1_game 23 = .ok (.iload 5, 2) := dk_21 5 (dk_at dksX1_game_1 0 rfl rfl)
theorem dX1_game_25 : decode cX1_game 25 = .ok (.iconst 2, 1) := dk_5 (dk_at dksX1_game_1 2 rfl rfl)
theorem dX1_game_26 : decode cX1_game 26 = .ok (.if_icmp .ge 94, 3) := dk_162 0 94 (dk_at dksX1_game_1 3 rfl rfl)
theorem dX1_game_29 : decode cX1_game 29 = .ok (.iconst 0, 1) := dk_3 (dk_at dksX1_game_1 6 rfl rfl)
theorem dX1_game_30 : decode cX1_game 30 = .ok (.istore 6, 2) := dk_54 6 (dk_at dksX1_game_1 7 rfl rfl)
theorem dX1_game_32 : decode cX1_game 32 = .ok (.iload 6, 2) := dk_21 6 (dk_at dksX1_game_1 9 rfl rfl)
theorem dX1_game_34 : decode cX1_game 34 = .ok (.iconst 2, 1) := dk_5 (dk_at dksX1_game_1 11 rfl rfl)
theorem dX1_game_35 : decode cX1_game 35 = .ok (.if_icmp .ge 79, 3) := dk_162 0 79 (dk_at dksX1_game_1 12 rfl rfl)
theorem dX1_game_38 : decode cX1_game 38 = .ok (.aload_n 0, 1) := dk_42 (dk_at dksX1_game_1 15 rfl rfl)
theorem dX1_game_39 : decode cX1_game 39 = .ok (.iconst 0, 1) := dk_3 (dk_at dksX1_game_1 16 rfl rfl)
theorem dX1_game_40 : decode cX1_game 40 = .ok (.iconst 1, 1) := dk_4 (dk_at dksX1_game_1 17 rfl rfl)
theorem dX1_game_41 : decode cX1_game 41 = .ok (.iload 5, 2) := dk_21 5 (dk_at dksX1_game_1 18 rfl rfl)
theorem dX1_game_43 : decode cX1_game 43 = .ok (.isub, 1) := dk_100 (dk_at dksX1_game_1 20 rfl rfl)
theorem dX1_game_44 : decode cX1_game 44 = .ok (.iload 6, 2) := dk_21 6 (dk_at dksX1_game_1 21 rfl rfl)
theorem dX1_game_46 : decode cX1_game 46 = .ok (.iload_n 1, 1) := dk_27 (dk_at dksX1_game_1 23 rfl rfl)
theorem dX1_game_47 : decode cX1_game 47 = .ok (.invokevirtual 268, 3) := dk_182 1 12 (dk_at dksX1_game_2 0 rfl rfl)
theorem dX1_game_50 : decode cX1_game 50 = .ok (.aload_n 0, 1) := dk_42 (dk_at dksX1_game_2 3 rfl rfl)
theorem dX1_game_51 : decode cX1_game 51 = .ok (.iconst 0, 1) := dk_3 (dk_at dksX1_game_2 4 rfl rfl)
theorem dX1_game_52 : decode cX1_game 52 = .ok (.iload 5, 2) := dk_21 5 (dk_at dksX1_game_2 5 rfl rfl)
theorem dX1_game_54 : decode cX1_game 54 = .ok (.iload 6, 2) := dk_21 6 (dk_at dksX1_game_2 7 rfl rfl)
theorem dX1_game_56 : decode cX1_game 56 = .ok (.iload_n 1, 1) := dk_27 (dk_at dksX1_game_2 9 rfl rfl)
theorem dX1_game_57 : decode cX1_game 57 = .ok (.invokevirtual 268, 3) := dk_182 1 12 (dk_at dksX1_game_2 10 rfl rfl)
theorem dX1_game_60 : decode cX1_game 60 = .ok (.if_icmp .gt 48, 3) := dk_163 0 48 (dk_at dksX1_game_2 13 rfl rfl)
theorem dX1_game_63 : decode cX1_game 63 = .ok (.aload_n 0, 1) := dk_42 (dk_at dksX1_game_2 16 rfl rfl)
theorem dX1_game_64 : decode cX1_game 64 = .ok (.iconst 1, 1) := dk_4 (dk_at dksX1_game_2 17 rfl rfl)
theorem dX1_game_65 : decode cX1_game 65 = .ok (.iload 5, 2) := dk_21 5 (dk_at dksX1_game_2 18 rfl rfl)
theorem dX1_game_67 : decode cX1_game 67 = .ok (.iconst 1, 1) := dk_4 (dk_at dksX1_game_2 20 rfl rfl)
theorem dX1_game_68 : decode cX1_game 68 = .ok (.iload 6, 2) := dk_21 6 (dk_at dksX1_game_2 21 rfl rfl)
theorem dX1_game_70 : decode cX1_game 70 = .ok (.isub, 1) := dk_100 (dk_at dksX1_game_2 23 rfl rfl)
theorem dX1_game_71 : decode cX1_game 71 = .ok (.iload_n 1, 1) := dk_27 (dk_at dksX1_game_3 0 rfl rfl)
theorem dX1_game_72 : decode cX1_game 72 = .ok (.invokevirtual 268, 3) := dk_182 1 12 (dk_at dksX1_game_3 1 rfl rfl)
theorem dX1_game_75 : decode cX1_game 75 = .ok (.aload_n 0, 1) := dk_42 (dk_at dksX1_game_3 4 rfl rfl)
theorem dX1_game_76 : decode cX1_game 76 = .ok (.iconst 1, 1) := dk_4 (dk_at dksX1_game_3 5 rfl rfl)
theorem dX1_game_77 : decode cX1_game 77 = .ok (.iload 5, 2) := dk_21 5 (dk_at dksX1_game_3 6 rfl rfl)
theorem dX1_game_79 : decode cX1_game 79 = .ok (.iload 6, 2) := dk_21 6 (dk_at dksX1_game_3 8 rfl rfl)
theorem dX1_game_81 : decode cX1_game 81 = .ok (.iload_n 1, 1) := dk_27 (dk_at dksX1_game_3 10 rfl rfl)
theorem dX1_game_82 : decode cX1_game 82 = .ok (.invokevirtual 268, 3) := dk_182 1 12 (dk_at dksX1_game_3 11 rfl rfl)
theorem dX1_game_85 : decode cX1_game 85 = .ok (.if_icmp .le 6, 3) := dk_164 0 6 (dk_at dksX1_game_3 14 rfl rfl)
theorem dX1_game_88 : decode cX1_game 88 = .ok (.goto 20, 3) := dk_167 0 20 (dk_at dksX1_game_3 17 rfl rfl)
theorem dX1_game_91 : decode cX1_game 91 = .ok (.iload_n 3, 1) := dk_29 (dk_at dksX1_game_3 20 rfl rfl)
theorem dX1_game_92 : decode cX1_game 92 = .ok (.ifCond .ne 13, 3) := dk_154 0 13 (dk_at dksX1_game_3 21 rfl rfl)
theorem dX1_game_95 : decode cX1_game 95 = .ok (.bipush 10, 2) := dk_16 10 (dk_at dksX1_game_4 0 rfl rfl)
theorem dX1_game_97 : decode cX1_game 97 = .ok (.iload 5, 2) := dk_21 5 (dk_at dksX1_game_4 2 rfl rfl)
theorem dX1_game_99 : decode cX1_game 99 = .ok (.imul, 1) := dk_104 (dk_at dksX1_game_4 4 rfl rfl)
theorem dX1_game_100 : decode cX1_game 100 = .ok (.iload 6, 2) := dk_21 6 (dk_at dksX1_game_4 5 rfl rfl)
theorem dX1_game_102 : decode cX1_game 102 = .ok (.iadd, 1) := dk_96 (dk_at dksX1_game_4 7 rfl rfl)
theorem dX1_game_103 : decode cX1_game 103 = .ok (.istore 4, 2) := dk_54 4 (dk_at dksX1_game_4 8 rfl rfl)
theorem dX1_game_105 : decode cX1_game 105 = .ok (.iinc 3 1, 3) := dk_132 3 1 (dk_at dksX1_game_4 10 rfl rfl)
theorem dX1_game_108 : decode cX1_game 108 = .ok (.iinc 6 1, 3) := dk_132 6 1 (dk_at dksX1_game_4 13 rfl rfl)
theorem dX1_game_111 : decode cX1_game 111 = .ok (.goto (-79), 3) := dk_167 255 177 (dk_at dksX1_game_4 16 rfl rfl)
theorem dX1_game_114 : decode cX1_game 114 = .ok (.iinc 5 1, 3) := dk_132 5 1 (dk_at dksX1_game_4 19 rfl rfl)
theorem dX1_game_117 : decode cX1_game 117 = .ok (.goto (-94), 3) := dk_167 255 162 (dk_at dksX1_game_5 0 rfl rfl)
theorem dX1_game_120 : decode cX1_game 120 = .ok (.iload_n 2, 1) := dk_28 (dk_at dksX1_game_5 3 rfl rfl)
theorem dX1_game_121 : decode cX1_game 121 = .ok (.ifCond .ne 7, 3) := dk_154 0 7 (dk_at dksX1_game_5 4 rfl rfl)
theorem dX1_game_124 : decode cX1_game 124 = .ok (.iload_n 3, 1) := dk_29 (dk_at dksX1_game_5 7 rfl rfl)
theorem dX1_game_125 : decode cX1_game 125 = .ok (.goto 5, 3) := dk_167 0 5 (dk_at dksX1_game_5 8 rfl rfl)
theorem dX1_game_128 : decode cX1_game 128 = .ok (.iload 4, 2) := dk_21 4 (dk_at dksX1_game_5 11 rfl rfl)
theorem dX1_game_130 : decode cX1_game 130 = .ok (.ireturn, 1) := dk_172 (dk_at dksX1_game_5 13 rfl rfl)
abbrev cX1_gain : ByteArray := prog_1_method_48_code
def yX1_gain : MethodName := ⟨RX1, "gain", "(IIII)I"⟩
def dkwX1_gain_7 : List UInt8 := [172]
abbrev dktX1_gain_7 : List UInt8 := dkwX1_gain_7 ++ []
def dkwX1_gain_6 : List UInt8 := [180, 0, 16, 21, 5, 182, 0, 111, 184, 0, 220, 160, 0, 11, 21, 9, 21, 4, 96, 167, 0, 5, 21, 9]
abbrev dktX1_gain_6 : List UInt8 := dkwX1_gain_6 ++ dktX1_gain_7
def dkwX1_gain_5 : List UInt8 := [182, 0, 235, 126, 182, 1, 9, 100, 54, 9, 42, 180, 0, 16, 21, 6, 182, 0, 111, 184, 0, 220, 42]
abbrev dktX1_gain_5 : List UInt8 := dkwX1_gain_5 ++ dktX1_gain_6
def dkwX1_gain_4 : List UInt8 := [180, 0, 16, 27, 182, 0, 235, 126, 182, 1, 9, 42, 180, 0, 16, 21, 6, 42, 180, 0, 16, 4, 27, 100]
abbrev dktX1_gain_4 : List UInt8 := dkwX1_gain_4 ++ dktX1_gain_5
def dkwX1_gain_3 : List UInt8 := [2, 159, 0, 14, 21, 6, 4, 21, 8, 120, 2, 130, 126, 54, 6, 42, 180, 0, 16, 21, 6, 42]
abbrev dktX1_gain_3 : List UInt8 := dkwX1_gain_3 ++ dktX1_gain_4
def dkwX1_gain_2 : List UInt8 := [182, 1, 6, 54, 8, 21, 7, 2, 159, 0, 14, 21, 6, 4, 21, 7, 120, 2, 130, 126, 54, 6, 21, 8]
abbrev dktX1_gain_2 : List UInt8 := dkwX1_gain_2 ++ dktX1_gain_3
def dkwX1_gain_1 : List UInt8 := [180, 0, 27, 3, 182, 1, 6, 54, 7, 29, 4, 160, 0, 7, 2, 167, 0, 11, 42, 180, 0, 27, 4]
abbrev dktX1_gain_1 : List UInt8 := dkwX1_gain_1 ++ dktX1_gain_2
def dkwX1_gain_0 : List UInt8 := [42, 180, 0, 27, 182, 0, 104, 54, 5, 21, 5, 54, 6, 28, 4, 160, 0, 7, 2, 167, 0, 11, 42]
abbrev dktX1_gain_0 : List UInt8 := dkwX1_gain_0 ++ dktX1_gain_1
theorem dksX1_gain_0 : cX1_gain.data.toList.drop 0 = dktX1_gain_0 := by decide +kernel
theorem dksX1_gain_1 : cX1_gain.data.toList.drop 23 = dktX1_gain_1 := dk_seg dksX1_gain_0 23 rfl rfl
theorem dksX1_gain_2 : cX1_gain.data.toList.drop 46 = dktX1_gain_2 := dk_seg dksX1_gain_1 23 rfl rfl
theorem dksX1_gain_3 : cX1_gain.data.toList.drop 70 = dktX1_gain_3 := dk_seg dksX1_gain_2 24 rfl rfl
theorem dksX1_gain_4 : cX1_gain.data.toList.drop 92 = dktX1_gain_4 := dk_seg dksX1_gain_3 22 rfl rfl
theorem dksX1_gain_5 : cX1_gain.data.toList.drop 116 = dktX1_gain_5 := dk_seg dksX1_gain_4 24 rfl rfl
theorem dksX1_gain_6 : cX1_gain.data.toList.drop 139 = dktX1_gain_6 := dk_seg dksX1_gain_5 23 rfl rfl
theorem dksX1_gain_7 : cX1_gain.data.toList.drop 163 = dktX1_gain_7 := dk_seg dksX1_gain_6 24 rfl rfl
theorem dX1_gain_0 : decode cX1_gain 0 = .ok (.aload_n 0, 1) := dk_42 (dk_at dksX1_gain_0 0 rfl rfl)
theorem dX1_gain_1 : decode cX1_gain 1 = .ok (.getfield 27, 3) := dk_180 0 27 (dk_at dksX1_gain_0 1 rfl rfl)
theorem dX1_gain_4 : decode cX1_gain 4 = .ok (.invokevirtual 104, 3) := dk_182 0 104 (dk_at dksX1_gain_0 4 rfl rfl)
theorem dX1_gain_7 : decode cX1_gain 7 = .ok (.istore 5, 2) := dk_54 5 (dk_at dksX1_gain_0 7 rfl rfl)
theorem dX1_gain_9 : decode cX1_gain 9 = .ok (.iload 5, 2) := dk_21 5 (dk_at dksX1_gain_0 9 rfl rfl)
theorem dX1_gain_11 : decode cX1_gain 11 = .ok (.istore 6, 2) := dk_54 6 (dk_at dksX1_gain_0 11 rfl rfl)
theorem dX1_gain_13 : decode cX1_gain 13 = .ok (.iload_n 2, 1) := dk_28 (dk_at dksX1_gain_0 13 rfl rfl)
theorem dX1_gain_14 : decode cX1_gain 14 = .ok (.iconst 1, 1) := dk_4 (dk_at dksX1_gain_0 14 rfl rfl)
theorem dX1_gain_15 : decode cX1_gain 15 = .ok (.if_icmp .ne 7, 3) := dk_160 0 7 (dk_at dksX1_gain_0 15 rfl rfl)
theorem dX1_gain_18 : decode cX1_gain 18 = .ok (.iconst (-1), 1) := dk_2 (dk_at dksX1_gain_0 18 rfl rfl)
theorem dX1_gain_19 : decode cX1_gain 19 = .ok (.goto 11, 3) := dk_167 0 11 (dk_at dksX1_gain_0 19 rfl rfl)
theorem dX1_gain_22 : decode cX1_gain 22 = .ok (.aload_n 0, 1) := dk_42 (dk_at dksX1_gain_0 22 rfl rfl)
theorem dX1_gain_23 : decode cX1_gain 23 = .ok (.getfield 27, 3) := dk_180 0 27 (dk_at dksX1_gain_1 0 rfl rfl)
theorem dX1_gain_26 : decode cX1_gain 26 = .ok (.iconst 0, 1) := dk_3 (dk_at dksX1_gain_1 3 rfl rfl)
theorem dX1_gain_27 : decode cX1_gain 27 = .ok (.invokevirtual 262, 3) := dk_182 1 6 (dk_at dksX1_gain_1 4 rfl rfl)
theorem dX1_gain_30 : decode cX1_gain 30 = .ok (.istore 7, 2) := dk_54 7 (dk_at dksX1_gain_1 7 rfl rfl)
theorem dX1_gain_32 : decode cX1_gain 32 = .ok (.iload_n 3, 1) := dk_29 (dk_at dksX1_gain_1 9 rfl rfl)
theorem dX1_gain_33 : decode cX1_gain 33 = .ok (.iconst 1, 1) := dk_4 (dk_at dksX1_gain_1 10 rfl rfl)
theorem dX1_gain_34 : decode cX1_gain 34 = .ok (.if_icmp .ne 7, 3) := dk_160 0 7 (dk_at dksX1_gain_1 11 rfl rfl)
theorem dX1_gain_37 : decode cX1_gain 37 = .ok (.iconst (-1), 1) := dk_2 (dk_at dksX1_gain_1 14 rfl rfl)
theorem dX1_gain_38 : decode cX1_gain 38 = .ok (.goto 11, 3) := dk_167 0 11 (dk_at dksX1_gain_1 15 rfl rfl)
theorem dX1_gain_41 : decode cX1_gain 41 = .ok (.aload_n 0, 1) := dk_42 (dk_at dksX1_gain_1 18 rfl rfl)
theorem dX1_gain_42 : decode cX1_gain 42 = .ok (.getfield 27, 3) := dk_180 0 27 (dk_at dksX1_gain_1 19 rfl rfl)
theorem dX1_gain_45 : decode cX1_gain 45 = .ok (.iconst 1, 1) := dk_4 (dk_at dksX1_gain_1 22 rfl rfl)
theorem dX1_gain_46 : decode cX1_gain 46 = .ok (.invokevirtual 262, 3) := dk_182 1 6 (dk_at dksX1_gain_2 0 rfl rfl)
theorem dX1_gain_49 : decode cX1_gain 49 = .ok (.istore 8, 2) := dk_54 8 (dk_at dksX1_gain_2 3 rfl rfl)
theorem dX1_gain_51 : decode cX1_gain 51 = .ok (.iload 7, 2) := dk_21 7 (dk_at dksX1_gain_2 5 rfl rfl)
theorem dX1_gain_53 : decode cX1_gain 53 = .ok (.iconst (-1), 1) := dk_2 (dk_at dksX1_gain_2 7 rfl rfl)
theorem dX1_gain_54 : decode cX1_gain 54 = .ok (.if_icmp .eq 14, 3) := dk_159 0 14 (dk_at dksX1_gain_2 8 rfl rfl)
theorem dX1_gain_57 : decode cX1_gain 57 = .ok (.iload 6, 2) := dk_21 6 (dk_at dksX1_gain_2 11 rfl rfl)
theorem dX1_gain_59 : decode cX1_gain 59 = .ok (.iconst 1, 1) := dk_4 (dk_at dksX1_gain_2 13 rfl rfl)
theorem dX1_gain_60 : decode cX1_gain 60 = .ok (.iload 7, 2) := dk_21 7 (dk_at dksX1_gain_2 14 rfl rfl)
theorem dX1_gain_62 : decode cX1_gain 62 = .ok (.ishl, 1) := dk_120 (dk_at dksX1_gain_2 16 rfl rfl)
theorem dX1_gain_63 : decode cX1_gain 63 = .ok (.iconst (-1), 1) := dk_2 (dk_at dksX1_gain_2 17 rfl rfl)
theorem dX1_gain_64 : decode cX1_gain 64 = .ok (.ixor, 1) := dk_130 (dk_at dksX1_gain_2 18 rfl rfl)
theorem dX1_gain_65 : decode cX1_gain 65 = .ok (.iand, 1) := dk_126 (dk_at dksX1_gain_2 19 rfl rfl)
theorem dX1_gain_66 : decode cX1_gain 66 = .ok (.istore 6, 2) := dk_54 6 (dk_at dksX1_gain_2 20 rfl rfl)
theorem dX1_gain_68 : decode cX1_gain 68 = .ok (.iload 8, 2) := dk_21 8 (dk_at dksX1_gain_2 22 rfl rfl)
theorem dX1_gain_70 : decode cX1_gain 70 = .ok (.iconst (-1), 1) := dk_2 (dk_at dksX1_gain_3 0 rfl rfl)
theorem dX1_gain_71 : decode cX1_gain 71 = .ok (.if_icmp .eq 14, 3) := dk_159 0 14 (dk_at dksX1_gain_3 1 rfl rfl)
theorem dX1_gain_74 : decode cX1_gain 74 = .ok (.iload 6, 2) := dk_21 6 (dk_at dksX1_gain_3 4 rfl rfl)
theorem dX1_gain_76 : decode cX1_gain 76 = .ok (.iconst 1, 1) := dk_4 (dk_at dksX1_gain_3 6 rfl rfl)
theorem dX1_gain_77 : decode cX1_gain 77 = .ok (.iload 8, 2) := dk_21 8 (dk_at dksX1_gain_3 7 rfl rfl)
theorem dX1_gain_79 : decode cX1_gain 79 = .ok (.ishl, 1) := dk_120 (dk_at dksX1_gain_3 9 rfl rfl)
theorem dX1_gain_80 : decode cX1_gain 80 = .ok (.iconst (-1), 1) := dk_2 (dk_at dksX1_gain_3 10 rfl rfl)
theorem dX1_gain_81 : decode cX1_gain 81 = .ok (.ixor, 1) := dk_130 (dk_at dksX1_gain_3 11 rfl rfl)
theorem dX1_gain_82 : decode cX1_gain 82 = .ok (.iand, 1) := dk_126 (dk_at dksX1_gain_3 12 rfl rfl)
theorem dX1_gain_83 : decode cX1_gain 83 = .ok (.istore 6, 2) := dk_54 6 (dk_at dksX1_gain_3 13 rfl rfl)
theorem dX1_gain_85 : decode cX1_gain 85 = .ok (.aload_n 0, 1) := dk_42 (dk_at dksX1_gain_3 15 rfl rfl)
theorem dX1_gain_86 : decode cX1_gain 86 = .ok (.getfield 16, 3) := dk_180 0 16 (dk_at dksX1_gain_3 16 rfl rfl)
theorem dX1_gain_89 : decode cX1_gain 89 = .ok (.iload 6, 2) := dk_21 6 (dk_at dksX1_gain_3 19 rfl rfl)
theorem dX1_gain_91 : decode cX1_gain 91 = .ok (.aload_n 0, 1) := dk_42 (dk_at dksX1_gain_3 21 rfl rfl)
theorem dX1_gain_92 : decode cX1_gain 92 = .ok (.getfield 16, 3) := dk_180 0 16 (dk_at dksX1_gain_4 0 rfl rfl)
theorem dX1_gain_95 : decode cX1_gain 95 = .ok (.iload_n 1, 1) := dk_27 (dk_at dksX1_gain_4 3 rfl rfl)
theorem dX1_gain_96 : decode cX1_gain 96 = .ok (.invokevirtual 235, 3) := dk_182 0 235 (dk_at dksX1_gain_4 4 rfl rfl)
theorem dX1_gain_99 : decode cX1_gain 99 = .ok (.iand, 1) := dk_126 (dk_at dksX1_gain_4 7 rfl rfl)
theorem dX1_gain_100 : decode cX1_gain 100 = .ok (.invokevirtual 265, 3) := dk_182 1 9 (dk_at dksX1_gain_4 8 rfl rfl)
theorem dX1_gain_103 : decode cX1_gain 103 = .ok (.aload_n 0, 1) := dk_42 (dk_at dksX1_gain_4 11 rfl rfl)
theorem dX1_gain_104 : decode cX1_gain 104 = .ok (.getfield 16, 3) := dk_180 0 16 (dk_at dksX1_gain_4 12 rfl rfl)
theorem dX1_gain_107 : decode cX1_gain 107 = .ok (.iload 6, 2) := dk_21 6 (dk_at dksX1_gain_4 15 rfl rfl)
theorem dX1_gain_109 : decode cX1_gain 109 = .ok (.aload_n 0, 1) := dk_42 (dk_at dksX1_gain_4 17 rfl rfl)
theorem dX1_gain_110 : decode cX1_gain 110 = .ok (.getfield 16, 3) := dk_180 0 16 (dk_at dksX1_gain_4 18 rfl rfl)
theorem dX1_gain_113 : decode cX1_gain 113 = .ok (.iconst 1, 1) := dk_4 (dk_at dksX1_gain_4 21 rfl rfl)
theorem dX1_gain_114 : decode cX1_gain 114 = .ok (.iload_n 1, 1) := dk_27 (dk_at dksX1_gain_4 22 rfl rfl)
theorem dX1_gain_115 : decode cX1_gain 115 = .ok (.isub, 1) := dk_100 (dk_at dksX1_gain_4 23 rfl rfl)
theorem dX1_gain_116 : decode cX1_gain 116 = .ok (.invokevirtual 235, 3) := dk_182 0 235 (dk_at dksX1_gain_5 0 rfl rfl)
theorem dX1_gain_119 : decode cX1_gain 119 = .ok (.iand, 1) := dk_126 (dk_at dksX1_gain_5 3 rfl rfl)
theorem dX1_gain_120 : decode cX1_gain 120 = .ok (.invokevirtual 265, 3) := dk_182 1 9 (dk_at dksX1_gain_5 4 rfl rfl)
theorem dX1_gain_123 : decode cX1_gain 123 = .ok (.isub, 1) := dk_100 (dk_at dksX1_gain_5 7 rfl rfl)
theorem dX1_gain_124 : decode cX1_gain 124 = .ok (.istore 9, 2) := dk_54 9 (dk_at dksX1_gain_5 8 rfl rfl)
theorem dX1_gain_126 : decode cX1_gain 126 = .ok (.aload_n 0, 1) := dk_42 (dk_at dksX1_gain_5 10 rfl rfl)
theorem dX1_gain_127 : decode cX1_gain 127 = .ok (.getfield 16, 3) := dk_180 0 16 (dk_at dksX1_gain_5 11 rfl rfl)
theorem dX1_gain_130 : decode cX1_gain 130 = .ok (.iload 6, 2) := dk_21 6 (dk_at dksX1_gain_5 14 rfl rfl)
theorem dX1_gain_132 : decode cX1_gain 132 = .ok (.invokevirtual 111, 3) := dk_182 0 111 (dk_at dksX1_gain_5 16 rfl rfl)
theorem dX1_gain_135 : decode cX1_gain 135 = .ok (.invokestatic 220, 3) := dk_184 0 220 (dk_at dksX1_gain_5 19 rfl rfl)
theorem dX1_gain_138 : decode cX1_gain 138 = .ok (.aload_n 0, 1) := dk_42 (dk_at dksX1_gain_5 22 rfl rfl)
theorem dX1_gain_139 : decode cX1_gain 139 = .ok (.getfield 16, 3) := dk_180 0 16 (dk_at dksX1_gain_6 0 rfl rfl)
theorem dX1_gain_142 : decode cX1_gain 142 = .ok (.iload 5, 2) := dk_21 5 (dk_at dksX1_gain_6 3 rfl rfl)
theorem dX1_gain_144 : decode cX1_gain 144 = .ok (.invokevirtual 111, 3) := dk_182 0 111 (dk_at dksX1_gain_6 5 rfl rfl)
theorem dX1_gain_147 : decode cX1_gain 147 = .ok (.invokestatic 220, 3) := dk_184 0 220 (dk_at dksX1_gain_6 8 rfl rfl)
theorem dX1_gain_150 : decode cX1_gain 150 = .ok (.if_icmp .ne 11, 3) := dk_160 0 11 (dk_at dksX1_gain_6 11 rfl rfl)
theorem dX1_gain_153 : decode cX1_gain 153 = .ok (.iload 9, 2) := dk_21 9 (dk_at dksX1_gain_6 14 rfl rfl)
theorem dX1_gain_155 : decode cX1_gain 155 = .ok (.iload 4, 2) := dk_21 4 (dk_at dksX1_gain_6 16 rfl rfl)
theorem dX1_gain_157 : decode cX1_gain 157 = .ok (.iadd, 1) := dk_96 (dk_at dksX1_gain_6 18 rfl rfl)
theorem dX1_gain_158 : decode cX1_gain 158 = .ok (.goto 5, 3) := dk_167 0 5 (dk_at dksX1_gain_6 19 rfl rfl)
theorem dX1_gain_161 : decode cX1_gain 161 = .ok (.iload 9, 2) := dk_21 9 (dk_at dksX1_gain_6 22 rfl rfl)
theorem dX1_gain_163 : decode cX1_gain 163 = .ok (.ireturn, 1) := dk_172 (dk_at dksX1_gain_7 0 rfl rfl)
abbrev cX1_wars : ByteArray := prog_1_method_51_code
def yX1_wars : MethodName := ⟨RX1, "wars", "(III)I"⟩
def dkwX1_wars_7 : List UInt8 := [184, 0, 220, 172]
abbrev dktX1_wars_7 : List UInt8 := dkwX1_wars_7 ++ []
def dkwX1_wars_6 : List UInt8 := [180, 0, 27, 180, 0, 101, 100, 167, 0, 18, 42, 180, 0, 16, 25, 4, 182, 0, 104, 182, 0, 111]
abbrev dktX1_wars_6 : List UInt8 := dkwX1_wars_6 ++ dktX1_wars_7
def dkwX1_wars_5 : List UInt8 := [25, 4, 5, 182, 0, 107, 184, 0, 220, 167, 0, 39, 29, 4, 160, 0, 19, 25, 4, 180, 0, 101, 42]
abbrev dktX1_wars_5 : List UInt8 := dkwX1_wars_5 ++ dktX1_wars_6
def dkwX1_wars_4 : List UInt8 := [180, 0, 147, 21, 6, 46, 100, 79, 25, 4, 182, 0, 195, 87, 132, 5, 1, 167, 255, 178, 29, 154, 0, 15]
abbrev dktX1_wars_4 : List UInt8 := dkwX1_wars_4 ++ dktX1_wars_5
def dkwX1_wars_3 : List UInt8 := [54, 6, 25, 4, 180, 0, 147, 21, 6, 46, 5, 159, 0, 21, 25, 4, 180, 0, 147, 21, 6, 4, 25, 4]
abbrev dktX1_wars_3 : List UInt8 := dkwX1_wars_3 ++ dktX1_wars_4
def dkwX1_wars_2 : List UInt8 := [185, 0, 201, 1, 0, 154, 0, 51, 42, 42, 180, 0, 16, 180, 0, 83, 185, 0, 86, 1, 0, 182, 1, 20]
abbrev dktX1_wars_2 : List UInt8 := dkwX1_wars_2 ++ dktX1_wars_3
def dkwX1_wars_1 : List UInt8 := [182, 0, 178, 58, 4, 3, 54, 5, 21, 5, 28, 162, 0, 78, 42, 180, 0, 16, 180, 0, 83]
abbrev dktX1_wars_1 : List UInt8 := dkwX1_wars_1 ++ dktX1_wars_2
def dkwX1_wars_0 : List UInt8 := [29, 5, 184, 0, 154, 28, 3, 16, 60, 184, 0, 113, 184, 0, 59, 42, 27, 181, 1, 16, 42, 180, 0, 27]
abbrev dktX1_wars_0 : List UInt8 := dkwX1_wars_0 ++ dktX1_wars_1
theorem dksX1_wars_0 : cX1_wars.data.toList.drop 0 = dktX1_wars_0 := by decide +kernel
theorem dksX1_wars_1 : cX1_wars.data.toList.drop 24 = dktX1_wars_1 := dk_seg dksX1_wars_0 24 rfl rfl
theorem dksX1_wars_2 : cX1_wars.data.toList.drop 45 = dktX1_wars_2 := dk_seg dksX1_wars_1 21 rfl rfl
theorem dksX1_wars_3 : cX1_wars.data.toList.drop 69 = dktX1_wars_3 := dk_seg dksX1_wars_2 24 rfl rfl
theorem dksX1_wars_4 : cX1_wars.data.toList.drop 93 = dktX1_wars_4 := dk_seg dksX1_wars_3 24 rfl rfl
theorem dksX1_wars_5 : cX1_wars.data.toList.drop 117 = dktX1_wars_5 := dk_seg dksX1_wars_4 24 rfl rfl
theorem dksX1_wars_6 : cX1_wars.data.toList.drop 140 = dktX1_wars_6 := dk_seg dksX1_wars_5 23 rfl rfl
theorem dksX1_wars_7 : cX1_wars.data.toList.drop 162 = dktX1_wars_7 := dk_seg dksX1_wars_6 22 rfl rfl
theorem dX1_wars_0 : decode cX1_wars 0 = .ok (.iload_n 3, 1) := dk_29 (dk_at dksX1_wars_0 0 rfl rfl)
theorem dX1_wars_1 : decode cX1_wars 1 = .ok (.iconst 2, 1) := dk_5 (dk_at dksX1_wars_0 1 rfl rfl)
theorem dX1_wars_2 : decode cX1_wars 2 = .ok (.invokestatic 154, 3) := dk_184 0 154 (dk_at dksX1_wars_0 2 rfl rfl)
theorem dX1_wars_5 : decode cX1_wars 5 = .ok (.iload_n 2, 1) := dk_28 (dk_at dksX1_wars_0 5 rfl rfl)
theorem dX1_wars_6 : decode cX1_wars 6 = .ok (.iconst 0, 1) := dk_3 (dk_at dksX1_wars_0 6 rfl rfl)
theorem dX1_wars_7 : decode cX1_wars 7 = .ok (.bipush 60, 2) := dk_16 60 (dk_at dksX1_wars_0 7 rfl rfl)
theorem dX1_wars_9 : decode cX1_wars 9 = .ok (.invokestatic 113, 3) := dk_184 0 113 (dk_at dksX1_wars_0 9 rfl rfl)
theorem dX1_wars_12 : decode cX1_wars 12 = .ok (.invokestatic 59, 3) := dk_184 0 59 (dk_at dksX1_wars_0 12 rfl rfl)
theorem dX1_wars_15 : decode cX1_wars 15 = .ok (.aload_n 0, 1) := dk_42 (dk_at dksX1_wars_0 15 rfl rfl)
theorem dX1_wars_16 : decode cX1_wars 16 = .ok (.iload_n 1, 1) := dk_27 (dk_at dksX1_wars_0 16 rfl rfl)
theorem dX1_wars_17 : decode cX1_wars 17 = .ok (.putfield 272, 3) := dk_181 1 16 (dk_at dksX1_wars_0 17 rfl rfl)
theorem dX1_wars_20 : decode cX1_wars 20 = .ok (.aload_n 0, 1) := dk_42 (dk_at dksX1_wars_0 20 rfl rfl)
theorem dX1_wars_21 : decode cX1_wars 21 = .ok (.getfield 27, 3) := dk_180 0 27 (dk_at dksX1_wars_0 21 rfl rfl)
theorem dX1_wars_24 : decode cX1_wars 24 = .ok (.invokevirtual 178, 3) := dk_182 0 178 (dk_at dksX1_wars_1 0 rfl rfl)
theorem dX1_wars_27 : decode cX1_wars 27 = .ok (.astore 4, 2) := dk_58 4 (dk_at dksX1_wars_1 3 rfl rfl)
theorem dX1_wars_29 : decode cX1_wars 29 = .ok (.iconst 0, 1) := dk_3 (dk_at dksX1_wars_1 5 rfl rfl)
theorem dX1_wars_30 : decode cX1_wars 30 = .ok (.istore 5, 2) := dk_54 5 (dk_at dksX1_wars_1 6 rfl rfl)
theorem dX1_wars_32 : decode cX1_wars 32 = .ok (.iload 5, 2) := dk_21 5 (dk_at dksX1_wars_1 8 rfl rfl)
theorem dX1_wars_34 : decode cX1_wars 34 = .ok (.iload_n 2, 1) := dk_28 (dk_at dksX1_wars_1 10 rfl rfl)
theorem dX1_wars_35 : decode cX1_wars 35 = .ok (.if_icmp .ge 78, 3) := dk_162 0 78 (dk_at dksX1_wars_1 11 rfl rfl)
theorem dX1_wars_38 : decode cX1_wars 38 = .ok (.aload_n 0, 1) := dk_42 (dk_at dksX1_wars_1 14 rfl rfl)
theorem dX1_wars_39 : decode cX1_wars 39 = .ok (.getfield 16, 3) := dk_180 0 16 (dk_at dksX1_wars_1 15 rfl rfl)
theorem dX1_wars_42 : decode cX1_wars 42 = .ok (.getfield 83, 3) := dk_180 0 83 (dk_at dksX1_wars_1 18 rfl rfl)
theorem dX1_wars_45 : decode cX1_wars 45 = .ok (.invokeinterface 201 1, 5) := by decide +kernel
theorem dX1_wars_50 : decode cX1_wars 50 = .ok (.ifCond .ne 51, 3) := dk_154 0 51 (dk_at dksX1_wars_2 5 rfl rfl)
theorem dX1_wars_53 : decode cX1_wars 53 = .ok (.aload_n 0, 1) := dk_42 (dk_at dksX1_wars_2 8 rfl rfl)
theorem dX1_wars_54 : decode cX1_wars 54 = .ok (.aload_n 0, 1) := dk_42 (dk_at dksX1_wars_2 9 rfl rfl)
theorem dX1_wars_55 : decode cX1_wars 55 = .ok (.getfield 16, 3) := dk_180 0 16 (dk_at dksX1_wars_2 10 rfl rfl)
theorem dX1_wars_58 : decode cX1_wars 58 = .ok (.getfield 83, 3) := dk_180 0 83 (dk_at dksX1_wars_2 13 rfl rfl)
theorem dX1_wars_61 : decode cX1_wars 61 = .ok (.invokeinterface 86 1, 5) := by decide +kernel
theorem dX1_wars_66 : decode cX1_wars 66 = .ok (.invokevirtual 276, 3) := dk_182 1 20 (dk_at dksX1_wars_2 21 rfl rfl)
theorem dX1_wars_69 : decode cX1_wars 69 = .ok (.istore 6, 2) := dk_54 6 (dk_at dksX1_wars_3 0 rfl rfl)
theorem dX1_wars_71 : decode cX1_wars 71 = .ok (.aload 4, 2) := dk_25 4 (dk_at dksX1_wars_3 2 rfl rfl)
theorem dX1_wars_73 : decode cX1_wars 73 = .ok (.getfield 147, 3) := dk_180 0 147 (dk_at dksX1_wars_3 4 rfl rfl)
theorem dX1_wars_76 : decode cX1_wars 76 = .ok (.iload 6, 2) := dk_21 6 (dk_at dksX1_wars_3 7 rfl rfl)
theorem dX1_wars_78 : decode cX1_wars 78 = .ok (.iaload, 1) := dk_46 (dk_at dksX1_wars_3 9 rfl rfl)
theorem dX1_wars_79 : decode cX1_wars 79 = .ok (.iconst 2, 1) := dk_5 (dk_at dksX1_wars_3 10 rfl rfl)
theorem dX1_wars_80 : decode cX1_wars 80 = .ok (.if_icmp .eq 21, 3) := dk_159 0 21 (dk_at dksX1_wars_3 11 rfl rfl)
theorem dX1_wars_83 : decode cX1_wars 83 = .ok (.aload 4, 2) := dk_25 4 (dk_at dksX1_wars_3 14 rfl rfl)
theorem dX1_wars_85 : decode cX1_wars 85 = .ok (.getfield 147, 3) := dk_180 0 147 (dk_at dksX1_wars_3 16 rfl rfl)
theorem dX1_wars_88 : decode cX1_wars 88 = .ok (.iload 6, 2) := dk_21 6 (dk_at dksX1_wars_3 19 rfl rfl)
theorem dX1_wars_90 : decode cX1_wars 90 = .ok (.iconst 1, 1) := dk_4 (dk_at dksX1_wars_3 21 rfl rfl)
theorem dX1_wars_91 : decode cX1_wars 91 = .ok (.aload 4, 2) := dk_25 4 (dk_at dksX1_wars_3 22 rfl rfl)
theorem dX1_wars_93 : decode cX1_wars 93 = .ok (.getfield 147, 3) := dk_180 0 147 (dk_at dksX1_wars_4 0 rfl rfl)
theorem dX1_wars_96 : decode cX1_wars 96 = .ok (.iload 6, 2) := dk_21 6 (dk_at dksX1_wars_4 3 rfl rfl)
theorem dX1_wars_98 : decode cX1_wars 98 = .ok (.iaload, 1) := dk_46 (dk_at dksX1_wars_4 5 rfl rfl)
theorem dX1_wars_99 : decode cX1_wars 99 = .ok (.isub, 1) := dk_100 (dk_at dksX1_wars_4 6 rfl rfl)
theorem dX1_wars_100 : decode cX1_wars 100 = .ok (.iastore, 1) := dk_79 (dk_at dksX1_wars_4 7 rfl rfl)
theorem dX1_wars_101 : decode cX1_wars 101 = .ok (.aload 4, 2) := dk_25 4 (dk_at dksX1_wars_4 8 rfl rfl)
theorem dX1_wars_103 : decode cX1_wars 103 = .ok (.invokevirtual 195, 3) := dk_182 0 195 (dk_at dksX1_wars_4 10 rfl rfl)
theorem dX1_wars_106 : decode cX1_wars 106 = .ok (.pop, 1) := dk_87 (dk_at dksX1_wars_4 13 rfl rfl)
theorem dX1_wars_107 : decode cX1_wars 107 = .ok (.iinc 5 1, 3) := dk_132 5 1 (dk_at dksX1_wars_4 14 rfl rfl)
theorem dX1_wars_110 : decode cX1_wars 110 = .ok (.goto (-78), 3) := dk_167 255 178 (dk_at dksX1_wars_4 17 rfl rfl)
theorem dX1_wars_113 : decode cX1_wars 113 = .ok (.iload_n 3, 1) := dk_29 (dk_at dksX1_wars_4 20 rfl rfl)
theorem dX1_wars_114 : decode cX1_wars 114 = .ok (.ifCond .ne 15, 3) := dk_154 0 15 (dk_at dksX1_wars_4 21 rfl rfl)
theorem dX1_wars_117 : decode cX1_wars 117 = .ok (.aload 4, 2) := dk_25 4 (dk_at dksX1_wars_5 0 rfl rfl)
theorem dX1_wars_119 : decode cX1_wars 119 = .ok (.iconst 2, 1) := dk_5 (dk_at dksX1_wars_5 2 rfl rfl)
theorem dX1_wars_120 : decode cX1_wars 120 = .ok (.invokevirtual 107, 3) := dk_182 0 107 (dk_at dksX1_wars_5 3 rfl rfl)
theorem dX1_wars_123 : decode cX1_wars 123 = .ok (.invokestatic 220, 3) := dk_184 0 220 (dk_at dksX1_wars_5 6 rfl rfl)
theorem dX1_wars_126 : decode cX1_wars 126 = .ok (.goto 39, 3) := dk_167 0 39 (dk_at dksX1_wars_5 9 rfl rfl)
theorem dX1_wars_129 : decode cX1_wars 129 = .ok (.iload_n 3, 1) := dk_29 (dk_at dksX1_wars_5 12 rfl rfl)
theorem dX1_wars_130 : decode cX1_wars 130 = .ok (.iconst 1, 1) := dk_4 (dk_at dksX1_wars_5 13 rfl rfl)
theorem dX1_wars_131 : decode cX1_wars 131 = .ok (.if_icmp .ne 19, 3) := dk_160 0 19 (dk_at dksX1_wars_5 14 rfl rfl)
theorem dX1_wars_134 : decode cX1_wars 134 = .ok (.aload 4, 2) := dk_25 4 (dk_at dksX1_wars_5 17 rfl rfl)
theorem dX1_wars_136 : decode cX1_wars 136 = .ok (.getfield 101, 3) := dk_180 0 101 (dk_at dksX1_wars_5 19 rfl rfl)
theorem dX1_wars_139 : decode cX1_wars 139 = .ok (.aload_n 0, 1) := dk_42 (dk_at dksX1_wars_5 22 rfl rfl)
theorem dX1_wars_140 : decode cX1_wars 140 = .ok (.getfield 27, 3) := dk_180 0 27 (dk_at dksX1_wars_6 0 rfl rfl)
theorem dX1_wars_143 : decode cX1_wars 143 = .ok (.getfield 101, 3) := dk_180 0 101 (dk_at dksX1_wars_6 3 rfl rfl)
theorem dX1_wars_146 : decode cX1_wars 146 = .ok (.isub, 1) := dk_100 (dk_at dksX1_wars_6 6 rfl rfl)
theorem dX1_wars_147 : decode cX1_wars 147 = .ok (.goto 18, 3) := dk_167 0 18 (dk_at dksX1_wars_6 7 rfl rfl)
theorem dX1_wars_150 : decode cX1_wars 150 = .ok (.aload_n 0, 1) := dk_42 (dk_at dksX1_wars_6 10 rfl rfl)
theorem dX1_wars_151 : decode cX1_wars 151 = .ok (.getfield 16, 3) := dk_180 0 16 (dk_at dksX1_wars_6 11 rfl rfl)
theorem dX1_wars_154 : decode cX1_wars 154 = .ok (.aload 4, 2) := dk_25 4 (dk_at dksX1_wars_6 14 rfl rfl)
theorem dX1_wars_156 : decode cX1_wars 156 = .ok (.invokevirtual 104, 3) := dk_182 0 104 (dk_at dksX1_wars_6 16 rfl rfl)
theorem dX1_wars_159 : decode cX1_wars 159 = .ok (.invokevirtual 111, 3) := dk_182 0 111 (dk_at dksX1_wars_6 19 rfl rfl)
theorem dX1_wars_162 : decode cX1_wars 162 = .ok (.invokestatic 220, 3) := dk_184 0 220 (dk_at dksX1_wars_7 0 rfl rfl)
theorem dX1_wars_165 : decode cX1_wars 165 = .ok (.ireturn, 1) := dk_172 (dk_at dksX1_wars_7 3 rfl rfl)
abbrev cX1_draw : ByteArray := prog_1_method_50_code
def yX1_draw : MethodName := ⟨RX1, "draw", "(I)I"⟩
def dkwX1_draw_1 : List UInt8 := [17, 127, 255, 126, 27, 112, 172]
abbrev dktX1_draw_1 : List UInt8 := dkwX1_draw_1 ++ []
def dkwX1_draw_0 : List UInt8 := [42, 42, 180, 1, 16, 19, 1, 19, 104, 17, 48, 57, 96, 181, 1, 16, 42, 180, 1, 16, 16, 16, 122]
abbrev dktX1_draw_0 : List UInt8 := dkwX1_draw_0 ++ dktX1_draw_1
theorem dksX1_draw_0 : cX1_draw.data.toList.drop 0 = dktX1_draw_0 := by decide +kernel
theorem dksX1_draw_1 : cX1_draw.data.toList.drop 23 = dktX1_draw_1 := dk_seg dksX1_draw_0 23 rfl rfl
theorem dX1_draw_0 : decode cX1_draw 0 = .ok (.aload_n 0, 1) := dk_42 (dk_at dksX1_draw_0 0 rfl rfl)
theorem dX1_draw_1 : decode cX1_draw 1 = .ok (.aload_n 0, 1) := dk_42 (dk_at dksX1_draw_0 1 rfl rfl)
theorem dX1_draw_2 : decode cX1_draw 2 = .ok (.getfield 272, 3) := dk_180 1 16 (dk_at dksX1_draw_0 2 rfl rfl)
theorem dX1_draw_5 : decode cX1_draw 5 = .ok (.ldc_w 275, 3) := dk_19 1 19 (dk_at dksX1_draw_0 5 rfl rfl)
theorem dX1_draw_8 : decode cX1_draw 8 = .ok (.imul, 1) := dk_104 (dk_at dksX1_draw_0 8 rfl rfl)
theorem dX1_draw_9 : decode cX1_draw 9 = .ok (.sipush 12345, 3) := dk_17 48 57 (dk_at dksX1_draw_0 9 rfl rfl)
theorem dX1_draw_12 : decode cX1_draw 12 = .ok (.iadd, 1) := dk_96 (dk_at dksX1_draw_0 12 rfl rfl)
theorem dX1_draw_13 : decode cX1_draw 13 = .ok (.putfield 272, 3) := dk_181 1 16 (dk_at dksX1_draw_0 13 rfl rfl)
theorem dX1_draw_16 : decode cX1_draw 16 = .ok (.aload_n 0, 1) := dk_42 (dk_at dksX1_draw_0 16 rfl rfl)
theorem dX1_draw_17 : decode cX1_draw 17 = .ok (.getfield 272, 3) := dk_180 1 16 (dk_at dksX1_draw_0 17 rfl rfl)
theorem dX1_draw_20 : decode cX1_draw 20 = .ok (.bipush 16, 2) := dk_16 16 (dk_at dksX1_draw_0 20 rfl rfl)
theorem dX1_draw_22 : decode cX1_draw 22 = .ok (.ishr, 1) := dk_122 (dk_at dksX1_draw_0 22 rfl rfl)
theorem dX1_draw_23 : decode cX1_draw 23 = .ok (.sipush 32767, 3) := dk_17 127 255 (dk_at dksX1_draw_1 0 rfl rfl)
theorem dX1_draw_26 : decode cX1_draw 26 = .ok (.iand, 1) := dk_126 (dk_at dksX1_draw_1 3 rfl rfl)
theorem dX1_draw_27 : decode cX1_draw 27 = .ok (.iload_n 1, 1) := dk_27 (dk_at dksX1_draw_1 4 rfl rfl)
theorem dX1_draw_28 : decode cX1_draw 28 = .ok (.irem, 1) := dk_112 (dk_at dksX1_draw_1 5 rfl rfl)
theorem dX1_draw_29 : decode cX1_draw 29 = .ok (.ireturn, 1) := dk_172 (dk_at dksX1_draw_1 6 rfl rfl)
abbrev cX1_cast : ByteArray := prog_1_method_53_code
def yX1_cast : MethodName := ⟨RX1, "cast", "(II)I"⟩
def dkwX1_cast_4 : List UInt8 := [180, 0, 16, 21, 4, 182, 1, 9, 172]
abbrev dktX1_cast_4 : List UInt8 := dkwX1_cast_4 ++ []
def dkwX1_cast_3 : List UInt8 := [182, 1, 23, 128, 54, 4, 132, 5, 1, 167, 255, 213, 28, 154, 0, 8, 21, 4, 167, 0, 12, 42]
abbrev dktX1_cast_3 : List UInt8 := dkwX1_cast_3 ++ dktX1_cast_4
def dkwX1_cast_2 : List UInt8 := [198, 0, 30, 21, 4, 42, 45, 21, 5, 50, 42, 27, 21, 5, 42, 180, 0, 27, 182, 0, 104, 182, 0, 175]
abbrev dktX1_cast_2 : List UInt8 := dkwX1_cast_2 ++ dktX1_cast_3
def dkwX1_cast_1 : List UInt8 := [182, 0, 232, 154, 0, 5, 2, 172, 3, 54, 4, 3, 54, 5, 21, 5, 7, 162, 0, 43, 45, 21, 5, 50]
abbrev dktX1_cast_1 : List UInt8 := dkwX1_cast_1 ++ dktX1_cast_2
def dkwX1_cast_0 : List UInt8 := [42, 27, 182, 0, 150, 78, 28, 4, 184, 0, 154, 42, 180, 0, 16, 27, 42, 180, 0, 27, 182, 0, 104]
abbrev dktX1_cast_0 : List UInt8 := dkwX1_cast_0 ++ dktX1_cast_1
theorem dksX1_cast_0 : cX1_cast.data.toList.drop 0 = dktX1_cast_0 := by decide +kernel
theorem dksX1_cast_1 : cX1_cast.data.toList.drop 23 = dktX1_cast_1 := dk_seg dksX1_cast_0 23 rfl rfl
theorem dksX1_cast_2 : cX1_cast.data.toList.drop 47 = dktX1_cast_2 := dk_seg dksX1_cast_1 24 rfl rfl
theorem dksX1_cast_3 : cX1_cast.data.toList.drop 71 = dktX1_cast_3 := dk_seg dksX1_cast_2 24 rfl rfl
theorem dksX1_cast_4 : cX1_cast.data.toList.drop 93 = dktX1_cast_4 := dk_seg dksX1_cast_3 22 rfl rfl
theorem dX1_cast_0 : decode cX1_cast 0 = .ok (.aload_n 0, 1) := dk_42 (dk_at dksX1_cast_0 0 rfl rfl)
theorem dX1_cast_1 : decode cX1_cast 1 = .ok (.iload_n 1, 1) := dk_27 (dk_at dksX1_cast_0 1 rfl rfl)
theorem dX1_cast_2 : decode cX1_cast 2 = .ok (.invokevirtual 150, 3) := dk_182 0 150 (dk_at dksX1_cast_0 2 rfl rfl)
theorem dX1_cast_5 : decode cX1_cast 5 = .ok (.astore_n 3, 1) := dk_78 (dk_at dksX1_cast_0 5 rfl rfl)
theorem dX1_cast_6 : decode cX1_cast 6 = .ok (.iload_n 2, 1) := dk_28 (dk_at dksX1_cast_0 6 rfl rfl)
theorem dX1_cast_7 : decode cX1_cast 7 = .ok (.iconst 1, 1) := dk_4 (dk_at dksX1_cast_0 7 rfl rfl)
theorem dX1_cast_8 : decode cX1_cast 8 = .ok (.invokestatic 154, 3) := dk_184 0 154 (dk_at dksX1_cast_0 8 rfl rfl)
theorem dX1_cast_11 : decode cX1_cast 11 = .ok (.aload_n 0, 1) := dk_42 (dk_at dksX1_cast_0 11 rfl rfl)
theorem dX1_cast_12 : decode cX1_cast 12 = .ok (.getfield 16, 3) := dk_180 0 16 (dk_at dksX1_cast_0 12 rfl rfl)
theorem dX1_cast_15 : decode cX1_cast 15 = .ok (.iload_n 1, 1) := dk_27 (dk_at dksX1_cast_0 15 rfl rfl)
theorem dX1_cast_16 : decode cX1_cast 16 = .ok (.aload_n 0, 1) := dk_42 (dk_at dksX1_cast_0 16 rfl rfl)
theorem dX1_cast_17 : decode cX1_cast 17 = .ok (.getfield 27, 3) := dk_180 0 27 (dk_at dksX1_cast_0 17 rfl rfl)
theorem dX1_cast_20 : decode cX1_cast 20 = .ok (.invokevirtual 104, 3) := dk_182 0 104 (dk_at dksX1_cast_0 20 rfl rfl)
theorem dX1_cast_23 : decode cX1_cast 23 = .ok (.invokevirtual 232, 3) := dk_182 0 232 (dk_at dksX1_cast_1 0 rfl rfl)
theorem dX1_cast_26 : decode cX1_cast 26 = .ok (.ifCond .ne 5, 3) := dk_154 0 5 (dk_at dksX1_cast_1 3 rfl rfl)
theorem dX1_cast_29 : decode cX1_cast 29 = .ok (.iconst (-1), 1) := dk_2 (dk_at dksX1_cast_1 6 rfl rfl)
theorem dX1_cast_30 : decode cX1_cast 30 = .ok (.ireturn, 1) := dk_172 (dk_at dksX1_cast_1 7 rfl rfl)
theorem dX1_cast_31 : decode cX1_cast 31 = .ok (.iconst 0, 1) := dk_3 (dk_at dksX1_cast_1 8 rfl rfl)
theorem dX1_cast_32 : decode cX1_cast 32 = .ok (.istore 4, 2) := dk_54 4 (dk_at dksX1_cast_1 9 rfl rfl)
theorem dX1_cast_34 : decode cX1_cast 34 = .ok (.iconst 0, 1) := dk_3 (dk_at dksX1_cast_1 11 rfl rfl)
theorem dX1_cast_35 : decode cX1_cast 35 = .ok (.istore 5, 2) := dk_54 5 (dk_at dksX1_cast_1 12 rfl rfl)
theorem dX1_cast_37 : decode cX1_cast 37 = .ok (.iload 5, 2) := dk_21 5 (dk_at dksX1_cast_1 14 rfl rfl)
theorem dX1_cast_39 : decode cX1_cast 39 = .ok (.iconst 4, 1) := dk_7 (dk_at dksX1_cast_1 16 rfl rfl)
theorem dX1_cast_40 : decode cX1_cast 40 = .ok (.if_icmp .ge 43, 3) := dk_162 0 43 (dk_at dksX1_cast_1 17 rfl rfl)
theorem dX1_cast_43 : decode cX1_cast 43 = .ok (.aload_n 3, 1) := dk_45 (dk_at dksX1_cast_1 20 rfl rfl)
theorem dX1_cast_44 : decode cX1_cast 44 = .ok (.iload 5, 2) := dk_21 5 (dk_at dksX1_cast_1 21 rfl rfl)
theorem dX1_cast_46 : decode cX1_cast 46 = .ok (.aaload, 1) := dk_50 (dk_at dksX1_cast_1 23 rfl rfl)
theorem dX1_cast_47 : decode cX1_cast 47 = .ok (.ifnull 30, 3) := dk_198 0 30 (dk_at dksX1_cast_2 0 rfl rfl)
theorem dX1_cast_50 : decode cX1_cast 50 = .ok (.iload 4, 2) := dk_21 4 (dk_at dksX1_cast_2 3 rfl rfl)
theorem dX1_cast_52 : decode cX1_cast 52 = .ok (.aload_n 0, 1) := dk_42 (dk_at dksX1_cast_2 5 rfl rfl)
theorem dX1_cast_53 : decode cX1_cast 53 = .ok (.aload_n 3, 1) := dk_45 (dk_at dksX1_cast_2 6 rfl rfl)
theorem dX1_cast_54 : decode cX1_cast 54 = .ok (.iload 5, 2) := dk_21 5 (dk_at dksX1_cast_2 7 rfl rfl)
theorem dX1_cast_56 : decode cX1_cast 56 = .ok (.aaload, 1) := dk_50 (dk_at dksX1_cast_2 9 rfl rfl)
theorem dX1_cast_57 : decode cX1_cast 57 = .ok (.aload_n 0, 1) := dk_42 (dk_at dksX1_cast_2 10 rfl rfl)
theorem dX1_cast_58 : decode cX1_cast 58 = .ok (.iload_n 1, 1) := dk_27 (dk_at dksX1_cast_2 11 rfl rfl)
theorem dX1_cast_59 : decode cX1_cast 59 = .ok (.iload 5, 2) := dk_21 5 (dk_at dksX1_cast_2 12 rfl rfl)
theorem dX1_cast_61 : decode cX1_cast 61 = .ok (.aload_n 0, 1) := dk_42 (dk_at dksX1_cast_2 14 rfl rfl)
theorem dX1_cast_62 : decode cX1_cast 62 = .ok (.getfield 27, 3) := dk_180 0 27 (dk_at dksX1_cast_2 15 rfl rfl)
theorem dX1_cast_65 : decode cX1_cast 65 = .ok (.invokevirtual 104, 3) := dk_182 0 104 (dk_at dksX1_cast_2 18 rfl rfl)
theorem dX1_cast_68 : decode cX1_cast 68 = .ok (.invokevirtual 175, 3) := dk_182 0 175 (dk_at dksX1_cast_2 21 rfl rfl)
theorem dX1_cast_71 : decode cX1_cast 71 = .ok (.invokevirtual 279, 3) := dk_182 1 23 (dk_at dksX1_cast_3 0 rfl rfl)
theorem dX1_cast_74 : decode cX1_cast 74 = .ok (.ior, 1) := dk_128 (dk_at dksX1_cast_3 3 rfl rfl)
theorem dX1_cast_75 : decode cX1_cast 75 = .ok (.istore 4, 2) := dk_54 4 (dk_at dksX1_cast_3 4 rfl rfl)
theorem dX1_cast_77 : decode cX1_cast 77 = .ok (.iinc 5 1, 3) := dk_132 5 1 (dk_at dksX1_cast_3 6 rfl rfl)
theorem dX1_cast_80 : decode cX1_cast 80 = .ok (.goto (-43), 3) := dk_167 255 213 (dk_at dksX1_cast_3 9 rfl rfl)
theorem dX1_cast_83 : decode cX1_cast 83 = .ok (.iload_n 2, 1) := dk_28 (dk_at dksX1_cast_3 12 rfl rfl)
theorem dX1_cast_84 : decode cX1_cast 84 = .ok (.ifCond .ne 8, 3) := dk_154 0 8 (dk_at dksX1_cast_3 13 rfl rfl)
theorem dX1_cast_87 : decode cX1_cast 87 = .ok (.iload 4, 2) := dk_21 4 (dk_at dksX1_cast_3 16 rfl rfl)
theorem dX1_cast_89 : decode cX1_cast 89 = .ok (.goto 12, 3) := dk_167 0 12 (dk_at dksX1_cast_3 18 rfl rfl)
theorem dX1_cast_92 : decode cX1_cast 92 = .ok (.aload_n 0, 1) := dk_42 (dk_at dksX1_cast_3 21 rfl rfl)
theorem dX1_cast_93 : decode cX1_cast 93 = .ok (.getfield 16, 3) := dk_180 0 16 (dk_at dksX1_cast_4 0 rfl rfl)
theorem dX1_cast_96 : decode cX1_cast 96 = .ok (.iload 4, 2) := dk_21 4 (dk_at dksX1_cast_4 3 rfl rfl)
theorem dX1_cast_98 : decode cX1_cast 98 = .ok (.invokevirtual 265, 3) := dk_182 1 9 (dk_at dksX1_cast_4 5 rfl rfl)
theorem dX1_cast_101 : decode cX1_cast 101 = .ok (.ireturn, 1) := dk_172 (dk_at dksX1_cast_4 8 rfl rfl)
abbrev cX1_castOf : ByteArray := prog_1_method_52_code
def yX1_castOf : MethodName := ⟨RX1, "castOf", "(LValleyMass$Row;I)I"⟩
def dkwX1_castOf_5 : List UInt8 := [132, 4, 1, 167, 255, 142, 29, 172]
abbrev dktX1_castOf_5 : List UInt8 := dkwX1_castOf_5 ++ []
def dkwX1_castOf_4 : List UInt8 := [180, 0, 144, 164, 0, 7, 21, 6, 54, 5, 132, 6, 1, 167, 255, 170, 29, 4, 21, 5, 120, 128, 62]
abbrev dktX1_castOf_4 : List UInt8 := dkwX1_castOf_4 ++ dktX1_castOf_5
def dkwX1_castOf_3 : List UInt8 := [192, 0, 124, 180, 0, 144, 42, 180, 0, 16, 180, 0, 83, 21, 5, 185, 0, 120, 2, 0, 192, 0, 124]
abbrev dktX1_castOf_3 : List UInt8 := dkwX1_castOf_3 ++ dktX1_castOf_4
def dkwX1_castOf_2 : List UInt8 := [153, 0, 56, 21, 5, 2, 159, 0, 46, 42, 180, 0, 16, 180, 0, 83, 21, 6, 185, 0, 120, 2, 0]
abbrev dktX1_castOf_2 : List UInt8 := dkwX1_castOf_2 ++ dktX1_castOf_3
def dkwX1_castOf_1 : List UInt8 := [180, 0, 16, 180, 0, 83, 185, 0, 86, 1, 0, 162, 0, 75, 28, 29, 2, 130, 126, 21, 6, 184, 0, 209]
abbrev dktX1_castOf_1 : List UInt8 := dkwX1_castOf_1 ++ dktX1_castOf_2
def dkwX1_castOf_0 : List UInt8 := [3, 62, 3, 54, 4, 21, 4, 43, 180, 0, 158, 162, 0, 111, 2, 54, 5, 3, 54, 6, 21, 6, 42]
abbrev dktX1_castOf_0 : List UInt8 := dkwX1_castOf_0 ++ dktX1_castOf_1
theorem dksX1_castOf_0 : cX1_castOf.data.toList.drop 0 = dktX1_castOf_0 := by decide +kernel
theorem dksX1_castOf_1 : cX1_castOf.data.toList.drop 23 = dktX1_castOf_1 := dk_seg dksX1_castOf_0 23 rfl rfl
theorem dksX1_castOf_2 : cX1_castOf.data.toList.drop 47 = dktX1_castOf_2 := dk_seg dksX1_castOf_1 24 rfl rfl
theorem dksX1_castOf_3 : cX1_castOf.data.toList.drop 70 = dktX1_castOf_3 := dk_seg dksX1_castOf_2 23 rfl rfl
theorem dksX1_castOf_4 : cX1_castOf.data.toList.drop 93 = dktX1_castOf_4 := dk_seg dksX1_castOf_3 23 rfl rfl
theorem dksX1_castOf_5 : cX1_castOf.data.toList.drop 116 = dktX1_castOf_5 := dk_seg dksX1_castOf_4 23 rfl rfl
theorem dX1_castOf_0 : decode cX1_castOf 0 = .ok (.iconst 0, 1) := dk_3 (dk_at dksX1_castOf_0 0 rfl rfl)
theorem dX1_castOf_1 : decode cX1_castOf 1 = .ok (.istore_n 3, 1) := dk_62 (dk_at dksX1_castOf_0 1 rfl rfl)
theorem dX1_castOf_2 : decode cX1_castOf 2 = .ok (.iconst 0, 1) := dk_3 (dk_at dksX1_castOf_0 2 rfl rfl)
theorem dX1_castOf_3 : decode cX1_castOf 3 = .ok (.istore 4, 2) := dk_54 4 (dk_at dksX1_castOf_0 3 rfl rfl)
theorem dX1_castOf_5 : decode cX1_castOf 5 = .ok (.iload 4, 2) := dk_21 4 (dk_at dksX1_castOf_0 5 rfl rfl)
theorem dX1_castOf_7 : decode cX1_castOf 7 = .ok (.aload_n 1, 1) := dk_43 (dk_at dksX1_castOf_0 7 rfl rfl)
theorem dX1_castOf_8 : decode cX1_castOf 8 = .ok (.getfield 158, 3) := dk_180 0 158 (dk_at dksX1_castOf_0 8 rfl rfl)
theorem dX1_castOf_11 : decode cX1_castOf 11 = .ok (.if_icmp .ge 111, 3) := dk_162 0 111 (dk_at dksX1_castOf_0 11 rfl rfl)
theorem dX1_castOf_14 : decode cX1_castOf 14 = .ok (.iconst (-1), 1) := dk_2 (dk_at dksX1_castOf_0 14 rfl rfl)
theorem dX1_castOf_15 : decode cX1_castOf 15 = .ok (.istore 5, 2) := dk_54 5 (dk_at dksX1_castOf_0 15 rfl rfl)
theorem dX1_castOf_17 : decode cX1_castOf 17 = .ok (.iconst 0, 1) := dk_3 (dk_at dksX1_castOf_0 17 rfl rfl)
theorem dX1_castOf_18 : decode cX1_castOf 18 = .ok (.istore 6, 2) := dk_54 6 (dk_at dksX1_castOf_0 18 rfl rfl)
theorem dX1_castOf_20 : decode cX1_castOf 20 = .ok (.iload 6, 2) := dk_21 6 (dk_at dksX1_castOf_0 20 rfl rfl)
theorem dX1_castOf_22 : decode cX1_castOf 22 = .ok (.aload_n 0, 1) := dk_42 (dk_at dksX1_castOf_0 22 rfl rfl)
theorem dX1_castOf_23 : decode cX1_castOf 23 = .ok (.getfield 16, 3) := dk_180 0 16 (dk_at dksX1_castOf_1 0 rfl rfl)
theorem dX1_castOf_26 : decode cX1_castOf 26 = .ok (.getfield 83, 3) := dk_180 0 83 (dk_at dksX1_castOf_1 3 rfl rfl)
theorem dX1_castOf_29 : decode cX1_castOf 29 = .ok (.invokeinterface 86 1, 5) := by decide +kernel
theorem dX1_castOf_34 : decode cX1_castOf 34 = .ok (.if_icmp .ge 75, 3) := dk_162 0 75 (dk_at dksX1_castOf_1 11 rfl rfl)
theorem dX1_castOf_37 : decode cX1_castOf 37 = .ok (.iload_n 2, 1) := dk_28 (dk_at dksX1_castOf_1 14 rfl rfl)
theorem dX1_castOf_38 : decode cX1_castOf 38 = .ok (.iload_n 3, 1) := dk_29 (dk_at dksX1_castOf_1 15 rfl rfl)
theorem dX1_castOf_39 : decode cX1_castOf 39 = .ok (.iconst (-1), 1) := dk_2 (dk_at dksX1_castOf_1 16 rfl rfl)
theorem dX1_castOf_40 : decode cX1_castOf 40 = .ok (.ixor, 1) := dk_130 (dk_at dksX1_castOf_1 17 rfl rfl)
theorem dX1_castOf_41 : decode cX1_castOf 41 = .ok (.iand, 1) := dk_126 (dk_at dksX1_castOf_1 18 rfl rfl)
theorem dX1_castOf_42 : decode cX1_castOf 42 = .ok (.iload 6, 2) := dk_21 6 (dk_at dksX1_castOf_1 19 rfl rfl)
theorem dX1_castOf_44 : decode cX1_castOf 44 = .ok (.invokestatic 209, 3) := dk_184 0 209 (dk_at dksX1_castOf_1 21 rfl rfl)
theorem dX1_castOf_47 : decode cX1_castOf 47 = .ok (.ifCond .eq 56, 3) := dk_153 0 56 (dk_at dksX1_castOf_2 0 rfl rfl)
theorem dX1_castOf_50 : decode cX1_castOf 50 = .ok (.iload 5, 2) := dk_21 5 (dk_at dksX1_castOf_2 3 rfl rfl)
theorem dX1_castOf_52 : decode cX1_castOf 52 = .ok (.iconst (-1), 1) := dk_2 (dk_at dksX1_castOf_2 5 rfl rfl)
theorem dX1_castOf_53 : decode cX1_castOf 53 = .ok (.if_icmp .eq 46, 3) := dk_159 0 46 (dk_at dksX1_castOf_2 6 rfl rfl)
theorem dX1_castOf_56 : decode cX1_castOf 56 = .ok (.aload_n 0, 1) := dk_42 (dk_at dksX1_castOf_2 9 rfl rfl)
theorem dX1_castOf_57 : decode cX1_castOf 57 = .ok (.getfield 16, 3) := dk_180 0 16 (dk_at dksX1_castOf_2 10 rfl rfl)
theorem dX1_castOf_60 : decode cX1_castOf 60 = .ok (.getfield 83, 3) := dk_180 0 83 (dk_at dksX1_castOf_2 13 rfl rfl)
theorem dX1_castOf_63 : decode cX1_castOf 63 = .ok (.iload 6, 2) := dk_21 6 (dk_at dksX1_castOf_2 16 rfl rfl)
theorem dX1_castOf_65 : decode cX1_castOf 65 = .ok (.invokeinterface 120 2, 5) := by decide +kernel
theorem dX1_castOf_70 : decode cX1_castOf 70 = .ok (.checkcast 124, 3) := dk_192 0 124 (dk_at dksX1_castOf_3 0 rfl rfl)
theorem dX1_castOf_73 : decode cX1_castOf 73 = .ok (.getfield 144, 3) := dk_180 0 144 (dk_at dksX1_castOf_3 3 rfl rfl)
theorem dX1_castOf_76 : decode cX1_castOf 76 = .ok (.aload_n 0, 1) := dk_42 (dk_at dksX1_castOf_3 6 rfl rfl)
theorem dX1_castOf_77 : decode cX1_castOf 77 = .ok (.getfield 16, 3) := dk_180 0 16 (dk_at dksX1_castOf_3 7 rfl rfl)
theorem dX1_castOf_80 : decode cX1_castOf 80 = .ok (.getfield 83, 3) := dk_180 0 83 (dk_at dksX1_castOf_3 10 rfl rfl)
theorem dX1_castOf_83 : decode cX1_castOf 83 = .ok (.iload 5, 2) := dk_21 5 (dk_at dksX1_castOf_3 13 rfl rfl)
theorem dX1_castOf_85 : decode cX1_castOf 85 = .ok (.invokeinterface 120 2, 5) := by decide +kernel
theorem dX1_castOf_90 : decode cX1_castOf 90 = .ok (.checkcast 124, 3) := dk_192 0 124 (dk_at dksX1_castOf_3 20 rfl rfl)
theorem dX1_castOf_93 : decode cX1_castOf 93 = .ok (.getfield 144, 3) := dk_180 0 144 (dk_at dksX1_castOf_4 0 rfl rfl)
theorem dX1_castOf_96 : decode cX1_castOf 96 = .ok (.if_icmp .le 7, 3) := dk_164 0 7 (dk_at dksX1_castOf_4 3 rfl rfl)
theorem dX1_castOf_99 : decode cX1_castOf 99 = .ok (.iload 6, 2) := dk_21 6 (dk_at dksX1_castOf_4 6 rfl rfl)
theorem dX1_castOf_101 : decode cX1_castOf 101 = .ok (.istore 5, 2) := dk_54 5 (dk_at dksX1_castOf_4 8 rfl rfl)
theorem dX1_castOf_103 : decode cX1_castOf 103 = .ok (.iinc 6 1, 3) := dk_132 6 1 (dk_at dksX1_castOf_4 10 rfl rfl)
theorem dX1_castOf_106 : decode cX1_castOf 106 = .ok (.goto (-86), 3) := dk_167 255 170 (dk_at dksX1_castOf_4 13 rfl rfl)
theorem dX1_castOf_109 : decode cX1_castOf 109 = .ok (.iload_n 3, 1) := dk_29 (dk_at dksX1_castOf_4 16 rfl rfl)
theorem dX1_castOf_110 : decode cX1_castOf 110 = .ok (.iconst 1, 1) := dk_4 (dk_at dksX1_castOf_4 17 rfl rfl)
theorem dX1_castOf_111 : decode cX1_castOf 111 = .ok (.iload 5, 2) := dk_21 5 (dk_at dksX1_castOf_4 18 rfl rfl)
theorem dX1_castOf_113 : decode cX1_castOf 113 = .ok (.ishl, 1) := dk_120 (dk_at dksX1_castOf_4 20 rfl rfl)
theorem dX1_castOf_114 : decode cX1_castOf 114 = .ok (.ior, 1) := dk_128 (dk_at dksX1_castOf_4 21 rfl rfl)
theorem dX1_castOf_115 : decode cX1_castOf 115 = .ok (.istore_n 3, 1) := dk_62 (dk_at dksX1_castOf_4 22 rfl rfl)
theorem dX1_castOf_116 : decode cX1_castOf 116 = .ok (.iinc 4 1, 3) := dk_132 4 1 (dk_at dksX1_castOf_5 0 rfl rfl)
theorem dX1_castOf_119 : decode cX1_castOf 119 = .ok (.goto (-114), 3) := dk_167 255 142 (dk_at dksX1_castOf_5 3 rfl rfl)
theorem dX1_castOf_122 : decode cX1_castOf 122 = .ok (.iload_n 3, 1) := dk_29 (dk_at dksX1_castOf_5 6 rfl rfl)
theorem dX1_castOf_123 : decode cX1_castOf 123 = .ok (.ireturn, 1) := dk_172 (dk_at dksX1_castOf_5 7 rfl rfl)
abbrev cX1_transposed : ByteArray := prog_1_method_55_code
def yX1_transposed : MethodName := ⟨RX1, "transposed", "(I)I"⟩
def dkwX1_transposed_3 : List UInt8 := [132, 3, 1, 167, 255, 194, 16, 157, 172]
abbrev dktX1_transposed_3 : List UInt8 := dkwX1_transposed_3 ++ []
def dkwX1_transposed_2 : List UInt8 := [180, 0, 16, 27, 42, 180, 0, 27, 182, 0, 104, 21, 4, 182, 1, 30, 153, 0, 6, 21, 4, 172]
abbrev dktX1_transposed_2 : List UInt8 := dkwX1_transposed_2 ++ dktX1_transposed_3
def dkwX1_transposed_1 : List UInt8 := [167, 0, 9, 29, 4, 96, 116, 5, 108, 54, 4, 42, 44, 21, 4, 182, 1, 26, 153, 0, 26, 42]
abbrev dktX1_transposed_1 : List UInt8 := dkwX1_transposed_1 ++ dktX1_transposed_2
def dkwX1_transposed_0 : List UInt8 := [42, 27, 182, 0, 150, 77, 3, 62, 29, 16, 24, 163, 0, 62, 29, 5, 112, 154, 0, 9, 29, 5, 108]
abbrev dktX1_transposed_0 : List UInt8 := dkwX1_transposed_0 ++ dktX1_transposed_1
theorem dksX1_transposed_0 : cX1_transposed.data.toList.drop 0 = dktX1_transposed_0 := by decide +kernel
theorem dksX1_transposed_1 : cX1_transposed.data.toList.drop 23 = dktX1_transposed_1 := dk_seg dksX1_transposed_0 23 rfl rfl
theorem dksX1_transposed_2 : cX1_transposed.data.toList.drop 45 = dktX1_transposed_2 := dk_seg dksX1_transposed_1 22 rfl rfl
theorem dksX1_transposed_3 : cX1_transposed.data.toList.drop 67 = dktX1_transposed_3 := dk_seg dksX1_transposed_2 22 rfl rfl
theorem dX1_transposed_0 : decode cX1_transposed 0 = .ok (.aload_n 0, 1) := dk_42 (dk_at dksX1_transposed_0 0 rfl rfl)
theorem dX1_transposed_1 : decode cX1_transposed 1 = .ok (.iload_n 1, 1) := dk_27 (dk_at dksX1_transposed_0 1 rfl rfl)
theorem dX1_transposed_2 : decode cX1_transposed 2 = .ok (.invokevirtual 150, 3) := dk_182 0 150 (dk_at dksX1_transposed_0 2 rfl rfl)
theorem dX1_transposed_5 : decode cX1_transposed 5 = .ok (.astore_n 2, 1) := dk_77 (dk_at dksX1_transposed_0 5 rfl rfl)
theorem dX1_transposed_6 : decode cX1_transposed 6 = .ok (.iconst 0, 1) := dk_3 (dk_at dksX1_transposed_0 6 rfl rfl)
theorem dX1_transposed_7 : decode cX1_transposed 7 = .ok (.istore_n 3, 1) := dk_62 (dk_at dksX1_transposed_0 7 rfl rfl)
theorem dX1_transposed_8 : decode cX1_transposed 8 = .ok (.iload_n 3, 1) := dk_29 (dk_at dksX1_transposed_0 8 rfl rfl)
theorem dX1_transposed_9 : decode cX1_transposed 9 = .ok (.bipush 24, 2) := dk_16 24 (dk_at dksX1_transposed_0 9 rfl rfl)
theorem dX1_transposed_11 : decode cX1_transposed 11 = .ok (.if_icmp .gt 62, 3) := dk_163 0 62 (dk_at dksX1_transposed_0 11 rfl rfl)
theorem dX1_transposed_14 : decode cX1_transposed 14 = .ok (.iload_n 3, 1) := dk_29 (dk_at dksX1_transposed_0 14 rfl rfl)
theorem dX1_transposed_15 : decode cX1_transposed 15 = .ok (.iconst 2, 1) := dk_5 (dk_at dksX1_transposed_0 15 rfl rfl)
theorem dX1_transposed_16 : decode cX1_transposed 16 = .ok (.irem, 1) := dk_112 (dk_at dksX1_transposed_0 16 rfl rfl)
theorem dX1_transposed_17 : decode cX1_transposed 17 = .ok (.ifCond .ne 9, 3) := dk_154 0 9 (dk_at dksX1_transposed_0 17 rfl rfl)
theorem dX1_transposed_20 : decode cX1_transposed 20 = .ok (.iload_n 3, 1) := dk_29 (dk_at dksX1_transposed_0 20 rfl rfl)
theorem dX1_transposed_21 : decode cX1_transposed 21 = .ok (.iconst 2, 1) := dk_5 (dk_at dksX1_transposed_0 21 rfl rfl)
theorem dX1_transposed_22 : decode cX1_transposed 22 = .ok (.idiv, 1) := dk_108 (dk_at dksX1_transposed_0 22 rfl rfl)
theorem dX1_transposed_23 : decode cX1_transposed 23 = .ok (.goto 9, 3) := dk_167 0 9 (dk_at dksX1_transposed_1 0 rfl rfl)
theorem dX1_transposed_26 : decode cX1_transposed 26 = .ok (.iload_n 3, 1) := dk_29 (dk_at dksX1_transposed_1 3 rfl rfl)
theorem dX1_transposed_27 : decode cX1_transposed 27 = .ok (.iconst 1, 1) := dk_4 (dk_at dksX1_transposed_1 4 rfl rfl)
theorem dX1_transposed_28 : decode cX1_transposed 28 = .ok (.iadd, 1) := dk_96 (dk_at dksX1_transposed_1 5 rfl rfl)
theorem dX1_transposed_29 : decode cX1_transposed 29 = .ok (.ineg, 1) := dk_116 (dk_at dksX1_transposed_1 6 rfl rfl)
theorem dX1_transposed_30 : decode cX1_transposed 30 = .ok (.iconst 2, 1) := dk_5 (dk_at dksX1_transposed_1 7 rfl rfl)
theorem dX1_transposed_31 : decode cX1_transposed 31 = .ok (.idiv, 1) := dk_108 (dk_at dksX1_transposed_1 8 rfl rfl)
theorem dX1_transposed_32 : decode cX1_transposed 32 = .ok (.istore 4, 2) := dk_54 4 (dk_at dksX1_transposed_1 9 rfl rfl)
theorem dX1_transposed_34 : decode cX1_transposed 34 = .ok (.aload_n 0, 1) := dk_42 (dk_at dksX1_transposed_1 11 rfl rfl)
theorem dX1_transposed_35 : decode cX1_transposed 35 = .ok (.aload_n 2, 1) := dk_44 (dk_at dksX1_transposed_1 12 rfl rfl)
theorem dX1_transposed_36 : decode cX1_transposed 36 = .ok (.iload 4, 2) := dk_21 4 (dk_at dksX1_transposed_1 13 rfl rfl)
theorem dX1_transposed_38 : decode cX1_transposed 38 = .ok (.invokevirtual 282, 3) := dk_182 1 26 (dk_at dksX1_transposed_1 15 rfl rfl)
theorem dX1_transposed_41 : decode cX1_transposed 41 = .ok (.ifCond .eq 26, 3) := dk_153 0 26 (dk_at dksX1_transposed_1 18 rfl rfl)
theorem dX1_transposed_44 : decode cX1_transposed 44 = .ok (.aload_n 0, 1) := dk_42 (dk_at dksX1_transposed_1 21 rfl rfl)
theorem dX1_transposed_45 : decode cX1_transposed 45 = .ok (.getfield 16, 3) := dk_180 0 16 (dk_at dksX1_transposed_2 0 rfl rfl)
theorem dX1_transposed_48 : decode cX1_transposed 48 = .ok (.iload_n 1, 1) := dk_27 (dk_at dksX1_transposed_2 3 rfl rfl)
theorem dX1_transposed_49 : decode cX1_transposed 49 = .ok (.aload_n 0, 1) := dk_42 (dk_at dksX1_transposed_2 4 rfl rfl)
theorem dX1_transposed_50 : decode cX1_transposed 50 = .ok (.getfield 27, 3) := dk_180 0 27 (dk_at dksX1_transposed_2 5 rfl rfl)
theorem dX1_transposed_53 : decode cX1_transposed 53 = .ok (.invokevirtual 104, 3) := dk_182 0 104 (dk_at dksX1_transposed_2 8 rfl rfl)
theorem dX1_transposed_56 : decode cX1_transposed 56 = .ok (.iload 4, 2) := dk_21 4 (dk_at dksX1_transposed_2 11 rfl rfl)
theorem dX1_transposed_58 : decode cX1_transposed 58 = .ok (.invokevirtual 286, 3) := dk_182 1 30 (dk_at dksX1_transposed_2 13 rfl rfl)
theorem dX1_transposed_61 : decode cX1_transposed 61 = .ok (.ifCond .eq 6, 3) := dk_153 0 6 (dk_at dksX1_transposed_2 16 rfl rfl)
theorem dX1_transposed_64 : decode cX1_transposed 64 = .ok (.iload 4, 2) := dk_21 4 (dk_at dksX1_transposed_2 19 rfl rfl)
theorem dX1_transposed_66 : decode cX1_transposed 66 = .ok (.ireturn, 1) := dk_172 (dk_at dksX1_transposed_2 21 rfl rfl)
theorem dX1_transposed_67 : decode cX1_transposed 67 = .ok (.iinc 3 1, 3) := dk_132 3 1 (dk_at dksX1_transposed_3 0 rfl rfl)
theorem dX1_transposed_70 : decode cX1_transposed 70 = .ok (.goto (-62), 3) := dk_167 255 194 (dk_at dksX1_transposed_3 3 rfl rfl)
theorem dX1_transposed_73 : decode cX1_transposed 73 = .ok (.bipush (-99), 2) := dk_16 157 (dk_at dksX1_transposed_3 6 rfl rfl)
theorem dX1_transposed_75 : decode cX1_transposed 75 = .ok (.ireturn, 1) := dk_172 (dk_at dksX1_transposed_3 8 rfl rfl)
abbrev cX1_isOnScale : ByteArray := prog_1_method_54_code
def yX1_isOnScale : MethodName := ⟨RX1, "isOnScale", "([LValleyMass$Row;I)Z"⟩
def dkwX1_isOnScale_3 : List UInt8 := [132, 3, 1, 167, 255, 185, 4, 172]
abbrev dktX1_isOnScale_3 : List UInt8 := dkwX1_isOnScale_3 ++ []
def dkwX1_isOnScale_2 : List UInt8 := [182, 0, 168, 28, 96, 3, 16, 48, 184, 0, 113, 154, 0, 5, 3, 172, 132, 4, 1, 167, 255, 199]
abbrev dktX1_isOnScale_2 : List UInt8 := dkwX1_isOnScale_2 ++ dktX1_isOnScale_3
def dkwX1_isOnScale_1 : List UInt8 := [185, 0, 86, 1, 0, 162, 0, 41, 43, 29, 50, 180, 0, 163, 21, 4, 185, 0, 120, 2, 0, 192, 0, 166]
abbrev dktX1_isOnScale_1 : List UInt8 := dkwX1_isOnScale_1 ++ dktX1_isOnScale_2
def dkwX1_isOnScale_0 : List UInt8 := [3, 62, 29, 7, 162, 0, 72, 3, 54, 4, 43, 29, 50, 198, 0, 57, 21, 4, 43, 29, 50, 180, 0, 163]
abbrev dktX1_isOnScale_0 : List UInt8 := dkwX1_isOnScale_0 ++ dktX1_isOnScale_1
theorem dksX1_isOnScale_0 : cX1_isOnScale.data.toList.drop 0 = dktX1_isOnScale_0 := by decide +kernel
theorem dksX1_isOnScale_1 : cX1_isOnScale.data.toList.drop 24 = dktX1_isOnScale_1 := dk_seg dksX1_isOnScale_0 24 rfl rfl
theorem dksX1_isOnScale_2 : cX1_isOnScale.data.toList.drop 48 = dktX1_isOnScale_2 := dk_seg dksX1_isOnScale_1 24 rfl rfl
theorem dksX1_isOnScale_3 : cX1_isOnScale.data.toList.drop 70 = dktX1_isOnScale_3 := dk_seg dksX1_isOnScale_2 22 rfl rfl
theorem dX1_isOnScale_0 : decode cX1_isOnScale 0 = .ok (.iconst 0, 1) := dk_3 (dk_at dksX1_isOnScale_0 0 rfl rfl)
theorem dX1_isOnScale_1 : decode cX1_isOnScale 1 = .ok (.istore_n 3, 1) := dk_62 (dk_at dksX1_isOnScale_0 1 rfl rfl)
theorem dX1_isOnScale_2 : decode cX1_isOnScale 2 = .ok (.iload_n 3, 1) := dk_29 (dk_at dksX1_isOnScale_0 2 rfl rfl)
theorem dX1_isOnScale_3 : decode cX1_isOnScale 3 = .ok (.iconst 4, 1) := dk_7 (dk_at dksX1_isOnScale_0 3 rfl rfl)
theorem dX1_isOnScale_4 : decode cX1_isOnScale 4 = .ok (.if_icmp .ge 72, 3) := dk_162 0 72 (dk_at dksX1_isOnScale_0 4 rfl rfl)
theorem dX1_isOnScale_7 : decode cX1_isOnScale 7 = .ok (.iconst 0, 1) := dk_3 (dk_at dksX1_isOnScale_0 7 rfl rfl)
theorem dX1_isOnScale_8 : decode cX1_isOnScale 8 = .ok (.istore 4, 2) := dk_54 4 (dk_at dksX1_isOnScale_0 8 rfl rfl)
theorem dX1_isOnScale_10 : decode cX1_isOnScale 10 = .ok (.aload_n 1, 1) := dk_43 (dk_at dksX1_isOnScale_0 10 rfl rfl)
theorem dX1_isOnScale_11 : decode cX1_isOnScale 11 = .ok (.iload_n 3, 1) := dk_29 (dk_at dksX1_isOnScale_0 11 rfl rfl)
theorem dX1_isOnScale_12 : decode cX1_isOnScale 12 = .ok (.aaload, 1) := dk_50 (dk_at dksX1_isOnScale_0 12 rfl rfl)
theorem dX1_isOnScale_13 : decode cX1_isOnScale 13 = .ok (.ifnull 57, 3) := dk_198 0 57 (dk_at dksX1_isOnScale_0 13 rfl rfl)
theorem dX1_isOnScale_16 : decode cX1_isOnScale 16 = .ok (.iload 4, 2) := dk_21 4 (dk_at dksX1_isOnScale_0 16 rfl rfl)
theorem dX1_isOnScale_18 : decode cX1_isOnScale 18 = .ok (.aload_n 1, 1) := dk_43 (dk_at dksX1_isOnScale_0 18 rfl rfl)
theorem dX1_isOnScale_19 : decode cX1_isOnScale 19 = .ok (.iload_n 3, 1) := dk_29 (dk_at dksX1_isOnScale_0 19 rfl rfl)
theorem dX1_isOnScale_20 : decode cX1_isOnScale 20 = .ok (.aaload, 1) := dk_50 (dk_at dksX1_isOnScale_0 20 rfl rfl)
theorem dX1_isOnScale_21 : decode cX1_isOnScale 21 = .ok (.getfield 163, 3) := dk_180 0 163 (dk_at dksX1_isOnScale_0 21 rfl rfl)
theorem dX1_isOnScale_24 : decode cX1_isOnScale 24 = .ok (.invokeinterface 86 1, 5) := by decide +kernel
theorem dX1_isOnScale_29 : decode cX1_isOnScale 29 = .ok (.if_icmp .ge 41, 3) := dk_162 0 41 (dk_at dksX1_isOnScale_1 5 rfl rfl)
theorem dX1_isOnScale_32 : decode cX1_isOnScale 32 = .ok (.aload_n 1, 1) := dk_43 (dk_at dksX1_isOnScale_1 8 rfl rfl)
theorem dX1_isOnScale_33 : decode cX1_isOnScale 33 = .ok (.iload_n 3, 1) := dk_29 (dk_at dksX1_isOnScale_1 9 rfl rfl)
theorem dX1_isOnScale_34 : decode cX1_isOnScale 34 = .ok (.aaload, 1) := dk_50 (dk_at dksX1_isOnScale_1 10 rfl rfl)
theorem dX1_isOnScale_35 : decode cX1_isOnScale 35 = .ok (.getfield 163, 3) := dk_180 0 163 (dk_at dksX1_isOnScale_1 11 rfl rfl)
theorem dX1_isOnScale_38 : decode cX1_isOnScale 38 = .ok (.iload 4, 2) := dk_21 4 (dk_at dksX1_isOnScale_1 14 rfl rfl)
theorem dX1_isOnScale_40 : decode cX1_isOnScale 40 = .ok (.invokeinterface 120 2, 5) := by decide +kernel
theorem dX1_isOnScale_45 : decode cX1_isOnScale 45 = .ok (.checkcast 166, 3) := dk_192 0 166 (dk_at dksX1_isOnScale_1 21 rfl rfl)
theorem dX1_isOnScale_48 : decode cX1_isOnScale 48 = .ok (.invokevirtual 168, 3) := dk_182 0 168 (dk_at dksX1_isOnScale_2 0 rfl rfl)
theorem dX1_isOnScale_51 : decode cX1_isOnScale 51 = .ok (.iload_n 2, 1) := dk_28 (dk_at dksX1_isOnScale_2 3 rfl rfl)
theorem dX1_isOnScale_52 : decode cX1_isOnScale 52 = .ok (.iadd, 1) := dk_96 (dk_at dksX1_isOnScale_2 4 rfl rfl)
theorem dX1_isOnScale_53 : decode cX1_isOnScale 53 = .ok (.iconst 0, 1) := dk_3 (dk_at dksX1_isOnScale_2 5 rfl rfl)
theorem dX1_isOnScale_54 : decode cX1_isOnScale 54 = .ok (.bipush 48, 2) := dk_16 48 (dk_at dksX1_isOnScale_2 6 rfl rfl)
theorem dX1_isOnScale_56 : decode cX1_isOnScale 56 = .ok (.invokestatic 113, 3) := dk_184 0 113 (dk_at dksX1_isOnScale_2 8 rfl rfl)
theorem dX1_isOnScale_59 : decode cX1_isOnScale 59 = .ok (.ifCond .ne 5, 3) := dk_154 0 5 (dk_at dksX1_isOnScale_2 11 rfl rfl)
theorem dX1_isOnScale_62 : decode cX1_isOnScale 62 = .ok (.iconst 0, 1) := dk_3 (dk_at dksX1_isOnScale_2 14 rfl rfl)
theorem dX1_isOnScale_63 : decode cX1_isOnScale 63 = .ok (.ireturn, 1) := dk_172 (dk_at dksX1_isOnScale_2 15 rfl rfl)
theorem dX1_isOnScale_64 : decode cX1_isOnScale 64 = .ok (.iinc 4 1, 3) := dk_132 4 1 (dk_at dksX1_isOnScale_2 16 rfl rfl)
theorem dX1_isOnScale_67 : decode cX1_isOnScale 67 = .ok (.goto (-57), 3) := dk_167 255 199 (dk_at dksX1_isOnScale_2 19 rfl rfl)
theorem dX1_isOnScale_70 : decode cX1_isOnScale 70 = .ok (.iinc 3 1, 3) := dk_132 3 1 (dk_at dksX1_isOnScale_3 0 rfl rfl)
theorem dX1_isOnScale_73 : decode cX1_isOnScale 73 = .ok (.goto (-71), 3) := dk_167 255 185 (dk_at dksX1_isOnScale_3 3 rfl rfl)
theorem dX1_isOnScale_76 : decode cX1_isOnScale 76 = .ok (.iconst 1, 1) := dk_4 (dk_at dksX1_isOnScale_3 6 rfl rfl)
theorem dX1_isOnScale_77 : decode cX1_isOnScale 77 = .ok (.ireturn, 1) := dk_172 (dk_at dksX1_isOnScale_3 7 rfl rfl)
abbrev cX1_standIns : ByteArray := prog_1_method_56_code
def yX1_standIns : MethodName := ⟨RX1, "standIns", "(I)I"⟩
def dkwX1_standIns_4 : List UInt8 := [29, 4, 21, 4, 120, 128, 62, 132, 4, 1, 167, 255, 168, 29, 172]
abbrev dktX1_standIns_4 : List UInt8 := dkwX1_standIns_4 ++ []
def dkwX1_standIns_3 : List UInt8 := [25, 5, 44, 180, 0, 138, 182, 0, 212, 153, 0, 22, 25, 5, 44, 180, 0, 141, 182, 0, 212, 153, 0, 10]
abbrev dktX1_standIns_3 : List UInt8 := dkwX1_standIns_3 ++ dktX1_standIns_4
def dkwX1_standIns_2 : List UInt8 := [192, 0, 124, 58, 5, 25, 5, 44, 165, 0, 46, 25, 5, 180, 0, 135, 44, 180, 0, 135, 160, 0, 34]
abbrev dktX1_standIns_2 : List UInt8 := dkwX1_standIns_2 ++ dktX1_standIns_3
def dkwX1_standIns_1 : List UInt8 := [185, 0, 86, 1, 0, 162, 0, 77, 42, 180, 0, 16, 180, 0, 83, 21, 4, 185, 0, 120, 2, 0]
abbrev dktX1_standIns_1 : List UInt8 := dkwX1_standIns_1 ++ dktX1_standIns_2
def dkwX1_standIns_0 : List UInt8 := [42, 27, 182, 0, 128, 77, 3, 62, 3, 54, 4, 21, 4, 42, 180, 0, 16, 180, 0, 83]
abbrev dktX1_standIns_0 : List UInt8 := dkwX1_standIns_0 ++ dktX1_standIns_1
theorem dksX1_standIns_0 : cX1_standIns.data.toList.drop 0 = dktX1_standIns_0 := by decide +kernel
theorem dksX1_standIns_1 : cX1_standIns.data.toList.drop 20 = dktX1_standIns_1 := dk_seg dksX1_standIns_0 20 rfl rfl
theorem dksX1_standIns_2 : cX1_standIns.data.toList.drop 42 = dktX1_standIns_2 := dk_seg dksX1_standIns_1 22 rfl rfl
theorem dksX1_standIns_3 : cX1_standIns.data.toList.drop 65 = dktX1_standIns_3 := dk_seg dksX1_standIns_2 23 rfl rfl
theorem dksX1_standIns_4 : cX1_standIns.data.toList.drop 89 = dktX1_standIns_4 := dk_seg dksX1_standIns_3 24 rfl rfl
theorem dX1_standIns_0 : decode cX1_standIns 0 = .ok (.aload_n 0, 1) := dk_42 (dk_at dksX1_standIns_0 0 rfl rfl)
theorem dX1_standIns_1 : decode cX1_standIns 1 = .ok (.iload_n 1, 1) := dk_27 (dk_at dksX1_standIns_0 1 rfl rfl)
theorem dX1_standIns_2 : decode cX1_standIns 2 = .ok (.invokevirtual 128, 3) := dk_182 0 128 (dk_at dksX1_standIns_0 2 rfl rfl)
theorem dX1_standIns_5 : decode cX1_standIns 5 = .ok (.astore_n 2, 1) := dk_77 (dk_at dksX1_standIns_0 5 rfl rfl)
theorem dX1_standIns_6 : decode cX1_standIns 6 = .ok (.iconst 0, 1) := dk_3 (dk_at dksX1_standIns_0 6 rfl rfl)
theorem dX1_standIns_7 : decode cX1_standIns 7 = .ok (.istore_n 3, 1) := dk_62 (dk_at dksX1_standIns_0 7 rfl rfl)
theorem dX1_standIns_8 : decode cX1_standIns 8 = .ok (.iconst 0, 1) := dk_3 (dk_at dksX1_standIns_0 8 rfl rfl)
theorem dX1_standIns_9 : decode cX1_standIns 9 = .ok (.istore 4, 2) := dk_54 4 (dk_at dksX1_standIns_0 9 rfl rfl)
theorem dX1_standIns_11 : decode cX1_standIns 11 = .ok (.iload 4, 2) := dk_21 4 (dk_at dksX1_standIns_0 11 rfl rfl)
theorem dX1_standIns_13 : decode cX1_standIns 13 = .ok (.aload_n 0, 1) := dk_42 (dk_at dksX1_standIns_0 13 rfl rfl)
theorem dX1_standIns_14 : decode cX1_standIns 14 = .ok (.getfield 16, 3) := dk_180 0 16 (dk_at dksX1_standIns_0 14 rfl rfl)
theorem dX1_standIns_17 : decode cX1_standIns 17 = .ok (.getfield 83, 3) := dk_180 0 83 (dk_at dksX1_standIns_0 17 rfl rfl)
theorem dX1_standIns_20 : decode cX1_standIns 20 = .ok (.invokeinterface 86 1, 5) := by decide +kernel
theorem dX1_standIns_25 : decode cX1_standIns 25 = .ok (.if_icmp .ge 77, 3) := dk_162 0 77 (dk_at dksX1_standIns_1 5 rfl rfl)
theorem dX1_standIns_28 : decode cX1_standIns 28 = .ok (.aload_n 0, 1) := dk_42 (dk_at dksX1_standIns_1 8 rfl rfl)
theorem dX1_standIns_29 : decode cX1_standIns 29 = .ok (.getfield 16, 3) := dk_180 0 16 (dk_at dksX1_standIns_1 9 rfl rfl)
theorem dX1_standIns_32 : decode cX1_standIns 32 = .ok (.getfield 83, 3) := dk_180 0 83 (dk_at dksX1_standIns_1 12 rfl rfl)
theorem dX1_standIns_35 : decode cX1_standIns 35 = .ok (.iload 4, 2) := dk_21 4 (dk_at dksX1_standIns_1 15 rfl rfl)
theorem dX1_standIns_37 : decode cX1_standIns 37 = .ok (.invokeinterface 120 2, 5) := by decide +kernel
theorem dX1_standIns_42 : decode cX1_standIns 42 = .ok (.checkcast 124, 3) := dk_192 0 124 (dk_at dksX1_standIns_2 0 rfl rfl)
theorem dX1_standIns_45 : decode cX1_standIns 45 = .ok (.astore 5, 2) := dk_58 5 (dk_at dksX1_standIns_2 3 rfl rfl)
theorem dX1_standIns_47 : decode cX1_standIns 47 = .ok (.aload 5, 2) := dk_25 5 (dk_at dksX1_standIns_2 5 rfl rfl)
theorem dX1_standIns_49 : decode cX1_standIns 49 = .ok (.aload_n 2, 1) := dk_44 (dk_at dksX1_standIns_2 7 rfl rfl)
theorem dX1_standIns_50 : decode cX1_standIns 50 = .ok (.if_acmp .eq 46, 3) := dk_165 0 46 (dk_at dksX1_standIns_2 8 rfl rfl)
theorem dX1_standIns_53 : decode cX1_standIns 53 = .ok (.aload 5, 2) := dk_25 5 (dk_at dksX1_standIns_2 11 rfl rfl)
theorem dX1_standIns_55 : decode cX1_standIns 55 = .ok (.getfield 135, 3) := dk_180 0 135 (dk_at dksX1_standIns_2 13 rfl rfl)
theorem dX1_standIns_58 : decode cX1_standIns 58 = .ok (.aload_n 2, 1) := dk_44 (dk_at dksX1_standIns_2 16 rfl rfl)
theorem dX1_standIns_59 : decode cX1_standIns 59 = .ok (.getfield 135, 3) := dk_180 0 135 (dk_at dksX1_standIns_2 17 rfl rfl)
theorem dX1_standIns_62 : decode cX1_standIns 62 = .ok (.if_icmp .ne 34, 3) := dk_160 0 34 (dk_at dksX1_standIns_2 20 rfl rfl)
theorem dX1_standIns_65 : decode cX1_standIns 65 = .ok (.aload 5, 2) := dk_25 5 (dk_at dksX1_standIns_3 0 rfl rfl)
theorem dX1_standIns_67 : decode cX1_standIns 67 = .ok (.aload_n 2, 1) := dk_44 (dk_at dksX1_standIns_3 2 rfl rfl)
theorem dX1_standIns_68 : decode cX1_standIns 68 = .ok (.getfield 138, 3) := dk_180 0 138 (dk_at dksX1_standIns_3 3 rfl rfl)
theorem dX1_standIns_71 : decode cX1_standIns 71 = .ok (.invokevirtual 212, 3) := dk_182 0 212 (dk_at dksX1_standIns_3 6 rfl rfl)
theorem dX1_standIns_74 : decode cX1_standIns 74 = .ok (.ifCond .eq 22, 3) := dk_153 0 22 (dk_at dksX1_standIns_3 9 rfl rfl)
theorem dX1_standIns_77 : decode cX1_standIns 77 = .ok (.aload 5, 2) := dk_25 5 (dk_at dksX1_standIns_3 12 rfl rfl)
theorem dX1_standIns_79 : decode cX1_standIns 79 = .ok (.aload_n 2, 1) := dk_44 (dk_at dksX1_standIns_3 14 rfl rfl)
theorem dX1_standIns_80 : decode cX1_standIns 80 = .ok (.getfield 141, 3) := dk_180 0 141 (dk_at dksX1_standIns_3 15 rfl rfl)
theorem dX1_standIns_83 : decode cX1_standIns 83 = .ok (.invokevirtual 212, 3) := dk_182 0 212 (dk_at dksX1_standIns_3 18 rfl rfl)
theorem dX1_standIns_86 : decode cX1_standIns 86 = .ok (.ifCond .eq 10, 3) := dk_153 0 10 (dk_at dksX1_standIns_3 21 rfl rfl)
theorem dX1_standIns_89 : decode cX1_standIns 89 = .ok (.iload_n 3, 1) := dk_29 (dk_at dksX1_standIns_4 0 rfl rfl)
theorem dX1_standIns_90 : decode cX1_standIns 90 = .ok (.iconst 1, 1) := dk_4 (dk_at dksX1_standIns_4 1 rfl rfl)
theorem dX1_standIns_91 : decode cX1_standIns 91 = .ok (.iload 4, 2) := dk_21 4 (dk_at dksX1_standIns_4 2 rfl rfl)
theorem dX1_standIns_93 : decode cX1_standIns 93 = .ok (.ishl, 1) := dk_120 (dk_at dksX1_standIns_4 4 rfl rfl)
theorem dX1_standIns_94 : decode cX1_standIns 94 = .ok (.ior, 1) := dk_128 (dk_at dksX1_standIns_4 5 rfl rfl)
theorem dX1_standIns_95 : decode cX1_standIns 95 = .ok (.istore_n 3, 1) := dk_62 (dk_at dksX1_standIns_4 6 rfl rfl)
theorem dX1_standIns_96 : decode cX1_standIns 96 = .ok (.iinc 4 1, 3) := dk_132 4 1 (dk_at dksX1_standIns_4 7 rfl rfl)
theorem dX1_standIns_99 : decode cX1_standIns 99 = .ok (.goto (-88), 3) := dk_167 255 168 (dk_at dksX1_standIns_4 10 rfl rfl)
theorem dX1_standIns_102 : decode cX1_standIns 102 = .ok (.iload_n 3, 1) := dk_29 (dk_at dksX1_standIns_4 13 rfl rfl)
theorem dX1_standIns_103 : decode cX1_standIns 103 = .ok (.ireturn, 1) := dk_172 (dk_at dksX1_standIns_4 14 rfl rfl)
abbrev cX1_falls : ByteArray := prog_1_method_35_code
def yX1_falls : MethodName := ⟨RX1, "falls", "(I)I"⟩
def dkwX1_falls_1 : List UInt8 := [21, 4, 27, 162, 0, 16, 29, 44, 182, 0, 195, 96, 62, 132, 4, 1, 167, 255, 240, 29, 172]
abbrev dktX1_falls_1 : List UInt8 := dkwX1_falls_1 ++ []
def dkwX1_falls_0 : List UInt8 := [27, 3, 16, 99, 184, 0, 113, 184, 0, 59, 42, 180, 0, 27, 182, 0, 178, 77, 3, 62, 3, 54, 4]
abbrev dktX1_falls_0 : List UInt8 := dkwX1_falls_0 ++ dktX1_falls_1
theorem dksX1_falls_0 : cX1_falls.data.toList.drop 0 = dktX1_falls_0 := by decide +kernel
theorem dksX1_falls_1 : cX1_falls.data.toList.drop 23 = dktX1_falls_1 := dk_seg dksX1_falls_0 23 rfl rfl
theorem dX1_falls_0 : decode cX1_falls 0 = .ok (.iload_n 1, 1) := dk_27 (dk_at dksX1_falls_0 0 rfl rfl)
theorem dX1_falls_1 : decode cX1_falls 1 = .ok (.iconst 0, 1) := dk_3 (dk_at dksX1_falls_0 1 rfl rfl)
theorem dX1_falls_2 : decode cX1_falls 2 = .ok (.bipush 99, 2) := dk_16 99 (dk_at dksX1_falls_0 2 rfl rfl)
theorem dX1_falls_4 : decode cX1_falls 4 = .ok (.invokestatic 113, 3) := dk_184 0 113 (dk_at dksX1_falls_0 4 rfl rfl)
theorem dX1_falls_7 : decode cX1_falls 7 = .ok (.invokestatic 59, 3) := dk_184 0 59 (dk_at dksX1_falls_0 7 rfl rfl)
theorem dX1_falls_10 : decode cX1_falls 10 = .ok (.aload_n 0, 1) := dk_42 (dk_at dksX1_falls_0 10 rfl rfl)
theorem dX1_falls_11 : decode cX1_falls 11 = .ok (.getfield 27, 3) := dk_180 0 27 (dk_at dksX1_falls_0 11 rfl rfl)
theorem dX1_falls_14 : decode cX1_falls 14 = .ok (.invokevirtual 178, 3) := dk_182 0 178 (dk_at dksX1_falls_0 14 rfl rfl)
theorem dX1_falls_17 : decode cX1_falls 17 = .ok (.astore_n 2, 1) := dk_77 (dk_at dksX1_falls_0 17 rfl rfl)
theorem dX1_falls_18 : decode cX1_falls 18 = .ok (.iconst 0, 1) := dk_3 (dk_at dksX1_falls_0 18 rfl rfl)
theorem dX1_falls_19 : decode cX1_falls 19 = .ok (.istore_n 3, 1) := dk_62 (dk_at dksX1_falls_0 19 rfl rfl)
theorem dX1_falls_20 : decode cX1_falls 20 = .ok (.iconst 0, 1) := dk_3 (dk_at dksX1_falls_0 20 rfl rfl)
theorem dX1_falls_21 : decode cX1_falls 21 = .ok (.istore 4, 2) := dk_54 4 (dk_at dksX1_falls_0 21 rfl rfl)
theorem dX1_falls_23 : decode cX1_falls 23 = .ok (.iload 4, 2) := dk_21 4 (dk_at dksX1_falls_1 0 rfl rfl)
theorem dX1_falls_25 : decode cX1_falls 25 = .ok (.iload_n 1, 1) := dk_27 (dk_at dksX1_falls_1 2 rfl rfl)
theorem dX1_falls_26 : decode cX1_falls 26 = .ok (.if_icmp .ge 16, 3) := dk_162 0 16 (dk_at dksX1_falls_1 3 rfl rfl)
theorem dX1_falls_29 : decode cX1_falls 29 = .ok (.iload_n 3, 1) := dk_29 (dk_at dksX1_falls_1 6 rfl rfl)
theorem dX1_falls_30 : decode cX1_falls 30 = .ok (.aload_n 2, 1) := dk_44 (dk_at dksX1_falls_1 7 rfl rfl)
theorem dX1_falls_31 : decode cX1_falls 31 = .ok (.invokevirtual 195, 3) := dk_182 0 195 (dk_at dksX1_falls_1 8 rfl rfl)
theorem dX1_falls_34 : decode cX1_falls 34 = .ok (.iadd, 1) := dk_96 (dk_at dksX1_falls_1 11 rfl rfl)
theorem dX1_falls_35 : decode cX1_falls 35 = .ok (.istore_n 3, 1) := dk_62 (dk_at dksX1_falls_1 12 rfl rfl)
theorem dX1_falls_36 : decode cX1_falls 36 = .ok (.iinc 4 1, 3) := dk_132 4 1 (dk_at dksX1_falls_1 13 rfl rfl)
theorem dX1_falls_39 : decode cX1_falls 39 = .ok (.goto (-16), 3) := dk_167 255 240 (dk_at dksX1_falls_1 16 rfl rfl)
theorem dX1_falls_42 : decode cX1_falls 42 = .ok (.iload_n 3, 1) := dk_29 (dk_at dksX1_falls_1 19 rfl rfl)
theorem dX1_falls_43 : decode cX1_falls 43 = .ok (.ireturn, 1) := dk_172 (dk_at dksX1_falls_1 20 rfl rfl)
abbrev cX1_voices : ByteArray := prog_1_method_57_code
def yX1_voices : MethodName := ⟨RX1, "voices", "(II)I"⟩
def dkwX1_voices_1 : List UInt8 := [184, 0, 220, 172]
abbrev dktX1_voices_1 : List UInt8 := dkwX1_voices_1 ++ []
def dkwX1_voices_0 : List UInt8 := [27, 5, 184, 0, 154, 28, 6, 184, 0, 154, 42, 28, 42, 180, 0, 27, 27, 182, 1, 32, 182, 0, 216]
abbrev dktX1_voices_0 : List UInt8 := dkwX1_voices_0 ++ dktX1_voices_1
theorem dksX1_voices_0 : cX1_voices.data.toList.drop 0 = dktX1_voices_0 := by decide +kernel
theorem dksX1_voices_1 : cX1_voices.data.toList.drop 23 = dktX1_voices_1 := dk_seg dksX1_voices_0 23 rfl rfl
theorem dX1_voices_0 : decode cX1_voices 0 = .ok (.iload_n 1, 1) := dk_27 (dk_at dksX1_voices_0 0 rfl rfl)
theorem dX1_voices_1 : decode cX1_voices 1 = .ok (.iconst 2, 1) := dk_5 (dk_at dksX1_voices_0 1 rfl rfl)
theorem dX1_voices_2 : decode cX1_voices 2 = .ok (.invokestatic 154, 3) := dk_184 0 154 (dk_at dksX1_voices_0 2 rfl rfl)
theorem dX1_voices_5 : decode cX1_voices 5 = .ok (.iload_n 2, 1) := dk_28 (dk_at dksX1_voices_0 5 rfl rfl)
theorem dX1_voices_6 : decode cX1_voices 6 = .ok (.iconst 3, 1) := dk_6 (dk_at dksX1_voices_0 6 rfl rfl)
theorem dX1_voices_7 : decode cX1_voices 7 = .ok (.invokestatic 154, 3) := dk_184 0 154 (dk_at dksX1_voices_0 7 rfl rfl)
theorem dX1_voices_10 : decode cX1_voices 10 = .ok (.aload_n 0, 1) := dk_42 (dk_at dksX1_voices_0 10 rfl rfl)
theorem dX1_voices_11 : decode cX1_voices 11 = .ok (.iload_n 2, 1) := dk_28 (dk_at dksX1_voices_0 11 rfl rfl)
theorem dX1_voices_12 : decode cX1_voices 12 = .ok (.aload_n 0, 1) := dk_42 (dk_at dksX1_voices_0 12 rfl rfl)
theorem dX1_voices_13 : decode cX1_voices 13 = .ok (.getfield 27, 3) := dk_180 0 27 (dk_at dksX1_voices_0 13 rfl rfl)
theorem dX1_voices_16 : decode cX1_voices 16 = .ok (.iload_n 1, 1) := dk_27 (dk_at dksX1_voices_0 16 rfl rfl)
theorem dX1_voices_17 : decode cX1_voices 17 = .ok (.invokevirtual 288, 3) := dk_182 1 32 (dk_at dksX1_voices_0 17 rfl rfl)
theorem dX1_voices_20 : decode cX1_voices 20 = .ok (.invokevirtual 216, 3) := dk_182 0 216 (dk_at dksX1_voices_0 20 rfl rfl)
theorem dX1_voices_23 : decode cX1_voices 23 = .ok (.invokestatic 220, 3) := dk_184 0 220 (dk_at dksX1_voices_1 0 rfl rfl)
theorem dX1_voices_26 : decode cX1_voices 26 = .ok (.ireturn, 1) := dk_172 (dk_at dksX1_voices_1 3 rfl rfl)
abbrev cX1_lacking : ByteArray := prog_1_method_59_code
def yX1_lacking : MethodName := ⟨RX1, "lacking", "(II)I"⟩
def dkwX1_lacking_1 : List UInt8 := [184, 0, 117, 42, 27, 28, 182, 1, 38, 172]
abbrev dktX1_lacking_1 : List UInt8 := dkwX1_lacking_1 ++ []
def dkwX1_lacking_0 : List UInt8 := [42, 27, 182, 0, 150, 78, 28, 6, 184, 0, 154, 45, 28, 50, 198, 0, 7, 4, 167, 0, 4, 3]
abbrev dktX1_lacking_0 : List UInt8 := dkwX1_lacking_0 ++ dktX1_lacking_1
theorem dksX1_lacking_0 : cX1_lacking.data.toList.drop 0 = dktX1_lacking_0 := by decide +kernel
theorem dksX1_lacking_1 : cX1_lacking.data.toList.drop 22 = dktX1_lacking_1 := dk_seg dksX1_lacking_0 22 rfl rfl
theorem dX1_lacking_0 : decode cX1_lacking 0 = .ok (.aload_n 0, 1) := dk_42 (dk_at dksX1_lacking_0 0 rfl rfl)
theorem dX1_lacking_1 : decode cX1_lacking 1 = .ok (.iload_n 1, 1) := dk_27 (dk_at dksX1_lacking_0 1 rfl rfl)
theorem dX1_lacking_2 : decode cX1_lacking 2 = .ok (.invokevirtual 150, 3) := dk_182 0 150 (dk_at dksX1_lacking_0 2 rfl rfl)
theorem dX1_lacking_5 : decode cX1_lacking 5 = .ok (.astore_n 3, 1) := dk_78 (dk_at dksX1_lacking_0 5 rfl rfl)
theorem dX1_lacking_6 : decode cX1_lacking 6 = .ok (.iload_n 2, 1) := dk_28 (dk_at dksX1_lacking_0 6 rfl rfl)
theorem dX1_lacking_7 : decode cX1_lacking 7 = .ok (.iconst 3, 1) := dk_6 (dk_at dksX1_lacking_0 7 rfl rfl)
theorem dX1_lacking_8 : decode cX1_lacking 8 = .ok (.invokestatic 154, 3) := dk_184 0 154 (dk_at dksX1_lacking_0 8 rfl rfl)
theorem dX1_lacking_11 : decode cX1_lacking 11 = .ok (.aload_n 3, 1) := dk_45 (dk_at dksX1_lacking_0 11 rfl rfl)
theorem dX1_lacking_12 : decode cX1_lacking 12 = .ok (.iload_n 2, 1) := dk_28 (dk_at dksX1_lacking_0 12 rfl rfl)
theorem dX1_lacking_13 : decode cX1_lacking 13 = .ok (.aaload, 1) := dk_50 (dk_at dksX1_lacking_0 13 rfl rfl)
theorem dX1_lacking_14 : decode cX1_lacking 14 = .ok (.ifnull 7, 3) := dk_198 0 7 (dk_at dksX1_lacking_0 14 rfl rfl)
theorem dX1_lacking_17 : decode cX1_lacking 17 = .ok (.iconst 1, 1) := dk_4 (dk_at dksX1_lacking_0 17 rfl rfl)
theorem dX1_lacking_18 : decode cX1_lacking 18 = .ok (.goto 4, 3) := dk_167 0 4 (dk_at dksX1_lacking_0 18 rfl rfl)
theorem dX1_lacking_21 : decode cX1_lacking 21 = .ok (.iconst 0, 1) := dk_3 (dk_at dksX1_lacking_0 21 rfl rfl)
theorem dX1_lacking_22 : decode cX1_lacking 22 = .ok (.invokestatic 117, 3) := dk_184 0 117 (dk_at dksX1_lacking_1 0 rfl rfl)
theorem dX1_lacking_25 : decode cX1_lacking 25 = .ok (.aload_n 0, 1) := dk_42 (dk_at dksX1_lacking_1 3 rfl rfl)
theorem dX1_lacking_26 : decode cX1_lacking 26 = .ok (.iload_n 1, 1) := dk_27 (dk_at dksX1_lacking_1 4 rfl rfl)
theorem dX1_lacking_27 : decode cX1_lacking 27 = .ok (.iload_n 2, 1) := dk_28 (dk_at dksX1_lacking_1 5 rfl rfl)
theorem dX1_lacking_28 : decode cX1_lacking 28 = .ok (.invokevirtual 294, 3) := dk_182 1 38 (dk_at dksX1_lacking_1 6 rfl rfl)
theorem dX1_lacking_31 : decode cX1_lacking 31 = .ok (.ireturn, 1) := dk_172 (dk_at dksX1_lacking_1 9 rfl rfl)
abbrev cX1_lackingIn : ByteArray := prog_1_method_58_code
def yX1_lackingIn : MethodName := ⟨RX1, "lackingIn", "(II)I"⟩
def dkwX1_lackingIn_1 : List UInt8 := [28, 42, 180, 0, 27, 182, 0, 104, 182, 0, 175, 184, 0, 220, 100, 184, 1, 35, 172]
abbrev dktX1_lackingIn_1 : List UInt8 := dkwX1_lackingIn_1 ++ []
def dkwX1_lackingIn_0 : List UInt8 := [3, 42, 180, 0, 16, 180, 0, 92, 27, 185, 0, 120, 2, 0, 192, 0, 126, 28, 50, 180, 0, 158, 42, 27]
abbrev dktX1_lackingIn_0 : List UInt8 := dkwX1_lackingIn_0 ++ dktX1_lackingIn_1
theorem dksX1_lackingIn_0 : cX1_lackingIn.data.toList.drop 0 = dktX1_lackingIn_0 := by decide +kernel
theorem dksX1_lackingIn_1 : cX1_lackingIn.data.toList.drop 24 = dktX1_lackingIn_1 := dk_seg dksX1_lackingIn_0 24 rfl rfl
theorem dX1_lackingIn_0 : decode cX1_lackingIn 0 = .ok (.iconst 0, 1) := dk_3 (dk_at dksX1_lackingIn_0 0 rfl rfl)
theorem dX1_lackingIn_1 : decode cX1_lackingIn 1 = .ok (.aload_n 0, 1) := dk_42 (dk_at dksX1_lackingIn_0 1 rfl rfl)
theorem dX1_lackingIn_2 : decode cX1_lackingIn 2 = .ok (.getfield 16, 3) := dk_180 0 16 (dk_at dksX1_lackingIn_0 2 rfl rfl)
theorem dX1_lackingIn_5 : decode cX1_lackingIn 5 = .ok (.getfield 92, 3) := dk_180 0 92 (dk_at dksX1_lackingIn_0 5 rfl rfl)
theorem dX1_lackingIn_8 : decode cX1_lackingIn 8 = .ok (.iload_n 1, 1) := dk_27 (dk_at dksX1_lackingIn_0 8 rfl rfl)
theorem dX1_lackingIn_9 : decode cX1_lackingIn 9 = .ok (.invokeinterface 120 2, 5) := by decide +kernel
theorem dX1_lackingIn_14 : decode cX1_lackingIn 14 = .ok (.checkcast 126, 3) := dk_192 0 126 (dk_at dksX1_lackingIn_0 14 rfl rfl)
theorem dX1_lackingIn_17 : decode cX1_lackingIn 17 = .ok (.iload_n 2, 1) := dk_28 (dk_at dksX1_lackingIn_0 17 rfl rfl)
theorem dX1_lackingIn_18 : decode cX1_lackingIn 18 = .ok (.aaload, 1) := dk_50 (dk_at dksX1_lackingIn_0 18 rfl rfl)
theorem dX1_lackingIn_19 : decode cX1_lackingIn 19 = .ok (.getfield 158, 3) := dk_180 0 158 (dk_at dksX1_lackingIn_0 19 rfl rfl)
theorem dX1_lackingIn_22 : decode cX1_lackingIn 22 = .ok (.aload_n 0, 1) := dk_42 (dk_at dksX1_lackingIn_0 22 rfl rfl)
theorem dX1_lackingIn_23 : decode cX1_lackingIn 23 = .ok (.iload_n 1, 1) := dk_27 (dk_at dksX1_lackingIn_0 23 rfl rfl)
theorem dX1_lackingIn_24 : decode cX1_lackingIn 24 = .ok (.iload_n 2, 1) := dk_28 (dk_at dksX1_lackingIn_1 0 rfl rfl)
theorem dX1_lackingIn_25 : decode cX1_lackingIn 25 = .ok (.aload_n 0, 1) := dk_42 (dk_at dksX1_lackingIn_1 1 rfl rfl)
theorem dX1_lackingIn_26 : decode cX1_lackingIn 26 = .ok (.getfield 27, 3) := dk_180 0 27 (dk_at dksX1_lackingIn_1 2 rfl rfl)
theorem dX1_lackingIn_29 : decode cX1_lackingIn 29 = .ok (.invokevirtual 104, 3) := dk_182 0 104 (dk_at dksX1_lackingIn_1 5 rfl rfl)
theorem dX1_lackingIn_32 : decode cX1_lackingIn 32 = .ok (.invokevirtual 175, 3) := dk_182 0 175 (dk_at dksX1_lackingIn_1 8 rfl rfl)
theorem dX1_lackingIn_35 : decode cX1_lackingIn 35 = .ok (.invokestatic 220, 3) := dk_184 0 220 (dk_at dksX1_lackingIn_1 11 rfl rfl)
theorem dX1_lackingIn_38 : decode cX1_lackingIn 38 = .ok (.isub, 1) := dk_100 (dk_at dksX1_lackingIn_1 14 rfl rfl)
theorem dX1_lackingIn_39 : decode cX1_lackingIn 39 = .ok (.invokestatic 291, 3) := dk_184 1 35 (dk_at dksX1_lackingIn_1 15 rfl rfl)
theorem dX1_lackingIn_42 : decode cX1_lackingIn 42 = .ok (.ireturn, 1) := dk_172 (dk_at dksX1_lackingIn_1 18 rfl rfl)
abbrev cX1_widen : ByteArray := prog_1_method_61_code
def yX1_widen : MethodName := ⟨RX1, "widen", "(II)I"⟩
def dkwX1_widen_10 : List UInt8 := [2, 160, 0, 8, 21, 6, 167, 0, 5, 21, 7, 172]
abbrev dktX1_widen_10 : List UInt8 := dkwX1_widen_10 ++ []
def dkwX1_widen_9 : List UInt8 := [25, 9, 45, 21, 5, 50, 184, 1, 45, 54, 7, 132, 8, 1, 167, 255, 143, 28, 4, 159, 0, 9, 21, 6]
abbrev dktX1_widen_9 : List UInt8 := dkwX1_widen_9 ++ dktX1_widen_10
def dkwX1_widen_8 : List UInt8 := [154, 0, 35, 25, 9, 45, 21, 5, 50, 184, 1, 45, 21, 7, 161, 0, 6, 167, 0, 18, 21, 8, 54, 6]
abbrev dktX1_widen_8 : List UInt8 := dkwX1_widen_8 ++ dktX1_widen_9
def dkwX1_widen_7 : List UInt8 := [154, 0, 58, 25, 9, 180, 0, 135, 21, 5, 160, 0, 48, 45, 21, 5, 50, 25, 9, 3, 182, 1, 41]
abbrev dktX1_widen_7 : List UInt8 := dkwX1_widen_7 ++ dktX1_widen_8
def dkwX1_widen_6 : List UInt8 := [21, 8, 185, 0, 120, 2, 0, 192, 0, 124, 58, 9, 42, 180, 0, 27, 180, 0, 147, 21, 8, 46]
abbrev dktX1_widen_6 : List UInt8 := dkwX1_widen_6 ++ dktX1_widen_7
def dkwX1_widen_5 : List UInt8 := [180, 0, 83, 185, 0, 86, 1, 0, 162, 0, 102, 21, 4, 4, 160, 0, 96, 42, 180, 0, 16, 180, 0, 83]
abbrev dktX1_widen_5 : List UInt8 := dkwX1_widen_5 ++ dktX1_widen_6
def dkwX1_widen_4 : List UInt8 := [132, 6, 1, 167, 255, 211, 2, 54, 6, 17, 3, 232, 54, 7, 3, 54, 8, 21, 8, 42, 180, 0, 16]
abbrev dktX1_widen_4 : List UInt8 := dkwX1_widen_4 ++ dktX1_widen_5
def dkwX1_widen_3 : List UInt8 := [154, 0, 6, 167, 0, 19, 21, 4, 42, 27, 21, 6, 182, 1, 38, 96, 54, 4, 21, 6, 54, 5]
abbrev dktX1_widen_3 : List UInt8 := dkwX1_widen_3 ++ dktX1_widen_4
def dkwX1_widen_2 : List UInt8 := [54, 6, 21, 6, 7, 162, 0, 45, 45, 21, 6, 50, 198, 0, 32, 42, 27, 21, 6, 182, 1, 38]
abbrev dktX1_widen_2 : List UInt8 := dkwX1_widen_2 ++ dktX1_widen_3
def dkwX1_widen_1 : List UInt8 := [182, 0, 232, 153, 0, 13, 28, 154, 0, 7, 3, 167, 0, 4, 2, 172, 3, 54, 4, 2, 54, 5, 3]
abbrev dktX1_widen_1 : List UInt8 := dkwX1_widen_1 ++ dktX1_widen_2
def dkwX1_widen_0 : List UInt8 := [42, 27, 182, 0, 150, 78, 28, 4, 184, 0, 154, 42, 180, 0, 16, 27, 42, 180, 0, 27, 182, 0, 104]
abbrev dktX1_widen_0 : List UInt8 := dkwX1_widen_0 ++ dktX1_widen_1
theorem dksX1_widen_0 : cX1_widen.data.toList.drop 0 = dktX1_widen_0 := by decide +kernel
theorem dksX1_widen_1 : cX1_widen.data.toList.drop 23 = dktX1_widen_1 := dk_seg dksX1_widen_0 23 rfl rfl
theorem dksX1_widen_2 : cX1_widen.data.toList.drop 46 = dktX1_widen_2 := dk_seg dksX1_widen_1 23 rfl rfl
theorem dksX1_widen_3 : cX1_widen.data.toList.drop 68 = dktX1_widen_3 := dk_seg dksX1_widen_2 22 rfl rfl
theorem dksX1_widen_4 : cX1_widen.data.toList.drop 90 = dktX1_widen_4 := dk_seg dksX1_widen_3 22 rfl rfl
theorem dksX1_widen_5 : cX1_widen.data.toList.drop 113 = dktX1_widen_5 := dk_seg dksX1_widen_4 23 rfl rfl
theorem dksX1_widen_6 : cX1_widen.data.toList.drop 137 = dktX1_widen_6 := dk_seg dksX1_widen_5 24 rfl rfl
theorem dksX1_widen_7 : cX1_widen.data.toList.drop 159 = dktX1_widen_7 := dk_seg dksX1_widen_6 22 rfl rfl
theorem dksX1_widen_8 : cX1_widen.data.toList.drop 182 = dktX1_widen_8 := dk_seg dksX1_widen_7 23 rfl rfl
theorem dksX1_widen_9 : cX1_widen.data.toList.drop 206 = dktX1_widen_9 := dk_seg dksX1_widen_8 24 rfl rfl
theorem dksX1_widen_10 : cX1_widen.data.toList.drop 230 = dktX1_widen_10 := dk_seg dksX1_widen_9 24 rfl rfl
theorem dX1_widen_0 : decode cX1_widen 0 = .ok (.aload_n 0, 1) := dk_42 (dk_at dksX1_widen_0 0 rfl rfl)
theorem dX1_widen_1 : decode cX1_widen 1 = .ok (.iload_n 1, 1) := dk_27 (dk_at dksX1_widen_0 1 rfl rfl)
theorem dX1_widen_2 : decode cX1_widen 2 = .ok (.invokevirtual 150, 3) := dk_182 0 150 (dk_at dksX1_widen_0 2 rfl rfl)
theorem dX1_widen_5 : decode cX1_widen 5 = .ok (.astore_n 3, 1) := dk_78 (dk_at dksX1_widen_0 5 rfl rfl)
theorem dX1_widen_6 : decode cX1_widen 6 = .ok (.iload_n 2, 1) := dk_28 (dk_at dksX1_widen_0 6 rfl rfl)
theorem dX1_widen_7 : decode cX1_widen 7 = .ok (.iconst 1, 1) := dk_4 (dk_at dksX1_widen_0 7 rfl rfl)
theorem dX1_widen_8 : decode cX1_widen 8 = .ok (.invokestatic 154, 3) := dk_184 0 154 (dk_at dksX1_widen_0 8 rfl rfl)
theorem dX1_widen_11 : decode cX1_widen 11 = .ok (.aload_n 0, 1) := dk_42 (dk_at dksX1_widen_0 11 rfl rfl)
theorem dX1_widen_12 : decode cX1_widen 12 = .ok (.getfield 16, 3) := dk_180 0 16 (dk_at dksX1_widen_0 12 rfl rfl)
theorem dX1_widen_15 : decode cX1_widen 15 = .ok (.iload_n 1, 1) := dk_27 (dk_at dksX1_widen_0 15 rfl rfl)
theorem dX1_widen_16 : decode cX1_widen 16 = .ok (.aload_n 0, 1) := dk_42 (dk_at dksX1_widen_0 16 rfl rfl)
theorem dX1_widen_17 : decode cX1_widen 17 = .ok (.getfield 27, 3) := dk_180 0 27 (dk_at dksX1_widen_0 17 rfl rfl)
theorem dX1_widen_20 : decode cX1_widen 20 = .ok (.invokevirtual 104, 3) := dk_182 0 104 (dk_at dksX1_widen_0 20 rfl rfl)
theorem dX1_widen_23 : decode cX1_widen 23 = .ok (.invokevirtual 232, 3) := dk_182 0 232 (dk_at dksX1_widen_1 0 rfl rfl)
theorem dX1_widen_26 : decode cX1_widen 26 = .ok (.ifCond .eq 13, 3) := dk_153 0 13 (dk_at dksX1_widen_1 3 rfl rfl)
theorem dX1_widen_29 : decode cX1_widen 29 = .ok (.iload_n 2, 1) := dk_28 (dk_at dksX1_widen_1 6 rfl rfl)
theorem dX1_widen_30 : decode cX1_widen 30 = .ok (.ifCond .ne 7, 3) := dk_154 0 7 (dk_at dksX1_widen_1 7 rfl rfl)
theorem dX1_widen_33 : decode cX1_widen 33 = .ok (.iconst 0, 1) := dk_3 (dk_at dksX1_widen_1 10 rfl rfl)
theorem dX1_widen_34 : decode cX1_widen 34 = .ok (.goto 4, 3) := dk_167 0 4 (dk_at dksX1_widen_1 11 rfl rfl)
theorem dX1_widen_37 : decode cX1_widen 37 = .ok (.iconst (-1), 1) := dk_2 (dk_at dksX1_widen_1 14 rfl rfl)
theorem dX1_widen_38 : decode cX1_widen 38 = .ok (.ireturn, 1) := dk_172 (dk_at dksX1_widen_1 15 rfl rfl)
theorem dX1_widen_39 : decode cX1_widen 39 = .ok (.iconst 0, 1) := dk_3 (dk_at dksX1_widen_1 16 rfl rfl)
theorem dX1_widen_40 : decode cX1_widen 40 = .ok (.istore 4, 2) := dk_54 4 (dk_at dksX1_widen_1 17 rfl rfl)
theorem dX1_widen_42 : decode cX1_widen 42 = .ok (.iconst (-1), 1) := dk_2 (dk_at dksX1_widen_1 19 rfl rfl)
theorem dX1_widen_43 : decode cX1_widen 43 = .ok (.istore 5, 2) := dk_54 5 (dk_at dksX1_widen_1 20 rfl rfl)
theorem dX1_widen_45 : decode cX1_widen 45 = .ok (.iconst 0, 1) := dk_3 (dk_at dksX1_widen_1 22 rfl rfl)
theorem dX1_widen_46 : decode cX1_widen 46 = .ok (.istore 6, 2) := dk_54 6 (dk_at dksX1_widen_2 0 rfl rfl)
theorem dX1_widen_48 : decode cX1_widen 48 = .ok (.iload 6, 2) := dk_21 6 (dk_at dksX1_widen_2 2 rfl rfl)
theorem dX1_widen_50 : decode cX1_widen 50 = .ok (.iconst 4, 1) := dk_7 (dk_at dksX1_widen_2 4 rfl rfl)
theorem dX1_widen_51 : decode cX1_widen 51 = .ok (.if_icmp .ge 45, 3) := dk_162 0 45 (dk_at dksX1_widen_2 5 rfl rfl)
theorem dX1_widen_54 : decode cX1_widen 54 = .ok (.aload_n 3, 1) := dk_45 (dk_at dksX1_widen_2 8 rfl rfl)
theorem dX1_widen_55 : decode cX1_widen 55 = .ok (.iload 6, 2) := dk_21 6 (dk_at dksX1_widen_2 9 rfl rfl)
theorem dX1_widen_57 : decode cX1_widen 57 = .ok (.aaload, 1) := dk_50 (dk_at dksX1_widen_2 11 rfl rfl)
theorem dX1_widen_58 : decode cX1_widen 58 = .ok (.ifnull 32, 3) := dk_198 0 32 (dk_at dksX1_widen_2 12 rfl rfl)
theorem dX1_widen_61 : decode cX1_widen 61 = .ok (.aload_n 0, 1) := dk_42 (dk_at dksX1_widen_2 15 rfl rfl)
theorem dX1_widen_62 : decode cX1_widen 62 = .ok (.iload_n 1, 1) := dk_27 (dk_at dksX1_widen_2 16 rfl rfl)
theorem dX1_widen_63 : decode cX1_widen 63 = .ok (.iload 6, 2) := dk_21 6 (dk_at dksX1_widen_2 17 rfl rfl)
theorem dX1_widen_65 : decode cX1_widen 65 = .ok (.invokevirtual 294, 3) := dk_182 1 38 (dk_at dksX1_widen_2 19 rfl rfl)
theorem dX1_widen_68 : decode cX1_widen 68 = .ok (.ifCond .ne 6, 3) := dk_154 0 6 (dk_at dksX1_widen_3 0 rfl rfl)
theorem dX1_widen_71 : decode cX1_widen 71 = .ok (.goto 19, 3) := dk_167 0 19 (dk_at dksX1_widen_3 3 rfl rfl)
theorem dX1_widen_74 : decode cX1_widen 74 = .ok (.iload 4, 2) := dk_21 4 (dk_at dksX1_widen_3 6 rfl rfl)
theorem dX1_widen_76 : decode cX1_widen 76 = .ok (.aload_n 0, 1) := dk_42 (dk_at dksX1_widen_3 8 rfl rfl)
theorem dX1_widen_77 : decode cX1_widen 77 = .ok (.iload_n 1, 1) := dk_27 (dk_at dksX1_widen_3 9 rfl rfl)
theorem dX1_widen_78 : decode cX1_widen 78 = .ok (.iload 6, 2) := dk_21 6 (dk_at dksX1_widen_3 10 rfl rfl)
theorem dX1_widen_80 : decode cX1_widen 80 = .ok (.invokevirtual 294, 3) := dk_182 1 38 (dk_at dksX1_widen_3 12 rfl rfl)
theorem dX1_widen_83 : decode cX1_widen 83 = .ok (.iadd, 1) := dk_96 (dk_at dksX1_widen_3 15 rfl rfl)
theorem dX1_widen_84 : decode cX1_widen 84 = .ok (.istore 4, 2) := dk_54 4 (dk_at dksX1_widen_3 16 rfl rfl)
theorem dX1_widen_86 : decode cX1_widen 86 = .ok (.iload 6, 2) := dk_21 6 (dk_at dksX1_widen_3 18 rfl rfl)
theorem dX1_widen_88 : decode cX1_widen 88 = .ok (.istore 5, 2) := dk_54 5 (dk_at dksX1_widen_3 20 rfl rfl)
theorem dX1_widen_90 : decode cX1_widen 90 = .ok (.iinc 6 1, 3) := dk_132 6 1 (dk_at dksX1_widen_4 0 rfl rfl)
theorem dX1_widen_93 : decode cX1_widen 93 = .ok (.goto (-45), 3) := dk_167 255 211 (dk_at dksX1_widen_4 3 rfl rfl)
theorem dX1_widen_96 : decode cX1_widen 96 = .ok (.iconst (-1), 1) := dk_2 (dk_at dksX1_widen_4 6 rfl rfl)
theorem dX1_widen_97 : decode cX1_widen 97 = .ok (.istore 6, 2) := dk_54 6 (dk_at dksX1_widen_4 7 rfl rfl)
theorem dX1_widen_99 : decode cX1_widen 99 = .ok (.sipush 1000, 3) := dk_17 3 232 (dk_at dksX1_widen_4 9 rfl rfl)
theorem dX1_widen_102 : decode cX1_widen 102 = .ok (.istore 7, 2) := dk_54 7 (dk_at dksX1_widen_4 12 rfl rfl)
theorem dX1_widen_104 : decode cX1_widen 104 = .ok (.iconst 0, 1) := dk_3 (dk_at dksX1_widen_4 14 rfl rfl)
theorem dX1_widen_105 : decode cX1_widen 105 = .ok (.istore 8, 2) := dk_54 8 (dk_at dksX1_widen_4 15 rfl rfl)
theorem dX1_widen_107 : decode cX1_widen 107 = .ok (.iload 8, 2) := dk_21 8 (dk_at dksX1_widen_4 17 rfl rfl)
theorem dX1_widen_109 : decode cX1_widen 109 = .ok (.aload_n 0, 1) := dk_42 (dk_at dksX1_widen_4 19 rfl rfl)
theorem dX1_widen_110 : decode cX1_widen 110 = .ok (.getfield 16, 3) := dk_180 0 16 (dk_at dksX1_widen_4 20 rfl rfl)
theorem dX1_widen_113 : decode cX1_widen 113 = .ok (.getfield 83, 3) := dk_180 0 83 (dk_at dksX1_widen_5 0 rfl rfl)
theorem dX1_widen_116 : decode cX1_widen 116 = .ok (.invokeinterface 86 1, 5) := by decide +kernel
theorem dX1_widen_121 : decode cX1_widen 121 = .ok (.if_icmp .ge 102, 3) := dk_162 0 102 (dk_at dksX1_widen_5 8 rfl rfl)
theorem dX1_widen_124 : decode cX1_widen 124 = .ok (.iload 4, 2) := dk_21 4 (dk_at dksX1_widen_5 11 rfl rfl)
theorem dX1_widen_126 : decode cX1_widen 126 = .ok (.iconst 1, 1) := dk_4 (dk_at dksX1_widen_5 13 rfl rfl)
theorem dX1_widen_127 : decode cX1_widen 127 = .ok (.if_icmp .ne 96, 3) := dk_160 0 96 (dk_at dksX1_widen_5 14 rfl rfl)
theorem dX1_widen_130 : decode cX1_widen 130 = .ok (.aload_n 0, 1) := dk_42 (dk_at dksX1_widen_5 17 rfl rfl)
theorem dX1_widen_131 : decode cX1_widen 131 = .ok (.getfield 16, 3) := dk_180 0 16 (dk_at dksX1_widen_5 18 rfl rfl)
theorem dX1_widen_134 : decode cX1_widen 134 = .ok (.getfield 83, 3) := dk_180 0 83 (dk_at dksX1_widen_5 21 rfl rfl)
theorem dX1_widen_137 : decode cX1_widen 137 = .ok (.iload 8, 2) := dk_21 8 (dk_at dksX1_widen_6 0 rfl rfl)
theorem dX1_widen_139 : decode cX1_widen 139 = .ok (.invokeinterface 120 2, 5) := by decide +kernel
theorem dX1_widen_144 : decode cX1_widen 144 = .ok (.checkcast 124, 3) := dk_192 0 124 (dk_at dksX1_widen_6 7 rfl rfl)
theorem dX1_widen_147 : decode cX1_widen 147 = .ok (.astore 9, 2) := dk_58 9 (dk_at dksX1_widen_6 10 rfl rfl)
theorem dX1_widen_149 : decode cX1_widen 149 = .ok (.aload_n 0, 1) := dk_42 (dk_at dksX1_widen_6 12 rfl rfl)
theorem dX1_widen_150 : decode cX1_widen 150 = .ok (.getfield 27, 3) := dk_180 0 27 (dk_at dksX1_widen_6 13 rfl rfl)
theorem dX1_widen_153 : decode cX1_widen 153 = .ok (.getfield 147, 3) := dk_180 0 147 (dk_at dksX1_widen_6 16 rfl rfl)
theorem dX1_widen_156 : decode cX1_widen 156 = .ok (.iload 8, 2) := dk_21 8 (dk_at dksX1_widen_6 19 rfl rfl)
theorem dX1_widen_158 : decode cX1_widen 158 = .ok (.iaload, 1) := dk_46 (dk_at dksX1_widen_6 21 rfl rfl)
theorem dX1_widen_159 : decode cX1_widen 159 = .ok (.ifCond .ne 58, 3) := dk_154 0 58 (dk_at dksX1_widen_7 0 rfl rfl)
theorem dX1_widen_162 : decode cX1_widen 162 = .ok (.aload 9, 2) := dk_25 9 (dk_at dksX1_widen_7 3 rfl rfl)
theorem dX1_widen_164 : decode cX1_widen 164 = .ok (.getfield 135, 3) := dk_180 0 135 (dk_at dksX1_widen_7 5 rfl rfl)
theorem dX1_widen_167 : decode cX1_widen 167 = .ok (.iload 5, 2) := dk_21 5 (dk_at dksX1_widen_7 8 rfl rfl)
theorem dX1_widen_169 : decode cX1_widen 169 = .ok (.if_icmp .ne 48, 3) := dk_160 0 48 (dk_at dksX1_widen_7 10 rfl rfl)
theorem dX1_widen_172 : decode cX1_widen 172 = .ok (.aload_n 3, 1) := dk_45 (dk_at dksX1_widen_7 13 rfl rfl)
theorem dX1_widen_173 : decode cX1_widen 173 = .ok (.iload 5, 2) := dk_21 5 (dk_at dksX1_widen_7 14 rfl rfl)
theorem dX1_widen_175 : decode cX1_widen 175 = .ok (.aaload, 1) := dk_50 (dk_at dksX1_widen_7 16 rfl rfl)
theorem dX1_widen_176 : decode cX1_widen 176 = .ok (.aload 9, 2) := dk_25 9 (dk_at dksX1_widen_7 17 rfl rfl)
theorem dX1_widen_178 : decode cX1_widen 178 = .ok (.iconst 0, 1) := dk_3 (dk_at dksX1_widen_7 19 rfl rfl)
theorem dX1_widen_179 : decode cX1_widen 179 = .ok (.invokevirtual 297, 3) := dk_182 1 41 (dk_at dksX1_widen_7 20 rfl rfl)
theorem dX1_widen_182 : decode cX1_widen 182 = .ok (.ifCond .ne 35, 3) := dk_154 0 35 (dk_at dksX1_widen_8 0 rfl rfl)
theorem dX1_widen_185 : decode cX1_widen 185 = .ok (.aload 9, 2) := dk_25 9 (dk_at dksX1_widen_8 3 rfl rfl)
theorem dX1_widen_187 : decode cX1_widen 187 = .ok (.aload_n 3, 1) := dk_45 (dk_at dksX1_widen_8 5 rfl rfl)
theorem dX1_widen_188 : decode cX1_widen 188 = .ok (.iload 5, 2) := dk_21 5 (dk_at dksX1_widen_8 6 rfl rfl)
theorem dX1_widen_190 : decode cX1_widen 190 = .ok (.aaload, 1) := dk_50 (dk_at dksX1_widen_8 8 rfl rfl)
theorem dX1_widen_191 : decode cX1_widen 191 = .ok (.invokestatic 301, 3) := dk_184 1 45 (dk_at dksX1_widen_8 9 rfl rfl)
theorem dX1_widen_194 : decode cX1_widen 194 = .ok (.iload 7, 2) := dk_21 7 (dk_at dksX1_widen_8 12 rfl rfl)
theorem dX1_widen_196 : decode cX1_widen 196 = .ok (.if_icmp .lt 6, 3) := dk_161 0 6 (dk_at dksX1_widen_8 14 rfl rfl)
theorem dX1_widen_199 : decode cX1_widen 199 = .ok (.goto 18, 3) := dk_167 0 18 (dk_at dksX1_widen_8 17 rfl rfl)
theorem dX1_widen_202 : decode cX1_widen 202 = .ok (.iload 8, 2) := dk_21 8 (dk_at dksX1_widen_8 20 rfl rfl)
theorem dX1_widen_204 : decode cX1_widen 204 = .ok (.istore 6, 2) := dk_54 6 (dk_at dksX1_widen_8 22 rfl rfl)
theorem dX1_widen_206 : decode cX1_widen 206 = .ok (.aload 9, 2) := dk_25 9 (dk_at dksX1_widen_9 0 rfl rfl)
theorem dX1_widen_208 : decode cX1_widen 208 = .ok (.aload_n 3, 1) := dk_45 (dk_at dksX1_widen_9 2 rfl rfl)
theorem dX1_widen_209 : decode cX1_widen 209 = .ok (.iload 5, 2) := dk_21 5 (dk_at dksX1_widen_9 3 rfl rfl)
theorem dX1_widen_211 : decode cX1_widen 211 = .ok (.aaload, 1) := dk_50 (dk_at dksX1_widen_9 5 rfl rfl)
theorem dX1_widen_212 : decode cX1_widen 212 = .ok (.invokestatic 301, 3) := dk_184 1 45 (dk_at dksX1_widen_9 6 rfl rfl)
theorem dX1_widen_215 : decode cX1_widen 215 = .ok (.istore 7, 2) := dk_54 7 (dk_at dksX1_widen_9 9 rfl rfl)
theorem dX1_widen_217 : decode cX1_widen 217 = .ok (.iinc 8 1, 3) := dk_132 8 1 (dk_at dksX1_widen_9 11 rfl rfl)
theorem dX1_widen_220 : decode cX1_widen 220 = .ok (.goto (-113), 3) := dk_167 255 143 (dk_at dksX1_widen_9 14 rfl rfl)
theorem dX1_widen_223 : decode cX1_widen 223 = .ok (.iload_n 2, 1) := dk_28 (dk_at dksX1_widen_9 17 rfl rfl)
theorem dX1_widen_224 : decode cX1_widen 224 = .ok (.iconst 1, 1) := dk_4 (dk_at dksX1_widen_9 18 rfl rfl)
theorem dX1_widen_225 : decode cX1_widen 225 = .ok (.if_icmp .eq 9, 3) := dk_159 0 9 (dk_at dksX1_widen_9 19 rfl rfl)
theorem dX1_widen_228 : decode cX1_widen 228 = .ok (.iload 6, 2) := dk_21 6 (dk_at dksX1_widen_9 22 rfl rfl)
theorem dX1_widen_230 : decode cX1_widen 230 = .ok (.iconst (-1), 1) := dk_2 (dk_at dksX1_widen_10 0 rfl rfl)
theorem dX1_widen_231 : decode cX1_widen 231 = .ok (.if_icmp .ne 8, 3) := dk_160 0 8 (dk_at dksX1_widen_10 1 rfl rfl)
theorem dX1_widen_234 : decode cX1_widen 234 = .ok (.iload 6, 2) := dk_21 6 (dk_at dksX1_widen_10 4 rfl rfl)
theorem dX1_widen_236 : decode cX1_widen 236 = .ok (.goto 5, 3) := dk_167 0 5 (dk_at dksX1_widen_10 6 rfl rfl)
theorem dX1_widen_239 : decode cX1_widen 239 = .ok (.iload 7, 2) := dk_21 7 (dk_at dksX1_widen_10 9 rfl rfl)
theorem dX1_widen_241 : decode cX1_widen 241 = .ok (.ireturn, 1) := dk_172 (dk_at dksX1_widen_10 11 rfl rfl)
abbrev cX1_wider : ByteArray := prog_1_method_60_code
def yX1_wider : MethodName := ⟨RX1, "wider", "(LValleyMass$Singer;LValleyMass$Row;)I"⟩
def dkwX1_wider_3 : List UInt8 := [132, 4, 1, 167, 255, 195, 42, 180, 0, 138, 28, 100, 29, 96, 42, 180, 0, 141, 100, 172]
abbrev dktX1_wider_3 : List UInt8 := dkwX1_wider_3 ++ []
def dkwX1_wider_2 : List UInt8 := [61, 29, 43, 180, 0, 163, 21, 4, 185, 0, 120, 2, 0, 192, 0, 166, 182, 0, 168, 184, 1, 35, 62]
abbrev dktX1_wider_2 : List UInt8 := dkwX1_wider_2 ++ dktX1_wider_3
def dkwX1_wider_1 : List UInt8 := [162, 0, 53, 28, 43, 180, 0, 163, 21, 4, 185, 0, 120, 2, 0, 192, 0, 166, 182, 0, 168, 184, 0, 227]
abbrev dktX1_wider_1 : List UInt8 := dkwX1_wider_1 ++ dktX1_wider_2
def dkwX1_wider_0 : List UInt8 := [42, 180, 0, 138, 61, 42, 180, 0, 141, 62, 3, 54, 4, 21, 4, 43, 180, 0, 163, 185, 0, 86, 1, 0]
abbrev dktX1_wider_0 : List UInt8 := dkwX1_wider_0 ++ dktX1_wider_1
theorem dksX1_wider_0 : cX1_wider.data.toList.drop 0 = dktX1_wider_0 := by decide +kernel
theorem dksX1_wider_1 : cX1_wider.data.toList.drop 24 = dktX1_wider_1 := dk_seg dksX1_wider_0 24 rfl rfl
theorem dksX1_wider_2 : cX1_wider.data.toList.drop 48 = dktX1_wider_2 := dk_seg dksX1_wider_1 24 rfl rfl
theorem dksX1_wider_3 : cX1_wider.data.toList.drop 71 = dktX1_wider_3 := dk_seg dksX1_wider_2 23 rfl rfl
theorem dX1_wider_0 : decode cX1_wider 0 = .ok (.aload_n 0, 1) := dk_42 (dk_at dksX1_wider_0 0 rfl rfl)
theorem dX1_wider_1 : decode cX1_wider 1 = .ok (.getfield 138, 3) := dk_180 0 138 (dk_at dksX1_wider_0 1 rfl rfl)
theorem dX1_wider_4 : decode cX1_wider 4 = .ok (.istore_n 2, 1) := dk_61 (dk_at dksX1_wider_0 4 rfl rfl)
theorem dX1_wider_5 : decode cX1_wider 5 = .ok (.aload_n 0, 1) := dk_42 (dk_at dksX1_wider_0 5 rfl rfl)
theorem dX1_wider_6 : decode cX1_wider 6 = .ok (.getfield 141, 3) := dk_180 0 141 (dk_at dksX1_wider_0 6 rfl rfl)
theorem dX1_wider_9 : decode cX1_wider 9 = .ok (.istore_n 3, 1) := dk_62 (dk_at dksX1_wider_0 9 rfl rfl)
theorem dX1_wider_10 : decode cX1_wider 10 = .ok (.iconst 0, 1) := dk_3 (dk_at dksX1_wider_0 10 rfl rfl)
theorem dX1_wider_11 : decode cX1_wider 11 = .ok (.istore 4, 2) := dk_54 4 (dk_at dksX1_wider_0 11 rfl rfl)
theorem dX1_wider_13 : decode cX1_wider 13 = .ok (.iload 4, 2) := dk_21 4 (dk_at dksX1_wider_0 13 rfl rfl)
theorem dX1_wider_15 : decode cX1_wider 15 = .ok (.aload_n 1, 1) := dk_43 (dk_at dksX1_wider_0 15 rfl rfl)
theorem dX1_wider_16 : decode cX1_wider 16 = .ok (.getfield 163, 3) := dk_180 0 163 (dk_at dksX1_wider_0 16 rfl rfl)
theorem dX1_wider_19 : decode cX1_wider 19 = .ok (.invokeinterface 86 1, 5) := by decide +kernel
theorem dX1_wider_24 : decode cX1_wider 24 = .ok (.if_icmp .ge 53, 3) := dk_162 0 53 (dk_at dksX1_wider_1 0 rfl rfl)
theorem dX1_wider_27 : decode cX1_wider 27 = .ok (.iload_n 2, 1) := dk_28 (dk_at dksX1_wider_1 3 rfl rfl)
theorem dX1_wider_28 : decode cX1_wider 28 = .ok (.aload_n 1, 1) := dk_43 (dk_at dksX1_wider_1 4 rfl rfl)
theorem dX1_wider_29 : decode cX1_wider 29 = .ok (.getfield 163, 3) := dk_180 0 163 (dk_at dksX1_wider_1 5 rfl rfl)
theorem dX1_wider_32 : decode cX1_wider 32 = .ok (.iload 4, 2) := dk_21 4 (dk_at dksX1_wider_1 8 rfl rfl)
theorem dX1_wider_34 : decode cX1_wider 34 = .ok (.invokeinterface 120 2, 5) := by decide +kernel
theorem dX1_wider_39 : decode cX1_wider 39 = .ok (.checkcast 166, 3) := dk_192 0 166 (dk_at dksX1_wider_1 15 rfl rfl)
theorem dX1_wider_42 : decode cX1_wider 42 = .ok (.invokevirtual 168, 3) := dk_182 0 168 (dk_at dksX1_wider_1 18 rfl rfl)
theorem dX1_wider_45 : decode cX1_wider 45 = .ok (.invokestatic 227, 3) := dk_184 0 227 (dk_at dksX1_wider_1 21 rfl rfl)
theorem dX1_wider_48 : decode cX1_wider 48 = .ok (.istore_n 2, 1) := dk_61 (dk_at dksX1_wider_2 0 rfl rfl)
theorem dX1_wider_49 : decode cX1_wider 49 = .ok (.iload_n 3, 1) := dk_29 (dk_at dksX1_wider_2 1 rfl rfl)
theorem dX1_wider_50 : decode cX1_wider 50 = .ok (.aload_n 1, 1) := dk_43 (dk_at dksX1_wider_2 2 rfl rfl)
theorem dX1_wider_51 : decode cX1_wider 51 = .ok (.getfield 163, 3) := dk_180 0 163 (dk_at dksX1_wider_2 3 rfl rfl)
theorem dX1_wider_54 : decode cX1_wider 54 = .ok (.iload 4, 2) := dk_21 4 (dk_at dksX1_wider_2 6 rfl rfl)
theorem dX1_wider_56 : decode cX1_wider 56 = .ok (.invokeinterface 120 2, 5) := by decide +kernel
theorem dX1_wider_61 : decode cX1_wider 61 = .ok (.checkcast 166, 3) := dk_192 0 166 (dk_at dksX1_wider_2 13 rfl rfl)
theorem dX1_wider_64 : decode cX1_wider 64 = .ok (.invokevirtual 168, 3) := dk_182 0 168 (dk_at dksX1_wider_2 16 rfl rfl)
theorem dX1_wider_67 : decode cX1_wider 67 = .ok (.invokestatic 291, 3) := dk_184 1 35 (dk_at dksX1_wider_2 19 rfl rfl)
theorem dX1_wider_70 : decode cX1_wider 70 = .ok (.istore_n 3, 1) := dk_62 (dk_at dksX1_wider_2 22 rfl rfl)
theorem dX1_wider_71 : decode cX1_wider 71 = .ok (.iinc 4 1, 3) := dk_132 4 1 (dk_at dksX1_wider_3 0 rfl rfl)
theorem dX1_wider_74 : decode cX1_wider 74 = .ok (.goto (-61), 3) := dk_167 255 195 (dk_at dksX1_wider_3 3 rfl rfl)
theorem dX1_wider_77 : decode cX1_wider 77 = .ok (.aload_n 0, 1) := dk_42 (dk_at dksX1_wider_3 6 rfl rfl)
theorem dX1_wider_78 : decode cX1_wider 78 = .ok (.getfield 138, 3) := dk_180 0 138 (dk_at dksX1_wider_3 7 rfl rfl)
theorem dX1_wider_81 : decode cX1_wider 81 = .ok (.iload_n 2, 1) := dk_28 (dk_at dksX1_wider_3 10 rfl rfl)
theorem dX1_wider_82 : decode cX1_wider 82 = .ok (.isub, 1) := dk_100 (dk_at dksX1_wider_3 11 rfl rfl)
theorem dX1_wider_83 : decode cX1_wider 83 = .ok (.iload_n 3, 1) := dk_29 (dk_at dksX1_wider_3 12 rfl rfl)
theorem dX1_wider_84 : decode cX1_wider 84 = .ok (.iadd, 1) := dk_96 (dk_at dksX1_wider_3 13 rfl rfl)
theorem dX1_wider_85 : decode cX1_wider 85 = .ok (.aload_n 0, 1) := dk_42 (dk_at dksX1_wider_3 14 rfl rfl)
theorem dX1_wider_86 : decode cX1_wider 86 = .ok (.getfield 141, 3) := dk_180 0 141 (dk_at dksX1_wider_3 15 rfl rfl)
theorem dX1_wider_89 : decode cX1_wider 89 = .ok (.isub, 1) := dk_100 (dk_at dksX1_wider_3 18 rfl rfl)
theorem dX1_wider_90 : decode cX1_wider 90 = .ok (.ireturn, 1) := dk_172 (dk_at dksX1_wider_3 19 rfl rfl)
abbrev cX1_casts : ByteArray := prog_1_method_63_code
def yX1_casts : MethodName := ⟨RX1, "casts", "(I)J"⟩
def dkwX1_casts_5 : List UInt8 := [167, 255, 235, 132, 5, 1, 167, 255, 161, 33, 173]
abbrev dktX1_casts_5 : List UInt8 := dkwX1_casts_5 ++ []
def dkwX1_casts_4 : List UInt8 := [5, 54, 7, 21, 7, 44, 21, 5, 50, 180, 0, 158, 163, 0, 15, 33, 21, 7, 133, 109, 66, 132, 7, 1]
abbrev dktX1_casts_4 : List UInt8 := dkwX1_casts_4 ++ dktX1_casts_5
def dkwX1_casts_3 : List UInt8 := [21, 5, 50, 180, 0, 158, 162, 0, 18, 33, 21, 6, 21, 7, 100, 133, 105, 66, 132, 7, 1, 167, 255, 232]
abbrev dktX1_casts_3 : List UInt8 := dkwX1_casts_3 ++ dktX1_casts_4
def dkwX1_casts_2 : List UInt8 := [27, 21, 5, 42, 180, 0, 27, 182, 0, 104, 182, 0, 175, 184, 0, 220, 54, 6, 3, 54, 7, 21, 7, 44]
abbrev dktX1_casts_2 : List UInt8 := dkwX1_casts_2 ++ dktX1_casts_3
def dkwX1_casts_1 : List UInt8 := [9, 173, 10, 66, 3, 54, 5, 21, 5, 7, 162, 0, 95, 44, 21, 5, 50, 199, 0, 6, 167, 0, 79, 42]
abbrev dktX1_casts_1 : List UInt8 := dkwX1_casts_1 ++ dktX1_casts_2
def dkwX1_casts_0 : List UInt8 := [42, 27, 182, 0, 150, 77, 42, 180, 0, 16, 27, 42, 180, 0, 27, 182, 0, 104, 182, 0, 232, 154, 0, 5]
abbrev dktX1_casts_0 : List UInt8 := dkwX1_casts_0 ++ dktX1_casts_1
theorem dksX1_casts_0 : cX1_casts.data.toList.drop 0 = dktX1_casts_0 := by decide +kernel
theorem dksX1_casts_1 : cX1_casts.data.toList.drop 24 = dktX1_casts_1 := dk_seg dksX1_casts_0 24 rfl rfl
theorem dksX1_casts_2 : cX1_casts.data.toList.drop 48 = dktX1_casts_2 := dk_seg dksX1_casts_1 24 rfl rfl
theorem dksX1_casts_3 : cX1_casts.data.toList.drop 72 = dktX1_casts_3 := dk_seg dksX1_casts_2 24 rfl rfl
theorem dksX1_casts_4 : cX1_casts.data.toList.drop 96 = dktX1_casts_4 := dk_seg dksX1_casts_3 24 rfl rfl
theorem dksX1_casts_5 : cX1_casts.data.toList.drop 120 = dktX1_casts_5 := dk_seg dksX1_casts_4 24 rfl rfl
theorem dX1_casts_0 : decode cX1_casts 0 = .ok (.aload_n 0, 1) := dk_42 (dk_at dksX1_casts_0 0 rfl rfl)
theorem dX1_casts_1 : decode cX1_casts 1 = .ok (.iload_n 1, 1) := dk_27 (dk_at dksX1_casts_0 1 rfl rfl)
theorem dX1_casts_2 : decode cX1_casts 2 = .ok (.invokevirtual 150, 3) := dk_182 0 150 (dk_at dksX1_casts_0 2 rfl rfl)
theorem dX1_casts_5 : decode cX1_casts 5 = .ok (.astore_n 2, 1) := dk_77 (dk_at dksX1_casts_0 5 rfl rfl)
theorem dX1_casts_6 : decode cX1_casts 6 = .ok (.aload_n 0, 1) := dk_42 (dk_at dksX1_casts_0 6 rfl rfl)
theorem dX1_casts_7 : decode cX1_casts 7 = .ok (.getfield 16, 3) := dk_180 0 16 (dk_at dksX1_casts_0 7 rfl rfl)
theorem dX1_casts_10 : decode cX1_casts 10 = .ok (.iload_n 1, 1) := dk_27 (dk_at dksX1_casts_0 10 rfl rfl)
theorem dX1_casts_11 : decode cX1_casts 11 = .ok (.aload_n 0, 1) := dk_42 (dk_at dksX1_casts_0 11 rfl rfl)
theorem dX1_casts_12 : decode cX1_casts 12 = .ok (.getfield 27, 3) := dk_180 0 27 (dk_at dksX1_casts_0 12 rfl rfl)
theorem dX1_casts_15 : decode cX1_casts 15 = .ok (.invokevirtual 104, 3) := dk_182 0 104 (dk_at dksX1_casts_0 15 rfl rfl)
theorem dX1_casts_18 : decode cX1_casts 18 = .ok (.invokevirtual 232, 3) := dk_182 0 232 (dk_at dksX1_casts_0 18 rfl rfl)
theorem dX1_casts_21 : decode cX1_casts 21 = .ok (.ifCond .ne 5, 3) := dk_154 0 5 (dk_at dksX1_casts_0 21 rfl rfl)
theorem dX1_casts_24 : decode cX1_casts 24 = .ok (.lconst 0, 1) := dk_9 (dk_at dksX1_casts_1 0 rfl rfl)
theorem dX1_casts_25 : decode cX1_casts 25 = .ok (.lreturn, 1) := dk_173 (dk_at dksX1_casts_1 1 rfl rfl)
theorem dX1_casts_26 : decode cX1_casts 26 = .ok (.lconst 1, 1) := dk_10 (dk_at dksX1_casts_1 2 rfl rfl)
theorem dX1_casts_27 : decode cX1_casts 27 = .ok (.lstore_n 3, 1) := dk_66 (dk_at dksX1_casts_1 3 rfl rfl)
theorem dX1_casts_28 : decode cX1_casts 28 = .ok (.iconst 0, 1) := dk_3 (dk_at dksX1_casts_1 4 rfl rfl)
theorem dX1_casts_29 : decode cX1_casts 29 = .ok (.istore 5, 2) := dk_54 5 (dk_at dksX1_casts_1 5 rfl rfl)
theorem dX1_casts_31 : decode cX1_casts 31 = .ok (.iload 5, 2) := dk_21 5 (dk_at dksX1_casts_1 7 rfl rfl)
theorem dX1_casts_33 : decode cX1_casts 33 = .ok (.iconst 4, 1) := dk_7 (dk_at dksX1_casts_1 9 rfl rfl)
theorem dX1_casts_34 : decode cX1_casts 34 = .ok (.if_icmp .ge 95, 3) := dk_162 0 95 (dk_at dksX1_casts_1 10 rfl rfl)
theorem dX1_casts_37 : decode cX1_casts 37 = .ok (.aload_n 2, 1) := dk_44 (dk_at dksX1_casts_1 13 rfl rfl)
theorem dX1_casts_38 : decode cX1_casts 38 = .ok (.iload 5, 2) := dk_21 5 (dk_at dksX1_casts_1 14 rfl rfl)
theorem dX1_casts_40 : decode cX1_casts 40 = .ok (.aaload, 1) := dk_50 (dk_at dksX1_casts_1 16 rfl rfl)
theorem dX1_casts_41 : decode cX1_casts 41 = .ok (.ifnonnull 6, 3) := dk_199 0 6 (dk_at dksX1_casts_1 17 rfl rfl)
theorem dX1_casts_44 : decode cX1_casts 44 = .ok (.goto 79, 3) := dk_167 0 79 (dk_at dksX1_casts_1 20 rfl rfl)
theorem dX1_casts_47 : decode cX1_casts 47 = .ok (.aload_n 0, 1) := dk_42 (dk_at dksX1_casts_1 23 rfl rfl)
theorem dX1_casts_48 : decode cX1_casts 48 = .ok (.iload_n 1, 1) := dk_27 (dk_at dksX1_casts_2 0 rfl rfl)
theorem dX1_casts_49 : decode cX1_casts 49 = .ok (.iload 5, 2) := dk_21 5 (dk_at dksX1_casts_2 1 rfl rfl)
theorem dX1_casts_51 : decode cX1_casts 51 = .ok (.aload_n 0, 1) := dk_42 (dk_at dksX1_casts_2 3 rfl rfl)
theorem dX1_casts_52 : decode cX1_casts 52 = .ok (.getfield 27, 3) := dk_180 0 27 (dk_at dksX1_casts_2 4 rfl rfl)
theorem dX1_casts_55 : decode cX1_casts 55 = .ok (.invokevirtual 104, 3) := dk_182 0 104 (dk_at dksX1_casts_2 7 rfl rfl)
theorem dX1_casts_58 : decode cX1_casts 58 = .ok (.invokevirtual 175, 3) := dk_182 0 175 (dk_at dksX1_casts_2 10 rfl rfl)
theorem dX1_casts_61 : decode cX1_casts 61 = .ok (.invokestatic 220, 3) := dk_184 0 220 (dk_at dksX1_casts_2 13 rfl rfl)
theorem dX1_casts_64 : decode cX1_casts 64 = .ok (.istore 6, 2) := dk_54 6 (dk_at dksX1_casts_2 16 rfl rfl)
theorem dX1_casts_66 : decode cX1_casts 66 = .ok (.iconst 0, 1) := dk_3 (dk_at dksX1_casts_2 18 rfl rfl)
theorem dX1_casts_67 : decode cX1_casts 67 = .ok (.istore 7, 2) := dk_54 7 (dk_at dksX1_casts_2 19 rfl rfl)
theorem dX1_casts_69 : decode cX1_casts 69 = .ok (.iload 7, 2) := dk_21 7 (dk_at dksX1_casts_2 21 rfl rfl)
theorem dX1_casts_71 : decode cX1_casts 71 = .ok (.aload_n 2, 1) := dk_44 (dk_at dksX1_casts_2 23 rfl rfl)
theorem dX1_casts_72 : decode cX1_casts 72 = .ok (.iload 5, 2) := dk_21 5 (dk_at dksX1_casts_3 0 rfl rfl)
theorem dX1_casts_74 : decode cX1_casts 74 = .ok (.aaload, 1) := dk_50 (dk_at dksX1_casts_3 2 rfl rfl)
theorem dX1_casts_75 : decode cX1_casts 75 = .ok (.getfield 158, 3) := dk_180 0 158 (dk_at dksX1_casts_3 3 rfl rfl)
theorem dX1_casts_78 : decode cX1_casts 78 = .ok (.if_icmp .ge 18, 3) := dk_162 0 18 (dk_at dksX1_casts_3 6 rfl rfl)
theorem dX1_casts_81 : decode cX1_casts 81 = .ok (.lload_n 3, 1) := dk_33 (dk_at dksX1_casts_3 9 rfl rfl)
theorem dX1_casts_82 : decode cX1_casts 82 = .ok (.iload 6, 2) := dk_21 6 (dk_at dksX1_casts_3 10 rfl rfl)
theorem dX1_casts_84 : decode cX1_casts 84 = .ok (.iload 7, 2) := dk_21 7 (dk_at dksX1_casts_3 12 rfl rfl)
theorem dX1_casts_86 : decode cX1_casts 86 = .ok (.isub, 1) := dk_100 (dk_at dksX1_casts_3 14 rfl rfl)
theorem dX1_casts_87 : decode cX1_casts 87 = .ok (.i2l, 1) := dk_133 (dk_at dksX1_casts_3 15 rfl rfl)
theorem dX1_casts_88 : decode cX1_casts 88 = .ok (.lmul, 1) := dk_105 (dk_at dksX1_casts_3 16 rfl rfl)
theorem dX1_casts_89 : decode cX1_casts 89 = .ok (.lstore_n 3, 1) := dk_66 (dk_at dksX1_casts_3 17 rfl rfl)
theorem dX1_casts_90 : decode cX1_casts 90 = .ok (.iinc 7 1, 3) := dk_132 7 1 (dk_at dksX1_casts_3 18 rfl rfl)
theorem dX1_casts_93 : decode cX1_casts 93 = .ok (.goto (-24), 3) := dk_167 255 232 (dk_at dksX1_casts_3 21 rfl rfl)
theorem dX1_casts_96 : decode cX1_casts 96 = .ok (.iconst 2, 1) := dk_5 (dk_at dksX1_casts_4 0 rfl rfl)
theorem dX1_casts_97 : decode cX1_casts 97 = .ok (.istore 7, 2) := dk_54 7 (dk_at dksX1_casts_4 1 rfl rfl)
theorem dX1_casts_99 : decode cX1_casts 99 = .ok (.iload 7, 2) := dk_21 7 (dk_at dksX1_casts_4 3 rfl rfl)
theorem dX1_casts_101 : decode cX1_casts 101 = .ok (.aload_n 2, 1) := dk_44 (dk_at dksX1_casts_4 5 rfl rfl)
theorem dX1_casts_102 : decode cX1_casts 102 = .ok (.iload 5, 2) := dk_21 5 (dk_at dksX1_casts_4 6 rfl rfl)
theorem dX1_casts_104 : decode cX1_casts 104 = .ok (.aaload, 1) := dk_50 (dk_at dksX1_casts_4 8 rfl rfl)
theorem dX1_casts_105 : decode cX1_casts 105 = .ok (.getfield 158, 3) := dk_180 0 158 (dk_at dksX1_casts_4 9 rfl rfl)
theorem dX1_casts_108 : decode cX1_casts 108 = .ok (.if_icmp .gt 15, 3) := dk_163 0 15 (dk_at dksX1_casts_4 12 rfl rfl)
theorem dX1_casts_111 : decode cX1_casts 111 = .ok (.lload_n 3, 1) := dk_33 (dk_at dksX1_casts_4 15 rfl rfl)
theorem dX1_casts_112 : decode cX1_casts 112 = .ok (.iload 7, 2) := dk_21 7 (dk_at dksX1_casts_4 16 rfl rfl)
theorem dX1_casts_114 : decode cX1_casts 114 = .ok (.i2l, 1) := dk_133 (dk_at dksX1_casts_4 18 rfl rfl)
theorem dX1_casts_115 : decode cX1_casts 115 = .ok (.ldiv, 1) := dk_109 (dk_at dksX1_casts_4 19 rfl rfl)
theorem dX1_casts_116 : decode cX1_casts 116 = .ok (.lstore_n 3, 1) := dk_66 (dk_at dksX1_casts_4 20 rfl rfl)
theorem dX1_casts_117 : decode cX1_casts 117 = .ok (.iinc 7 1, 3) := dk_132 7 1 (dk_at dksX1_casts_4 21 rfl rfl)
theorem dX1_casts_120 : decode cX1_casts 120 = .ok (.goto (-21), 3) := dk_167 255 235 (dk_at dksX1_casts_5 0 rfl rfl)
theorem dX1_casts_123 : decode cX1_casts 123 = .ok (.iinc 5 1, 3) := dk_132 5 1 (dk_at dksX1_casts_5 3 rfl rfl)
theorem dX1_casts_126 : decode cX1_casts 126 = .ok (.goto (-95), 3) := dk_167 255 161 (dk_at dksX1_casts_5 6 rfl rfl)
theorem dX1_casts_129 : decode cX1_casts 129 = .ok (.lload_n 3, 1) := dk_33 (dk_at dksX1_casts_5 9 rfl rfl)
theorem dX1_casts_130 : decode cX1_casts 130 = .ok (.lreturn, 1) := dk_173 (dk_at dksX1_casts_5 10 rfl rfl)
abbrev cX1_holds : ByteArray := prog_1_method_64_code
def yX1_holds : MethodName := ⟨RX1, "holds", "(I)Z"⟩
def dkwX1_holds_0 : List UInt8 := [27, 4, 184, 0, 154, 42, 180, 0, 27, 27, 182, 1, 49, 172]
abbrev dktX1_holds_0 : List UInt8 := dkwX1_holds_0 ++ []
theorem dksX1_holds_0 : cX1_holds.data.toList.drop 0 = dktX1_holds_0 := by decide +kernel
theorem dX1_holds_0 : decode cX1_holds 0 = .ok (.iload_n 1, 1) := dk_27 (dk_at dksX1_holds_0 0 rfl rfl)
theorem dX1_holds_1 : decode cX1_holds 1 = .ok (.iconst 1, 1) := dk_4 (dk_at dksX1_holds_0 1 rfl rfl)
theorem dX1_holds_2 : decode cX1_holds 2 = .ok (.invokestatic 154, 3) := dk_184 0 154 (dk_at dksX1_holds_0 2 rfl rfl)
theorem dX1_holds_5 : decode cX1_holds 5 = .ok (.aload_n 0, 1) := dk_42 (dk_at dksX1_holds_0 5 rfl rfl)
theorem dX1_holds_6 : decode cX1_holds 6 = .ok (.getfield 27, 3) := dk_180 0 27 (dk_at dksX1_holds_0 6 rfl rfl)
theorem dX1_holds_9 : decode cX1_holds 9 = .ok (.iload_n 1, 1) := dk_27 (dk_at dksX1_holds_0 9 rfl rfl)
theorem dX1_holds_10 : decode cX1_holds 10 = .ok (.invokevirtual 305, 3) := dk_182 1 49 (dk_at dksX1_holds_0 10 rfl rfl)
theorem dX1_holds_13 : decode cX1_holds 13 = .ok (.ireturn, 1) := dk_172 (dk_at dksX1_holds_0 13 rfl rfl)
abbrev cX1_aimed : ByteArray := prog_1_method_65_code
def yX1_aimed : MethodName := ⟨RX1, "aimed", "(I)I"⟩
def dkwX1_aimed_0 : List UInt8 := [27, 4, 184, 0, 154, 42, 180, 0, 27, 27, 182, 1, 6, 172]
abbrev dktX1_aimed_0 : List UInt8 := dkwX1_aimed_0 ++ []
theorem dksX1_aimed_0 : cX1_aimed.data.toList.drop 0 = dktX1_aimed_0 := by decide +kernel
theorem dX1_aimed_0 : decode cX1_aimed 0 = .ok (.iload_n 1, 1) := dk_27 (dk_at dksX1_aimed_0 0 rfl rfl)
theorem dX1_aimed_1 : decode cX1_aimed 1 = .ok (.iconst 1, 1) := dk_4 (dk_at dksX1_aimed_0 1 rfl rfl)
theorem dX1_aimed_2 : decode cX1_aimed 2 = .ok (.invokestatic 154, 3) := dk_184 0 154 (dk_at dksX1_aimed_0 2 rfl rfl)
theorem dX1_aimed_5 : decode cX1_aimed 5 = .ok (.aload_n 0, 1) := dk_42 (dk_at dksX1_aimed_0 5 rfl rfl)
theorem dX1_aimed_6 : decode cX1_aimed 6 = .ok (.getfield 27, 3) := dk_180 0 27 (dk_at dksX1_aimed_0 6 rfl rfl)
theorem dX1_aimed_9 : decode cX1_aimed 9 = .ok (.iload_n 1, 1) := dk_27 (dk_at dksX1_aimed_0 9 rfl rfl)
theorem dX1_aimed_10 : decode cX1_aimed 10 = .ok (.invokevirtual 262, 3) := dk_182 1 6 (dk_at dksX1_aimed_0 10 rfl rfl)
theorem dX1_aimed_13 : decode cX1_aimed 13 = .ok (.ireturn, 1) := dk_172 (dk_at dksX1_aimed_0 13 rfl rfl)
abbrev cX1_held : ByteArray := prog_1_method_66_code
def yX1_held : MethodName := ⟨RX1, "held", "(II)I"⟩
def dkwX1_held_2 : List UInt8 := [182, 0, 195, 87, 132, 5, 1, 167, 255, 231, 21, 4, 172]
abbrev dktX1_held_2 : List UInt8 := dkwX1_held_2 ++ []
def dkwX1_held_1 : List UInt8 := [54, 4, 3, 54, 5, 21, 5, 28, 162, 0, 25, 45, 27, 182, 1, 49, 153, 0, 6, 132, 4, 1, 45]
abbrev dktX1_held_1 : List UInt8 := dkwX1_held_1 ++ dktX1_held_2
def dkwX1_held_0 : List UInt8 := [27, 4, 184, 0, 154, 28, 3, 16, 99, 184, 0, 113, 184, 0, 59, 42, 180, 0, 27, 182, 0, 178, 78, 3]
abbrev dktX1_held_0 : List UInt8 := dkwX1_held_0 ++ dktX1_held_1
theorem dksX1_held_0 : cX1_held.data.toList.drop 0 = dktX1_held_0 := by decide +kernel
theorem dksX1_held_1 : cX1_held.data.toList.drop 24 = dktX1_held_1 := dk_seg dksX1_held_0 24 rfl rfl
theorem dksX1_held_2 : cX1_held.data.toList.drop 47 = dktX1_held_2 := dk_seg dksX1_held_1 23 rfl rfl
theorem dX1_held_0 : decode cX1_held 0 = .ok (.iload_n 1, 1) := dk_27 (dk_at dksX1_held_0 0 rfl rfl)
theorem dX1_held_1 : decode cX1_held 1 = .ok (.iconst 1, 1) := dk_4 (dk_at dksX1_held_0 1 rfl rfl)
theorem dX1_held_2 : decode cX1_held 2 = .ok (.invokestatic 154, 3) := dk_184 0 154 (dk_at dksX1_held_0 2 rfl rfl)
theorem dX1_held_5 : decode cX1_held 5 = .ok (.iload_n 2, 1) := dk_28 (dk_at dksX1_held_0 5 rfl rfl)
theorem dX1_held_6 : decode cX1_held 6 = .ok (.iconst 0, 1) := dk_3 (dk_at dksX1_held_0 6 rfl rfl)
theorem dX1_held_7 : decode cX1_held 7 = .ok (.bipush 99, 2) := dk_16 99 (dk_at dksX1_held_0 7 rfl rfl)
theorem dX1_held_9 : decode cX1_held 9 = .ok (.invokestatic 113, 3) := dk_184 0 113 (dk_at dksX1_held_0 9 rfl rfl)
theorem dX1_held_12 : decode cX1_held 12 = .ok (.invokestatic 59, 3) := dk_184 0 59 (dk_at dksX1_held_0 12 rfl rfl)
theorem dX1_held_15 : decode cX1_held 15 = .ok (.aload_n 0, 1) := dk_42 (dk_at dksX1_held_0 15 rfl rfl)
theorem dX1_held_16 : decode cX1_held 16 = .ok (.getfield 27, 3) := dk_180 0 27 (dk_at dksX1_held_0 16 rfl rfl)
theorem dX1_held_19 : decode cX1_held 19 = .ok (.invokevirtual 178, 3) := dk_182 0 178 (dk_at dksX1_held_0 19 rfl rfl)
theorem dX1_held_22 : decode cX1_held 22 = .ok (.astore_n 3, 1) := dk_78 (dk_at dksX1_held_0 22 rfl rfl)
theorem dX1_held_23 : decode cX1_held 23 = .ok (.iconst 0, 1) := dk_3 (dk_at dksX1_held_0 23 rfl rfl)
theorem dX1_held_24 : decode cX1_held 24 = .ok (.istore 4, 2) := dk_54 4 (dk_at dksX1_held_1 0 rfl rfl)
theorem dX1_held_26 : decode cX1_held 26 = .ok (.iconst 0, 1) := dk_3 (dk_at dksX1_held_1 2 rfl rfl)
theorem dX1_held_27 : decode cX1_held 27 = .ok (.istore 5, 2) := dk_54 5 (dk_at dksX1_held_1 3 rfl rfl)
theorem dX1_held_29 : decode cX1_held 29 = .ok (.iload 5, 2) := dk_21 5 (dk_at dksX1_held_1 5 rfl rfl)
theorem dX1_held_31 : decode cX1_held 31 = .ok (.iload_n 2, 1) := dk_28 (dk_at dksX1_held_1 7 rfl rfl)
theorem dX1_held_32 : decode cX1_held 32 = .ok (.if_icmp .ge 25, 3) := dk_162 0 25 (dk_at dksX1_held_1 8 rfl rfl)
theorem dX1_held_35 : decode cX1_held 35 = .ok (.aload_n 3, 1) := dk_45 (dk_at dksX1_held_1 11 rfl rfl)
theorem dX1_held_36 : decode cX1_held 36 = .ok (.iload_n 1, 1) := dk_27 (dk_at dksX1_held_1 12 rfl rfl)
theorem dX1_held_37 : decode cX1_held 37 = .ok (.invokevirtual 305, 3) := dk_182 1 49 (dk_at dksX1_held_1 13 rfl rfl)
theorem dX1_held_40 : decode cX1_held 40 = .ok (.ifCond .eq 6, 3) := dk_153 0 6 (dk_at dksX1_held_1 16 rfl rfl)
theorem dX1_held_43 : decode cX1_held 43 = .ok (.iinc 4 1, 3) := dk_132 4 1 (dk_at dksX1_held_1 19 rfl rfl)
theorem dX1_held_46 : decode cX1_held 46 = .ok (.aload_n 3, 1) := dk_45 (dk_at dksX1_held_1 22 rfl rfl)
theorem dX1_held_47 : decode cX1_held 47 = .ok (.invokevirtual 195, 3) := dk_182 0 195 (dk_at dksX1_held_2 0 rfl rfl)
theorem dX1_held_50 : decode cX1_held 50 = .ok (.pop, 1) := dk_87 (dk_at dksX1_held_2 3 rfl rfl)
theorem dX1_held_51 : decode cX1_held 51 = .ok (.iinc 5 1, 3) := dk_132 5 1 (dk_at dksX1_held_2 4 rfl rfl)
theorem dX1_held_54 : decode cX1_held 54 = .ok (.goto (-25), 3) := dk_167 255 231 (dk_at dksX1_held_2 7 rfl rfl)
theorem dX1_held_57 : decode cX1_held 57 = .ok (.iload 4, 2) := dk_21 4 (dk_at dksX1_held_2 10 rfl rfl)
theorem dX1_held_59 : decode cX1_held 59 = .ok (.ireturn, 1) := dk_172 (dk_at dksX1_held_2 12 rfl rfl)
abbrev cX1_lost : ByteArray := prog_1_method_67_code
def yX1_lost : MethodName := ⟨RX1, "lost", "(I)I"⟩
def dkwX1_lost_2 : List UInt8 := [132, 3, 1, 167, 255, 222, 2, 172]
abbrev dktX1_lost_2 : List UInt8 := dkwX1_lost_2 ++ []
def dkwX1_lost_1 : List UInt8 := [180, 0, 16, 27, 44, 182, 0, 104, 182, 0, 232, 154, 0, 8, 44, 180, 0, 98, 172, 44, 182, 0, 195, 87]
abbrev dktX1_lost_1 : List UInt8 := dkwX1_lost_1 ++ dktX1_lost_2
def dkwX1_lost_0 : List UInt8 := [42, 27, 182, 0, 150, 87, 42, 180, 0, 27, 182, 0, 178, 77, 3, 62, 29, 16, 99, 162, 0, 34, 42]
abbrev dktX1_lost_0 : List UInt8 := dkwX1_lost_0 ++ dktX1_lost_1
theorem dksX1_lost_0 : cX1_lost.data.toList.drop 0 = dktX1_lost_0 := by decide +kernel
theorem dksX1_lost_1 : cX1_lost.data.toList.drop 23 = dktX1_lost_1 := dk_seg dksX1_lost_0 23 rfl rfl
theorem dksX1_lost_2 : cX1_lost.data.toList.drop 47 = dktX1_lost_2 := dk_seg dksX1_lost_1 24 rfl rfl
theorem dX1_lost_0 : decode cX1_lost 0 = .ok (.aload_n 0, 1) := dk_42 (dk_at dksX1_lost_0 0 rfl rfl)
theorem dX1_lost_1 : decode cX1_lost 1 = .ok (.iload_n 1, 1) := dk_27 (dk_at dksX1_lost_0 1 rfl rfl)
theorem dX1_lost_2 : decode cX1_lost 2 = .ok (.invokevirtual 150, 3) := dk_182 0 150 (dk_at dksX1_lost_0 2 rfl rfl)
theorem dX1_lost_5 : decode cX1_lost 5 = .ok (.pop, 1) := dk_87 (dk_at dksX1_lost_0 5 rfl rfl)
theorem dX1_lost_6 : decode cX1_lost 6 = .ok (.aload_n 0, 1) := dk_42 (dk_at dksX1_lost_0 6 rfl rfl)
theorem dX1_lost_7 : decode cX1_lost 7 = .ok (.getfield 27, 3) := dk_180 0 27 (dk_at dksX1_lost_0 7 rfl rfl)
theorem dX1_lost_10 : decode cX1_lost 10 = .ok (.invokevirtual 178, 3) := dk_182 0 178 (dk_at dksX1_lost_0 10 rfl rfl)
theorem dX1_lost_13 : decode cX1_lost 13 = .ok (.astore_n 2, 1) := dk_77 (dk_at dksX1_lost_0 13 rfl rfl)
theorem dX1_lost_14 : decode cX1_lost 14 = .ok (.iconst 0, 1) := dk_3 (dk_at dksX1_lost_0 14 rfl rfl)
theorem dX1_lost_15 : decode cX1_lost 15 = .ok (.istore_n 3, 1) := dk_62 (dk_at dksX1_lost_0 15 rfl rfl)
theorem dX1_lost_16 : decode cX1_lost 16 = .ok (.iload_n 3, 1) := dk_29 (dk_at dksX1_lost_0 16 rfl rfl)
theorem dX1_lost_17 : decode cX1_lost 17 = .ok (.bipush 99, 2) := dk_16 99 (dk_at dksX1_lost_0 17 rfl rfl)
theorem dX1_lost_19 : decode cX1_lost 19 = .ok (.if_icmp .ge 34, 3) := dk_162 0 34 (dk_at dksX1_lost_0 19 rfl rfl)
theorem dX1_lost_22 : decode cX1_lost 22 = .ok (.aload_n 0, 1) := dk_42 (dk_at dksX1_lost_0 22 rfl rfl)
theorem dX1_lost_23 : decode cX1_lost 23 = .ok (.getfield 16, 3) := dk_180 0 16 (dk_at dksX1_lost_1 0 rfl rfl)
theorem dX1_lost_26 : decode cX1_lost 26 = .ok (.iload_n 1, 1) := dk_27 (dk_at dksX1_lost_1 3 rfl rfl)
theorem dX1_lost_27 : decode cX1_lost 27 = .ok (.aload_n 2, 1) := dk_44 (dk_at dksX1_lost_1 4 rfl rfl)
theorem dX1_lost_28 : decode cX1_lost 28 = .ok (.invokevirtual 104, 3) := dk_182 0 104 (dk_at dksX1_lost_1 5 rfl rfl)
theorem dX1_lost_31 : decode cX1_lost 31 = .ok (.invokevirtual 232, 3) := dk_182 0 232 (dk_at dksX1_lost_1 8 rfl rfl)
theorem dX1_lost_34 : decode cX1_lost 34 = .ok (.ifCond .ne 8, 3) := dk_154 0 8 (dk_at dksX1_lost_1 11 rfl rfl)
theorem dX1_lost_37 : decode cX1_lost 37 = .ok (.aload_n 2, 1) := dk_44 (dk_at dksX1_lost_1 14 rfl rfl)
theorem dX1_lost_38 : decode cX1_lost 38 = .ok (.getfield 98, 3) := dk_180 0 98 (dk_at dksX1_lost_1 15 rfl rfl)
theorem dX1_lost_41 : decode cX1_lost 41 = .ok (.ireturn, 1) := dk_172 (dk_at dksX1_lost_1 18 rfl rfl)
theorem dX1_lost_42 : decode cX1_lost 42 = .ok (.aload_n 2, 1) := dk_44 (dk_at dksX1_lost_1 19 rfl rfl)
theorem dX1_lost_43 : decode cX1_lost 43 = .ok (.invokevirtual 195, 3) := dk_182 0 195 (dk_at dksX1_lost_1 20 rfl rfl)
theorem dX1_lost_46 : decode cX1_lost 46 = .ok (.pop, 1) := dk_87 (dk_at dksX1_lost_1 23 rfl rfl)
theorem dX1_lost_47 : decode cX1_lost 47 = .ok (.iinc 3 1, 3) := dk_132 3 1 (dk_at dksX1_lost_2 0 rfl rfl)
theorem dX1_lost_50 : decode cX1_lost 50 = .ok (.goto (-34), 3) := dk_167 255 222 (dk_at dksX1_lost_2 3 rfl rfl)
theorem dX1_lost_53 : decode cX1_lost 53 = .ok (.iconst (-1), 1) := dk_2 (dk_at dksX1_lost_2 6 rfl rfl)
theorem dX1_lost_54 : decode cX1_lost 54 = .ok (.ireturn, 1) := dk_172 (dk_at dksX1_lost_2 7 rfl rfl)
abbrev cX1_gone : ByteArray := prog_1_method_68_code
def yX1_gone : MethodName := ⟨RX1, "gone", "(I)I"⟩
def dkwX1_gone_1 : List UInt8 := [182, 1, 32, 154, 0, 8, 44, 180, 0, 98, 172, 44, 182, 0, 195, 87, 132, 3, 1, 167, 255, 229, 2, 172]
abbrev dktX1_gone_1 : List UInt8 := dkwX1_gone_1 ++ []
def dkwX1_gone_0 : List UInt8 := [27, 5, 184, 0, 154, 42, 180, 0, 27, 182, 0, 178, 77, 3, 62, 29, 16, 99, 162, 0, 27, 44, 27]
abbrev dktX1_gone_0 : List UInt8 := dkwX1_gone_0 ++ dktX1_gone_1
theorem dksX1_gone_0 : cX1_gone.data.toList.drop 0 = dktX1_gone_0 := by decide +kernel
theorem dksX1_gone_1 : cX1_gone.data.toList.drop 23 = dktX1_gone_1 := dk_seg dksX1_gone_0 23 rfl rfl
theorem dX1_gone_0 : decode cX1_gone 0 = .ok (.iload_n 1, 1) := dk_27 (dk_at dksX1_gone_0 0 rfl rfl)
theorem dX1_gone_1 : decode cX1_gone 1 = .ok (.iconst 2, 1) := dk_5 (dk_at dksX1_gone_0 1 rfl rfl)
theorem dX1_gone_2 : decode cX1_gone 2 = .ok (.invokestatic 154, 3) := dk_184 0 154 (dk_at dksX1_gone_0 2 rfl rfl)
theorem dX1_gone_5 : decode cX1_gone 5 = .ok (.aload_n 0, 1) := dk_42 (dk_at dksX1_gone_0 5 rfl rfl)
theorem dX1_gone_6 : decode cX1_gone 6 = .ok (.getfield 27, 3) := dk_180 0 27 (dk_at dksX1_gone_0 6 rfl rfl)
theorem dX1_gone_9 : decode cX1_gone 9 = .ok (.invokevirtual 178, 3) := dk_182 0 178 (dk_at dksX1_gone_0 9 rfl rfl)
theorem dX1_gone_12 : decode cX1_gone 12 = .ok (.astore_n 2, 1) := dk_77 (dk_at dksX1_gone_0 12 rfl rfl)
theorem dX1_gone_13 : decode cX1_gone 13 = .ok (.iconst 0, 1) := dk_3 (dk_at dksX1_gone_0 13 rfl rfl)
theorem dX1_gone_14 : decode cX1_gone 14 = .ok (.istore_n 3, 1) := dk_62 (dk_at dksX1_gone_0 14 rfl rfl)
theorem dX1_gone_15 : decode cX1_gone 15 = .ok (.iload_n 3, 1) := dk_29 (dk_at dksX1_gone_0 15 rfl rfl)
theorem dX1_gone_16 : decode cX1_gone 16 = .ok (.bipush 99, 2) := dk_16 99 (dk_at dksX1_gone_0 16 rfl rfl)
theorem dX1_gone_18 : decode cX1_gone 18 = .ok (.if_icmp .ge 27, 3) := dk_162 0 27 (dk_at dksX1_gone_0 18 rfl rfl)
theorem dX1_gone_21 : decode cX1_gone 21 = .ok (.aload_n 2, 1) := dk_44 (dk_at dksX1_gone_0 21 rfl rfl)
theorem dX1_gone_22 : decode cX1_gone 22 = .ok (.iload_n 1, 1) := dk_27 (dk_at dksX1_gone_0 22 rfl rfl)
theorem dX1_gone_23 : decode cX1_gone 23 = .ok (.invokevirtual 288, 3) := dk_182 1 32 (dk_at dksX1_gone_1 0 rfl rfl)
theorem dX1_gone_26 : decode cX1_gone 26 = .ok (.ifCond .ne 8, 3) := dk_154 0 8 (dk_at dksX1_gone_1 3 rfl rfl)
theorem dX1_gone_29 : decode cX1_gone 29 = .ok (.aload_n 2, 1) := dk_44 (dk_at dksX1_gone_1 6 rfl rfl)
theorem dX1_gone_30 : decode cX1_gone 30 = .ok (.getfield 98, 3) := dk_180 0 98 (dk_at dksX1_gone_1 7 rfl rfl)
theorem dX1_gone_33 : decode cX1_gone 33 = .ok (.ireturn, 1) := dk_172 (dk_at dksX1_gone_1 10 rfl rfl)
theorem dX1_gone_34 : decode cX1_gone 34 = .ok (.aload_n 2, 1) := dk_44 (dk_at dksX1_gone_1 11 rfl rfl)
theorem dX1_gone_35 : decode cX1_gone 35 = .ok (.invokevirtual 195, 3) := dk_182 0 195 (dk_at dksX1_gone_1 12 rfl rfl)
theorem dX1_gone_38 : decode cX1_gone 38 = .ok (.pop, 1) := dk_87 (dk_at dksX1_gone_1 15 rfl rfl)
theorem dX1_gone_39 : decode cX1_gone 39 = .ok (.iinc 3 1, 3) := dk_132 3 1 (dk_at dksX1_gone_1 16 rfl rfl)
theorem dX1_gone_42 : decode cX1_gone 42 = .ok (.goto (-27), 3) := dk_167 255 229 (dk_at dksX1_gone_1 19 rfl rfl)
theorem dX1_gone_45 : decode cX1_gone 45 = .ok (.iconst (-1), 1) := dk_2 (dk_at dksX1_gone_1 22 rfl rfl)
theorem dX1_gone_46 : decode cX1_gone 46 = .ok (.ireturn, 1) := dk_172 (dk_at dksX1_gone_1 23 rfl rfl)
abbrev cX1_rows : ByteArray := prog_1_method_69_code
def yX1_rows : MethodName := ⟨RX1, "rows", "(I)I"⟩
def dkwX1_rows_3 : List UInt8 := [167, 255, 198, 28, 172]
abbrev dktX1_rows_3 : List UInt8 := dkwX1_rows_3 ++ []
def dkwX1_rows_2 : List UInt8 := [182, 0, 175, 27, 184, 0, 209, 153, 0, 6, 132, 2, 1, 132, 4, 1, 167, 255, 223, 132, 3, 1]
abbrev dktX1_rows_2 : List UInt8 := dkwX1_rows_2 ++ dktX1_rows_3
def dkwX1_rows_1 : List UInt8 := [162, 0, 48, 3, 54, 4, 21, 4, 7, 162, 0, 33, 42, 29, 21, 4, 42, 180, 0, 27, 182, 0, 104]
abbrev dktX1_rows_1 : List UInt8 := dkwX1_rows_1 ++ dktX1_rows_2
def dkwX1_rows_0 : List UInt8 := [42, 27, 182, 0, 128, 87, 3, 61, 3, 62, 29, 42, 180, 0, 16, 180, 0, 92, 185, 0, 86, 1, 0]
abbrev dktX1_rows_0 : List UInt8 := dkwX1_rows_0 ++ dktX1_rows_1
theorem dksX1_rows_0 : cX1_rows.data.toList.drop 0 = dktX1_rows_0 := by decide +kernel
theorem dksX1_rows_1 : cX1_rows.data.toList.drop 23 = dktX1_rows_1 := dk_seg dksX1_rows_0 23 rfl rfl
theorem dksX1_rows_2 : cX1_rows.data.toList.drop 46 = dktX1_rows_2 := dk_seg dksX1_rows_1 23 rfl rfl
theorem dksX1_rows_3 : cX1_rows.data.toList.drop 68 = dktX1_rows_3 := dk_seg dksX1_rows_2 22 rfl rfl
theorem dX1_rows_0 : decode cX1_rows 0 = .ok (.aload_n 0, 1) := dk_42 (dk_at dksX1_rows_0 0 rfl rfl)
theorem dX1_rows_1 : decode cX1_rows 1 = .ok (.iload_n 1, 1) := dk_27 (dk_at dksX1_rows_0 1 rfl rfl)
theorem dX1_rows_2 : decode cX1_rows 2 = .ok (.invokevirtual 128, 3) := dk_182 0 128 (dk_at dksX1_rows_0 2 rfl rfl)
theorem dX1_rows_5 : decode cX1_rows 5 = .ok (.pop, 1) := dk_87 (dk_at dksX1_rows_0 5 rfl rfl)
theorem dX1_rows_6 : decode cX1_rows 6 = .ok (.iconst 0, 1) := dk_3 (dk_at dksX1_rows_0 6 rfl rfl)
theorem dX1_rows_7 : decode cX1_rows 7 = .ok (.istore_n 2, 1) := dk_61 (dk_at dksX1_rows_0 7 rfl rfl)
theorem dX1_rows_8 : decode cX1_rows 8 = .ok (.iconst 0, 1) := dk_3 (dk_at dksX1_rows_0 8 rfl rfl)
theorem dX1_rows_9 : decode cX1_rows 9 = .ok (.istore_n 3, 1) := dk_62 (dk_at dksX1_rows_0 9 rfl rfl)
theorem dX1_rows_10 : decode cX1_rows 10 = .ok (.iload_n 3, 1) := dk_29 (dk_at dksX1_rows_0 10 rfl rfl)
theorem dX1_rows_11 : decode cX1_rows 11 = .ok (.aload_n 0, 1) := dk_42 (dk_at dksX1_rows_0 11 rfl rfl)
theorem dX1_rows_12 : decode cX1_rows 12 = .ok (.getfield 16, 3) := dk_180 0 16 (dk_at dksX1_rows_0 12 rfl rfl)
theorem dX1_rows_15 : decode cX1_rows 15 = .ok (.getfield 92, 3) := dk_180 0 92 (dk_at dksX1_rows_0 15 rfl rfl)
theorem dX1_rows_18 : decode cX1_rows 18 = .ok (.invokeinterface 86 1, 5) := by decide +kernel
theorem dX1_rows_23 : decode cX1_rows 23 = .ok (.if_icmp .ge 48, 3) := dk_162 0 48 (dk_at dksX1_rows_1 0 rfl rfl)
theorem dX1_rows_26 : decode cX1_rows 26 = .ok (.iconst 0, 1) := dk_3 (dk_at dksX1_rows_1 3 rfl rfl)
theorem dX1_rows_27 : decode cX1_rows 27 = .ok (.istore 4, 2) := dk_54 4 (dk_at dksX1_rows_1 4 rfl rfl)
theorem dX1_rows_29 : decode cX1_rows 29 = .ok (.iload 4, 2) := dk_21 4 (dk_at dksX1_rows_1 6 rfl rfl)
theorem dX1_rows_31 : decode cX1_rows 31 = .ok (.iconst 4, 1) := dk_7 (dk_at dksX1_rows_1 8 rfl rfl)
theorem dX1_rows_32 : decode cX1_rows 32 = .ok (.if_icmp .ge 33, 3) := dk_162 0 33 (dk_at dksX1_rows_1 9 rfl rfl)
theorem dX1_rows_35 : decode cX1_rows 35 = .ok (.aload_n 0, 1) := dk_42 (dk_at dksX1_rows_1 12 rfl rfl)
theorem dX1_rows_36 : decode cX1_rows 36 = .ok (.iload_n 3, 1) := dk_29 (dk_at dksX1_rows_1 13 rfl rfl)
theorem dX1_rows_37 : decode cX1_rows 37 = .ok (.iload 4, 2) := dk_21 4 (dk_at dksX1_rows_1 14 rfl rfl)
theorem dX1_rows_39 : decode cX1_rows 39 = .ok (.aload_n 0, 1) := dk_42 (dk_at dksX1_rows_1 16 rfl rfl)
theorem dX1_rows_40 : decode cX1_rows 40 = .ok (.getfield 27, 3) := dk_180 0 27 (dk_at dksX1_rows_1 17 rfl rfl)
theorem dX1_rows_43 : decode cX1_rows 43 = .ok (.invokevirtual 104, 3) := dk_182 0 104 (dk_at dksX1_rows_1 20 rfl rfl)
theorem dX1_rows_46 : decode cX1_rows 46 = .ok (.invokevirtual 175, 3) := dk_182 0 175 (dk_at dksX1_rows_2 0 rfl rfl)
theorem dX1_rows_49 : decode cX1_rows 49 = .ok (.iload_n 1, 1) := dk_27 (dk_at dksX1_rows_2 3 rfl rfl)
theorem dX1_rows_50 : decode cX1_rows 50 = .ok (.invokestatic 209, 3) := dk_184 0 209 (dk_at dksX1_rows_2 4 rfl rfl)
theorem dX1_rows_53 : decode cX1_rows 53 = .ok (.ifCond .eq 6, 3) := dk_153 0 6 (dk_at dksX1_rows_2 7 rfl rfl)
theorem dX1_rows_56 : decode cX1_rows 56 = .ok (.iinc 2 1, 3) := dk_132 2 1 (dk_at dksX1_rows_2 10 rfl rfl)
theorem dX1_rows_59 : decode cX1_rows 59 = .ok (.iinc 4 1, 3) := dk_132 4 1 (dk_at dksX1_rows_2 13 rfl rfl)
theorem dX1_rows_62 : decode cX1_rows 62 = .ok (.goto (-33), 3) := dk_167 255 223 (dk_at dksX1_rows_2 16 rfl rfl)
theorem dX1_rows_65 : decode cX1_rows 65 = .ok (.iinc 3 1, 3) := dk_132 3 1 (dk_at dksX1_rows_2 19 rfl rfl)
theorem dX1_rows_68 : decode cX1_rows 68 = .ok (.goto (-58), 3) := dk_167 255 198 (dk_at dksX1_rows_3 0 rfl rfl)
theorem dX1_rows_71 : decode cX1_rows 71 = .ok (.iload_n 2, 1) := dk_28 (dk_at dksX1_rows_3 3 rfl rfl)
theorem dX1_rows_72 : decode cX1_rows 72 = .ok (.ireturn, 1) := dk_172 (dk_at dksX1_rows_3 4 rfl rfl)
theorem q100 : (Jvm.Cond.initialized "ValleyMass") ∈ lw_all := lw_g (lw_at lw_m1 1 rfl) rfl
theorem q136 : (Jvm.Cond.instantiable "ValleyMass" (13 : Nat)) ∈ lw_all := lw_g (lw_at lw_m1 37 rfl) rfl
theorem q138 : (Jvm.Cond.instanceMethod ({ cls := "ValleyMass", name := "<init>", desc := "()V" } : Jvm.MethodName)) ∈ lw_all := lw_g (lw_at lw_m1 39 rfl) rfl
theorem q139 : (Jvm.Cond.code ({ cls := "ValleyMass", name := "<init>", desc := "()V" } : Jvm.MethodName) prog_1_method_5_code (1 : Nat) (Option.none : Option Jvm.ClassFile.FieldType)) ∈ lw_all := lw_g (lw_at lw_m1 40 rfl) rfl
theorem q140 : (Jvm.Cond.methodLink "ValleyMass" (10 : Nat) ({ cls := "java/lang/Object", name := "<init>", desc := "()V" } : Jvm.MethodName)) ∈ lw_all := lw_g (lw_at lw_m1 41 rfl) rfl
theorem q143 : (Jvm.Cond.classLink "ValleyMass" (13 : Nat) "ValleyMass$Valley") ∈ lw_all := lw_g (lw_at lw_m1 44 rfl) rfl
theorem q145 : (Jvm.Cond.methodLinkNest "ValleyMass" (15 : Nat) ({ cls := "ValleyMass$Valley", name := "<init>", desc := "()V" } : Jvm.MethodName) "ValleyMass") ∈ lw_tbl := lw_at lw_m1 46 rfl
theorem q179 : (Jvm.Cond.fieldLinkNest "ValleyMass" (83 : Nat) "ValleyMass$Valley" "singers" "Ljava/util/List;" "ValleyMass") ∈ lw_tbl := lw_at lw_m1 80 rfl
theorem q182 : (Jvm.Cond.fieldLinkNest "ValleyMass" (92 : Nat) "ValleyMass$Valley" "pieces" "Ljava/util/List;" "ValleyMass") ∈ lw_tbl := lw_at lw_m1 83 rfl
theorem q192 : (Jvm.Cond.fieldLinkNest "ValleyMass" (95 : Nat) "ValleyMass$Valley" "every" "I" "ValleyMass") ∈ lw_tbl := lw_at lw_m1 93 rfl
theorem q205 : (Jvm.Cond.classLink "ValleyMass" (22 : Nat) "ValleyMass$State") ∈ lw_all := lw_g (lw_at lw_m1 106 rfl) rfl
theorem q207 : (Jvm.Cond.methodLinkNest "ValleyMass" (24 : Nat) ({ cls := "ValleyMass$State", name := "<init>", desc := "(LValleyMass;)V" } : Jvm.MethodName) "ValleyMass") ∈ lw_tbl := lw_at lw_m1 108 rfl
theorem q212 : (Jvm.Cond.fieldLinkNest "ValleyMass" (147 : Nat) "ValleyMass$State" "how" "[I" "ValleyMass") ∈ lw_tbl := lw_at lw_m1 113 rfl
theorem q214 : (Jvm.Cond.fieldLinkNest "ValleyMass" (98 : Nat) "ValleyMass$State" "day" "I" "ValleyMass") ∈ lw_tbl := lw_at lw_m1 115 rfl
theorem q216 : (Jvm.Cond.fieldLinkNest "ValleyMass" (101 : Nat) "ValleyMass$State" "sung" "I" "ValleyMass") ∈ lw_tbl := lw_at lw_m1 117 rfl
theorem q228 : (Jvm.Cond.classLink "ValleyMass" (46 : Nat) "java/util/ArrayList") ∈ lw_all := lw_g (lw_at lw_m1 129 rfl) rfl
theorem q229 : (Jvm.Cond.methodLink "ValleyMass" (48 : Nat) ({ cls := "java/util/ArrayList", name := "<init>", desc := "()V" } : Jvm.MethodName)) ∈ lw_all := lw_g (lw_at lw_m1 130 rfl) rfl
theorem q231 : (Jvm.Cond.fieldLink "ValleyMass" (16 : Nat) "ValleyMass" "valley" "LValleyMass$Valley;") ∈ lw_all := lw_g (lw_at lw_m1 132 rfl) rfl
theorem q232 : (Jvm.Cond.fieldLink "ValleyMass" (27 : Nat) "ValleyMass" "now" "LValleyMass$State;") ∈ lw_all := lw_g (lw_at lw_m1 133 rfl) rfl
theorem q233 : (Jvm.Cond.fieldLink "ValleyMass" (31 : Nat) "ValleyMass" "values" "[I") ∈ lw_all := lw_g (lw_at lw_m1 134 rfl) rfl
theorem q236 : (Jvm.Cond.fieldLink "ValleyMass" (35 : Nat) "ValleyMass" "tape" "[B") ∈ lw_all := lw_g (lw_at lw_m1 137 rfl) rfl
theorem q237 : (Jvm.Cond.fieldLink "ValleyMass" (56 : Nat) "ValleyMass" "taped" "I") ∈ lw_all := lw_g (lw_at lw_m1 138 rfl) rfl
theorem q238 : (Jvm.Cond.fieldLink "ValleyMass" (39 : Nat) "ValleyMass" "faultPlace" "I") ∈ lw_all := lw_g (lw_at lw_m1 139 rfl) rfl
theorem q239 : (Jvm.Cond.fieldLink "ValleyMass" (43 : Nat) "ValleyMass" "refused" "[I") ∈ lw_all := lw_g (lw_at lw_m1 140 rfl) rfl
theorem q240 : (Jvm.Cond.fieldLink "ValleyMass" (49 : Nat) "ValleyMass" "acts" "Ljava/util/List;") ∈ lw_all := lw_g (lw_at lw_m1 141 rfl) rfl
theorem q241 : (Jvm.Cond.fieldLink "ValleyMass" (53 : Nat) "ValleyMass" "heard" "Ljava/util/List;") ∈ lw_all := lw_g (lw_at lw_m1 142 rfl) rfl
theorem q242 : (Jvm.Cond.fieldLink "ValleyMass" (80 : Nat) "ValleyMass" "nowThen" "LValleyMass$State;") ∈ lw_all := lw_g (lw_at lw_m1 143 rfl) rfl
theorem q243 : (Jvm.Cond.fieldLink "ValleyMass" (311 : Nat) "ValleyMass" "actsThen" "Ljava/util/List;") ∈ lw_all := lw_g (lw_at lw_m1 144 rfl) rfl
theorem q244 : (Jvm.Cond.fieldLink "ValleyMass" (314 : Nat) "ValleyMass" "heardThen" "Ljava/util/List;") ∈ lw_all := lw_g (lw_at lw_m1 145 rfl) rfl
theorem q245 : (Jvm.Cond.fieldLink "ValleyMass" (272 : Nat) "ValleyMass" "seed" "I") ∈ lw_all := lw_g (lw_at lw_m1 146 rfl) rfl
theorem q246 : (Jvm.Cond.lays "ValleyMass" "ValleyMass" "valley" "LValleyMass$Valley;") ∈ lw_all := lw_g (lw_at lw_m1 147 rfl) rfl
theorem q247 : (Jvm.Cond.soleField "ValleyMass" "valley") ∈ lw_all := lw_g (lw_at lw_m1 148 rfl) rfl
theorem q248 : (Jvm.Cond.lays "ValleyMass" "ValleyMass" "now" "LValleyMass$State;") ∈ lw_all := lw_g (lw_at lw_m1 149 rfl) rfl
theorem q249 : (Jvm.Cond.soleField "ValleyMass" "now") ∈ lw_all := lw_g (lw_at lw_m1 150 rfl) rfl
theorem q250 : (Jvm.Cond.laysFinal "ValleyMass" "ValleyMass" "values" "[I") ∈ lw_all := lw_g (lw_at lw_m1 151 rfl) rfl
theorem q251 : (Jvm.Cond.soleField "ValleyMass" "values") ∈ lw_all := lw_g (lw_at lw_m1 152 rfl) rfl
theorem q252 : (Jvm.Cond.laysFinal "ValleyMass" "ValleyMass" "tape" "[B") ∈ lw_all := lw_g (lw_at lw_m1 153 rfl) rfl
theorem q253 : (Jvm.Cond.soleField "ValleyMass" "tape") ∈ lw_all := lw_g (lw_at lw_m1 154 rfl) rfl
theorem q254 : (Jvm.Cond.lays "ValleyMass" "ValleyMass" "taped" "I") ∈ lw_all := lw_g (lw_at lw_m1 155 rfl) rfl
theorem q255 : (Jvm.Cond.soleField "ValleyMass" "taped") ∈ lw_all := lw_g (lw_at lw_m1 156 rfl) rfl
theorem q256 : (Jvm.Cond.lays "ValleyMass" "ValleyMass" "faultPlace" "I") ∈ lw_all := lw_g (lw_at lw_m1 157 rfl) rfl
theorem q257 : (Jvm.Cond.soleField "ValleyMass" "faultPlace") ∈ lw_all := lw_g (lw_at lw_m1 158 rfl) rfl
theorem q258 : (Jvm.Cond.laysFinal "ValleyMass" "ValleyMass" "refused" "[I") ∈ lw_all := lw_g (lw_at lw_m1 159 rfl) rfl
theorem q259 : (Jvm.Cond.soleField "ValleyMass" "refused") ∈ lw_all := lw_g (lw_at lw_m1 160 rfl) rfl
theorem q260 : (Jvm.Cond.lays "ValleyMass" "ValleyMass" "acts" "Ljava/util/List;") ∈ lw_all := lw_g (lw_at lw_m1 161 rfl) rfl
theorem q261 : (Jvm.Cond.soleField "ValleyMass" "acts") ∈ lw_all := lw_g (lw_at lw_m1 162 rfl) rfl
theorem q262 : (Jvm.Cond.lays "ValleyMass" "ValleyMass" "heard" "Ljava/util/List;") ∈ lw_all := lw_g (lw_at lw_m1 163 rfl) rfl
theorem q263 : (Jvm.Cond.soleField "ValleyMass" "heard") ∈ lw_all := lw_g (lw_at lw_m1 164 rfl) rfl
theorem q264 : (Jvm.Cond.lays "ValleyMass" "ValleyMass" "nowThen" "LValleyMass$State;") ∈ lw_all := lw_g (lw_at lw_m1 165 rfl) rfl
theorem q265 : (Jvm.Cond.soleField "ValleyMass" "nowThen") ∈ lw_all := lw_g (lw_at lw_m1 166 rfl) rfl
theorem q266 : (Jvm.Cond.lays "ValleyMass" "ValleyMass" "actsThen" "Ljava/util/List;") ∈ lw_all := lw_g (lw_at lw_m1 167 rfl) rfl
theorem q267 : (Jvm.Cond.soleField "ValleyMass" "actsThen") ∈ lw_all := lw_g (lw_at lw_m1 168 rfl) rfl
theorem q268 : (Jvm.Cond.lays "ValleyMass" "ValleyMass" "heardThen" "Ljava/util/List;") ∈ lw_all := lw_g (lw_at lw_m1 169 rfl) rfl
theorem q269 : (Jvm.Cond.soleField "ValleyMass" "heardThen") ∈ lw_all := lw_g (lw_at lw_m1 170 rfl) rfl
theorem q270 : (Jvm.Cond.lays "ValleyMass" "ValleyMass" "seed" "I") ∈ lw_all := lw_g (lw_at lw_m1 171 rfl) rfl
theorem q271 : (Jvm.Cond.soleField "ValleyMass" "seed") ∈ lw_all := lw_g (lw_at lw_m1 172 rfl) rfl
theorem q272 : (Jvm.Cond.superclass "ValleyMass" "java/lang/Object") ∈ lw_all := lw_g (lw_at lw_m1 173 rfl) rfl
theorem q275 : (Jvm.Cond.instanceMethod ({ cls := "ValleyMass", name := "feed", desc := "(IIIII)I" } : Jvm.MethodName)) ∈ lw_all := lw_g (lw_at lw_m1 176 rfl) rfl
theorem q276 : (Jvm.Cond.selects "ValleyMass" ({ cls := "ValleyMass", name := "feed", desc := "(IIIII)I" } : Jvm.MethodName) ({ cls := "ValleyMass", name := "feed", desc := "(IIIII)I" } : Jvm.MethodName)) ∈ lw_all := lw_g (lw_at lw_m1 177 rfl) rfl
theorem q277 : (Jvm.Cond.code ({ cls := "ValleyMass", name := "feed", desc := "(IIIII)I" } : Jvm.MethodName) prog_1_method_6_code (8 : Nat) (Option.some Jvm.ClassFile.FieldType.int)) ∈ lw_all := lw_g (lw_at lw_m1 178 rfl) rfl
theorem q279 : (Jvm.Cond.instanceMethod ({ cls := "ValleyMass", name := "fault", desc := "()I" } : Jvm.MethodName)) ∈ lw_all := lw_g (lw_at lw_m1 180 rfl) rfl
theorem q280 : (Jvm.Cond.selects "ValleyMass" ({ cls := "ValleyMass", name := "fault", desc := "()I" } : Jvm.MethodName) ({ cls := "ValleyMass", name := "fault", desc := "()I" } : Jvm.MethodName)) ∈ lw_all := lw_g (lw_at lw_m1 181 rfl) rfl
theorem q281 : (Jvm.Cond.code ({ cls := "ValleyMass", name := "fault", desc := "()I" } : Jvm.MethodName) prog_1_method_8_code (1 : Nat) (Option.some Jvm.ClassFile.FieldType.int)) ∈ lw_all := lw_g (lw_at lw_m1 182 rfl) rfl
theorem q283 : (Jvm.Cond.instanceMethod ({ cls := "ValleyMass", name := "days", desc := "(I)I" } : Jvm.MethodName)) ∈ lw_all := lw_g (lw_at lw_m1 184 rfl) rfl
theorem q284 : (Jvm.Cond.selects "ValleyMass" ({ cls := "ValleyMass", name := "days", desc := "(I)I" } : Jvm.MethodName) ({ cls := "ValleyMass", name := "days", desc := "(I)I" } : Jvm.MethodName)) ∈ lw_all := lw_g (lw_at lw_m1 185 rfl) rfl
theorem q285 : (Jvm.Cond.code ({ cls := "ValleyMass", name := "days", desc := "(I)I" } : Jvm.MethodName) prog_1_method_19_code (3 : Nat) (Option.some Jvm.ClassFile.FieldType.int)) ∈ lw_all := lw_g (lw_at lw_m1 186 rfl) rfl
theorem q286 : (Jvm.Cond.methodLink "ValleyMass" (113 : Nat) ({ cls := "ValleyMass", name := "in", desc := "(III)Z" } : Jvm.MethodName)) ∈ lw_all := lw_g (lw_at lw_m1 187 rfl) rfl
theorem q287 : (Jvm.Cond.static ({ cls := "ValleyMass", name := "in", desc := "(III)Z" } : Jvm.MethodName)) ∈ lw_all := lw_g (lw_at lw_m1 188 rfl) rfl
theorem q288 : (Jvm.Cond.code ({ cls := "ValleyMass", name := "in", desc := "(III)Z" } : Jvm.MethodName) prog_1_method_1_code (3 : Nat) (Option.some Jvm.ClassFile.FieldType.boolean)) ∈ lw_all := lw_g (lw_at lw_m1 189 rfl) rfl
theorem q289 : (Jvm.Cond.methodLink "ValleyMass" (189 : Nat) ({ cls := "ValleyMass", name := "refuse", desc := "(I)I" } : Jvm.MethodName)) ∈ lw_all := lw_g (lw_at lw_m1 190 rfl) rfl
theorem q290 : (Jvm.Cond.privateMethod ({ cls := "ValleyMass", name := "refuse", desc := "(I)I" } : Jvm.MethodName)) ∈ lw_tbl := lw_at lw_m1 191 rfl
theorem q291 : (Jvm.Cond.instanceMethod ({ cls := "ValleyMass", name := "refuse", desc := "(I)I" } : Jvm.MethodName)) ∈ lw_all := lw_g (lw_at lw_m1 192 rfl) rfl
theorem q292 : (Jvm.Cond.code ({ cls := "ValleyMass", name := "refuse", desc := "(I)I" } : Jvm.MethodName) prog_1_method_18_code (2 : Nat) (Option.some Jvm.ClassFile.FieldType.int)) ∈ lw_all := lw_g (lw_at lw_m1 193 rfl) rfl
theorem q293 : (Jvm.Cond.methodLink "ValleyMass" (192 : Nat) ({ cls := "ValleyMass", name := "keep", desc := "()V" } : Jvm.MethodName)) ∈ lw_all := lw_g (lw_at lw_m1 194 rfl) rfl
theorem q294 : (Jvm.Cond.privateMethod ({ cls := "ValleyMass", name := "keep", desc := "()V" } : Jvm.MethodName)) ∈ lw_tbl := lw_at lw_m1 195 rfl
theorem q295 : (Jvm.Cond.instanceMethod ({ cls := "ValleyMass", name := "keep", desc := "()V" } : Jvm.MethodName)) ∈ lw_all := lw_g (lw_at lw_m1 196 rfl) rfl
theorem q296 : (Jvm.Cond.code ({ cls := "ValleyMass", name := "keep", desc := "()V" } : Jvm.MethodName) prog_1_method_17_code (1 : Nat) (Option.none : Option Jvm.ClassFile.FieldType)) ∈ lw_all := lw_g (lw_at lw_m1 197 rfl) rfl
theorem q297 : (Jvm.Cond.methodLink "ValleyMass" (178 : Nat) ({ cls := "ValleyMass$State", name := "copy", desc := "()LValleyMass$State;" } : Jvm.MethodName)) ∈ lw_all := lw_g (lw_at lw_m1 198 rfl) rfl
theorem q303 : (Jvm.Cond.interfaceEntry "ValleyMass" (182 : Nat)) ∈ lw_tbl := lw_at lw_m1 204 rfl
theorem q304 : (Jvm.Cond.methodLink "ValleyMass" (182 : Nat) ({ cls := "java/util/List", name := "add", desc := "(Ljava/lang/Object;)Z" } : Jvm.MethodName)) ∈ lw_all := lw_g (lw_at lw_m1 205 rfl) rfl
theorem q341 : (Jvm.Cond.selects "ValleyMass" ({ cls := "java/lang/Object", name := "getClass", desc := "()Ljava/lang/Class;" } : Jvm.MethodName) ({ cls := "java/lang/Object", name := "getClass", desc := "()Ljava/lang/Class;" } : Jvm.MethodName)) ∈ lw_all := lw_g (lw_at lw_m2 2 rfl) rfl
theorem q373 : (Jvm.Cond.interfaceEntry "ValleyMass" (86 : Nat)) ∈ lw_tbl := lw_at lw_m2 34 rfl
theorem q374 : (Jvm.Cond.methodLink "ValleyMass" (86 : Nat) ({ cls := "java/util/List", name := "size", desc := "()I" } : Jvm.MethodName)) ∈ lw_all := lw_g (lw_at lw_m2 35 rfl) rfl
theorem q382 : (Jvm.Cond.interfaceEntry "ValleyMass" (186 : Nat)) ∈ lw_tbl := lw_at lw_m2 43 rfl
theorem q383 : (Jvm.Cond.methodLink "ValleyMass" (186 : Nat) ({ cls := "java/util/List", name := "remove", desc := "(I)Ljava/lang/Object;" } : Jvm.MethodName)) ∈ lw_all := lw_g (lw_at lw_m2 44 rfl) rfl
theorem q402 : (Jvm.Cond.methodLink "ValleyMass" (195 : Nat) ({ cls := "ValleyMass$State", name := "pass", desc := "()I" } : Jvm.MethodName)) ∈ lw_all := lw_g (lw_at lw_m2 63 rfl) rfl
theorem q453 : (Jvm.Cond.static ({ cls := "ValleyMass", name := "isOf", desc := "(II)Z" } : Jvm.MethodName)) ∈ lw_all := lw_g (lw_at lw_m2 114 rfl) rfl
theorem q454 : (Jvm.Cond.code ({ cls := "ValleyMass", name := "isOf", desc := "(II)Z" } : Jvm.MethodName) prog_1_method_4_code (2 : Nat) (Option.some Jvm.ClassFile.FieldType.boolean)) ∈ lw_all := lw_g (lw_at lw_m2 115 rfl) rfl
theorem q572 : (Jvm.Cond.instanceMethod ({ cls := "ValleyMass", name := "undo", desc := "()I" } : Jvm.MethodName)) ∈ lw_all := lw_g (lw_at lw_m2 233 rfl) rfl
theorem q573 : (Jvm.Cond.selects "ValleyMass" ({ cls := "ValleyMass", name := "undo", desc := "()I" } : Jvm.MethodName) ({ cls := "ValleyMass", name := "undo", desc := "()I" } : Jvm.MethodName)) ∈ lw_all := lw_g (lw_at lw_m2 234 rfl) rfl
theorem q574 : (Jvm.Cond.code ({ cls := "ValleyMass", name := "undo", desc := "()I" } : Jvm.MethodName) prog_1_method_25_code (1 : Nat) (Option.some Jvm.ClassFile.FieldType.int)) ∈ lw_all := lw_g (lw_at lw_m2 235 rfl) rfl
theorem q575 : (Jvm.Cond.interfaceEntry "ValleyMass" (201 : Nat)) ∈ lw_tbl := lw_at lw_m2 236 rfl
theorem q576 : (Jvm.Cond.methodLink "ValleyMass" (201 : Nat) ({ cls := "java/util/List", name := "isEmpty", desc := "()Z" } : Jvm.MethodName)) ∈ lw_all := lw_g (lw_at lw_m2 237 rfl) rfl
theorem q585 : (Jvm.Cond.instanceMethod ({ cls := "ValleyMass", name := "keys", desc := "()I" } : Jvm.MethodName)) ∈ lw_all := lw_g (lw_at lw_m3 6 rfl) rfl
theorem q586 : (Jvm.Cond.selects "ValleyMass" ({ cls := "ValleyMass", name := "keys", desc := "()I" } : Jvm.MethodName) ({ cls := "ValleyMass", name := "keys", desc := "()I" } : Jvm.MethodName)) ∈ lw_all := lw_g (lw_at lw_m3 7 rfl) rfl
theorem q587 : (Jvm.Cond.code ({ cls := "ValleyMass", name := "keys", desc := "()I" } : Jvm.MethodName) prog_1_method_31_code (5 : Nat) (Option.some Jvm.ClassFile.FieldType.int)) ∈ lw_all := lw_g (lw_at lw_m3 8 rfl) rfl
theorem q588 : (Jvm.Cond.methodLink "ValleyMass" (104 : Nat) ({ cls := "ValleyMass$State", name := "free", desc := "()I" } : Jvm.MethodName)) ∈ lw_all := lw_g (lw_at lw_m3 9 rfl) rfl
theorem q589 : (Jvm.Cond.methodLink "ValleyMass" (111 : Nat) ({ cls := "ValleyMass$Valley", name := "sung", desc := "(I)I" } : Jvm.MethodName)) ∈ lw_all := lw_g (lw_at lw_m3 10 rfl) rfl
theorem q590 : (Jvm.Cond.methodLink "ValleyMass" (220 : Nat) ({ cls := "java/lang/Integer", name := "bitCount", desc := "(I)I" } : Jvm.MethodName)) ∈ lw_all := lw_g (lw_at lw_m3 11 rfl) rfl
theorem q591 : (Jvm.Cond.methodLink "ValleyMass" (209 : Nat) ({ cls := "ValleyMass", name := "isOf", desc := "(II)Z" } : Jvm.MethodName)) ∈ lw_all := lw_g (lw_at lw_m3 12 rfl) rfl
theorem q593 : (Jvm.Cond.instanceMethod ({ cls := "ValleyMass", name := "peace", desc := "()I" } : Jvm.MethodName)) ∈ lw_all := lw_g (lw_at lw_m3 14 rfl) rfl
theorem q594 : (Jvm.Cond.selects "ValleyMass" ({ cls := "ValleyMass", name := "peace", desc := "()I" } : Jvm.MethodName) ({ cls := "ValleyMass", name := "peace", desc := "()I" } : Jvm.MethodName)) ∈ lw_all := lw_g (lw_at lw_m3 15 rfl) rfl
theorem q595 : (Jvm.Cond.code ({ cls := "ValleyMass", name := "peace", desc := "()I" } : Jvm.MethodName) prog_1_method_33_code (3 : Nat) (Option.some Jvm.ClassFile.FieldType.int)) ∈ lw_all := lw_g (lw_at lw_m3 16 rfl) rfl
theorem q597 : (Jvm.Cond.instanceMethod ({ cls := "ValleyMass", name := "silent", desc := "()I" } : Jvm.MethodName)) ∈ lw_all := lw_g (lw_at lw_m3 18 rfl) rfl
theorem q598 : (Jvm.Cond.selects "ValleyMass" ({ cls := "ValleyMass", name := "silent", desc := "()I" } : Jvm.MethodName) ({ cls := "ValleyMass", name := "silent", desc := "()I" } : Jvm.MethodName)) ∈ lw_all := lw_g (lw_at lw_m3 19 rfl) rfl
theorem q599 : (Jvm.Cond.code ({ cls := "ValleyMass", name := "silent", desc := "()I" } : Jvm.MethodName) prog_1_method_34_code (3 : Nat) (Option.some Jvm.ClassFile.FieldType.int)) ∈ lw_all := lw_g (lw_at lw_m3 20 rfl) rfl
theorem q600 : (Jvm.Cond.methodLink "ValleyMass" (241 : Nat) ({ cls := "ValleyMass$State", name := "isEvening", desc := "()Z" } : Jvm.MethodName)) ∈ lw_all := lw_g (lw_at lw_m3 21 rfl) rfl
theorem q602 : (Jvm.Cond.instanceMethod ({ cls := "ValleyMass", name := "duet", desc := "()I" } : Jvm.MethodName)) ∈ lw_all := lw_g (lw_at lw_m3 23 rfl) rfl
theorem q603 : (Jvm.Cond.selects "ValleyMass" ({ cls := "ValleyMass", name := "duet", desc := "()I" } : Jvm.MethodName) ({ cls := "ValleyMass", name := "duet", desc := "()I" } : Jvm.MethodName)) ∈ lw_all := lw_g (lw_at lw_m3 24 rfl) rfl
theorem q604 : (Jvm.Cond.code ({ cls := "ValleyMass", name := "duet", desc := "()I" } : Jvm.MethodName) prog_1_method_37_code (3 : Nat) (Option.some Jvm.ClassFile.FieldType.int)) ∈ lw_all := lw_g (lw_at lw_m3 25 rfl) rfl
theorem q605 : (Jvm.Cond.methodLink "ValleyMass" (244 : Nat) ({ cls := "ValleyMass", name := "areSung", desc := "(I)Z" } : Jvm.MethodName)) ∈ lw_all := lw_g (lw_at lw_m3 26 rfl) rfl
theorem q606 : (Jvm.Cond.privateMethod ({ cls := "ValleyMass", name := "areSung", desc := "(I)Z" } : Jvm.MethodName)) ∈ lw_tbl := lw_at lw_m3 27 rfl
theorem q607 : (Jvm.Cond.instanceMethod ({ cls := "ValleyMass", name := "areSung", desc := "(I)Z" } : Jvm.MethodName)) ∈ lw_all := lw_g (lw_at lw_m3 28 rfl) rfl
theorem q608 : (Jvm.Cond.code ({ cls := "ValleyMass", name := "areSung", desc := "(I)Z" } : Jvm.MethodName) prog_1_method_36_code (8 : Nat) (Option.some Jvm.ClassFile.FieldType.boolean)) ∈ lw_all := lw_g (lw_at lw_m3 29 rfl) rfl
theorem q609 : (Jvm.Cond.methodLink "ValleyMass" (232 : Nat) ({ cls := "ValleyMass$Valley", name := "isSung", desc := "(II)Z" } : Jvm.MethodName)) ∈ lw_all := lw_g (lw_at lw_m3 30 rfl) rfl
theorem q610 : (Jvm.Cond.interfaceEntry "ValleyMass" (120 : Nat)) ∈ lw_tbl := lw_at lw_m3 31 rfl
theorem q611 : (Jvm.Cond.methodLink "ValleyMass" (120 : Nat) ({ cls := "java/util/List", name := "get", desc := "(I)Ljava/lang/Object;" } : Jvm.MethodName)) ∈ lw_all := lw_g (lw_at lw_m3 32 rfl) rfl
theorem q612 : (Jvm.Cond.classLink "ValleyMass" (126 : Nat) "[LValleyMass$Row;") ∈ lw_all := lw_g (lw_at lw_m3 33 rfl) rfl
theorem q613 : (Jvm.Cond.methodLink "ValleyMass" (175 : Nat) ({ cls := "ValleyMass", name := "able", desc := "(III)I" } : Jvm.MethodName)) ∈ lw_all := lw_g (lw_at lw_m3 34 rfl) rfl
theorem q614 : (Jvm.Cond.privateMethod ({ cls := "ValleyMass", name := "able", desc := "(III)I" } : Jvm.MethodName)) ∈ lw_tbl := lw_at lw_m3 35 rfl
theorem q615 : (Jvm.Cond.instanceMethod ({ cls := "ValleyMass", name := "able", desc := "(III)I" } : Jvm.MethodName)) ∈ lw_all := lw_g (lw_at lw_m3 36 rfl) rfl
theorem q616 : (Jvm.Cond.code ({ cls := "ValleyMass", name := "able", desc := "(III)I" } : Jvm.MethodName) prog_1_method_15_code (5 : Nat) (Option.some Jvm.ClassFile.FieldType.int)) ∈ lw_all := lw_g (lw_at lw_m3 37 rfl) rfl
theorem q617 : (Jvm.Cond.methodLink "ValleyMass" (171 : Nat) ({ cls := "ValleyMass$Valley", name := "able", desc := "(LValleyMass$Row;III)I" } : Jvm.MethodName)) ∈ lw_all := lw_g (lw_at lw_m3 38 rfl) rfl
theorem q619 : (Jvm.Cond.instanceMethod ({ cls := "ValleyMass", name := "evening", desc := "()I" } : Jvm.MethodName)) ∈ lw_all := lw_g (lw_at lw_m3 40 rfl) rfl
theorem q620 : (Jvm.Cond.selects "ValleyMass" ({ cls := "ValleyMass", name := "evening", desc := "()I" } : Jvm.MethodName) ({ cls := "ValleyMass", name := "evening", desc := "()I" } : Jvm.MethodName)) ∈ lw_all := lw_g (lw_at lw_m3 41 rfl) rfl
theorem q621 : (Jvm.Cond.code ({ cls := "ValleyMass", name := "evening", desc := "()I" } : Jvm.MethodName) prog_1_method_38_code (3 : Nat) (Option.some Jvm.ClassFile.FieldType.int)) ∈ lw_all := lw_g (lw_at lw_m3 42 rfl) rfl
theorem q623 : (Jvm.Cond.instanceMethod ({ cls := "ValleyMass", name := "forget", desc := "()V" } : Jvm.MethodName)) ∈ lw_all := lw_g (lw_at lw_m3 44 rfl) rfl
theorem q624 : (Jvm.Cond.selects "ValleyMass" ({ cls := "ValleyMass", name := "forget", desc := "()V" } : Jvm.MethodName) ({ cls := "ValleyMass", name := "forget", desc := "()V" } : Jvm.MethodName)) ∈ lw_all := lw_g (lw_at lw_m3 45 rfl) rfl
theorem q625 : (Jvm.Cond.code ({ cls := "ValleyMass", name := "forget", desc := "()V" } : Jvm.MethodName) prog_1_method_47_code (1 : Nat) (Option.none : Option Jvm.ClassFile.FieldType)) ∈ lw_all := lw_g (lw_at lw_m3 46 rfl) rfl
theorem q627 : (Jvm.Cond.instanceMethod ({ cls := "ValleyMass", name := "bargain", desc := "()I" } : Jvm.MethodName)) ∈ lw_all := lw_g (lw_at lw_m3 48 rfl) rfl
theorem q628 : (Jvm.Cond.selects "ValleyMass" ({ cls := "ValleyMass", name := "bargain", desc := "()I" } : Jvm.MethodName) ({ cls := "ValleyMass", name := "bargain", desc := "()I" } : Jvm.MethodName)) ∈ lw_all := lw_g (lw_at lw_m3 49 rfl) rfl
theorem q629 : (Jvm.Cond.code ({ cls := "ValleyMass", name := "bargain", desc := "()I" } : Jvm.MethodName) prog_1_method_62_code (6 : Nat) (Option.some Jvm.ClassFile.FieldType.int)) ∈ lw_all := lw_g (lw_at lw_m3 50 rfl) rfl
theorem q630 : (Jvm.Cond.classLink "ValleyMass" (124 : Nat) "ValleyMass$Singer") ∈ lw_all := lw_g (lw_at lw_m3 51 rfl) rfl
theorem q632 : (Jvm.Cond.instanceMethod ({ cls := "ValleyMass", name := "image", desc := "()V" } : Jvm.MethodName)) ∈ lw_all := lw_g (lw_at lw_m3 53 rfl) rfl
theorem q633 : (Jvm.Cond.selects "ValleyMass" ({ cls := "ValleyMass", name := "image", desc := "()V" } : Jvm.MethodName) ({ cls := "ValleyMass", name := "image", desc := "()V" } : Jvm.MethodName)) ∈ lw_all := lw_g (lw_at lw_m3 54 rfl) rfl
theorem q634 : (Jvm.Cond.code ({ cls := "ValleyMass", name := "image", desc := "()V" } : Jvm.MethodName) prog_1_method_70_code (1 : Nat) (Option.none : Option Jvm.ClassFile.FieldType)) ∈ lw_all := lw_g (lw_at lw_m3 55 rfl) rfl
theorem q635 : (Jvm.Cond.methodLink "ValleyMass" (308 : Nat) ({ cls := "java/util/ArrayList", name := "<init>", desc := "(Ljava/util/Collection;)V" } : Jvm.MethodName)) ∈ lw_all := lw_g (lw_at lw_m3 56 rfl) rfl
theorem q660 : (Jvm.Cond.instanceMethod ({ cls := "ValleyMass", name := "restore", desc := "()Z" } : Jvm.MethodName)) ∈ lw_all := lw_g (lw_at lw_m3 81 rfl) rfl
theorem q661 : (Jvm.Cond.selects "ValleyMass" ({ cls := "ValleyMass", name := "restore", desc := "()Z" } : Jvm.MethodName) ({ cls := "ValleyMass", name := "restore", desc := "()Z" } : Jvm.MethodName)) ∈ lw_all := lw_g (lw_at lw_m3 82 rfl) rfl
theorem q662 : (Jvm.Cond.code ({ cls := "ValleyMass", name := "restore", desc := "()Z" } : Jvm.MethodName) prog_1_method_71_code (1 : Nat) (Option.some Jvm.ClassFile.FieldType.boolean)) ∈ lw_all := lw_g (lw_at lw_m3 83 rfl) rfl
theorem q668 : (Jvm.Cond.instanceMethod ({ cls := "ValleyMass", name := "valley", desc := "(I)I" } : Jvm.MethodName)) ∈ lw_all := lw_g (lw_at lw_m3 89 rfl) rfl
theorem q669 : (Jvm.Cond.selects "ValleyMass" ({ cls := "ValleyMass", name := "valley", desc := "(I)I" } : Jvm.MethodName) ({ cls := "ValleyMass", name := "valley", desc := "(I)I" } : Jvm.MethodName)) ∈ lw_all := lw_g (lw_at lw_m3 90 rfl) rfl
theorem q670 : (Jvm.Cond.codeWith ({ cls := "ValleyMass", name := "valley", desc := "(I)I" } : Jvm.MethodName) prog_1_method_7_code (4 : Nat) (Option.some Jvm.ClassFile.FieldType.int) [((40 : Nat), (48 : Nat), (51 : Nat), (72 : Nat))]) ∈ lw_all := lw_g (lw_at lw_m3 91 rfl) rfl
theorem q671 : (Jvm.Cond.classLink "ValleyMass" (72 : Nat) "ValleyMass$Wrong") ∈ lw_all := lw_g (lw_at lw_m3 92 rfl) rfl
theorem q672 : (Jvm.Cond.methodLink "ValleyMass" (59 : Nat) ({ cls := "ValleyMass", name := "right", desc := "(Z)V" } : Jvm.MethodName)) ∈ lw_all := lw_g (lw_at lw_m3 93 rfl) rfl
theorem q673 : (Jvm.Cond.static ({ cls := "ValleyMass", name := "right", desc := "(Z)V" } : Jvm.MethodName)) ∈ lw_all := lw_g (lw_at lw_m3 94 rfl) rfl
theorem q674 : (Jvm.Cond.code ({ cls := "ValleyMass", name := "right", desc := "(Z)V" } : Jvm.MethodName) prog_1_method_3_code (1 : Nat) (Option.none : Option Jvm.ClassFile.FieldType)) ∈ lw_all := lw_g (lw_at lw_m3 95 rfl) rfl
theorem q675 : (Jvm.Cond.classLink "ValleyMass" (7 : Nat) "java/lang/IllegalArgumentException") ∈ lw_all := lw_g (lw_at lw_m3 96 rfl) rfl
theorem q716 : (Jvm.Cond.methodLink "ValleyMass" (9 : Nat) ({ cls := "java/lang/IllegalArgumentException", name := "<init>", desc := "()V" } : Jvm.MethodName)) ∈ lw_all := lw_g (lw_at lw_m3 137 rfl) rfl
theorem q739 : (Jvm.Cond.classLink "ValleyMass" (63 : Nat) "ValleyMass$Reader") ∈ lw_all := lw_g (lw_at lw_m3 160 rfl) rfl
theorem q741 : (Jvm.Cond.methodLink "ValleyMass" (65 : Nat) ({ cls := "ValleyMass$Reader", name := "<init>", desc := "(LValleyMass;I)V" } : Jvm.MethodName)) ∈ lw_all := lw_g (lw_at lw_m3 162 rfl) rfl
theorem q776 : (Jvm.Cond.fieldLinkNest "ValleyMass" (74 : Nat) "ValleyMass$Reader" "begins" "I" "ValleyMass") ∈ lw_tbl := lw_at lw_m3 197 rfl
theorem q810 : (Jvm.Cond.methodLink "ValleyMass" (68 : Nat) ({ cls := "ValleyMass$Reader", name := "read", desc := "()LValleyMass$Valley;" } : Jvm.MethodName)) ∈ lw_all := lw_g (lw_at lw_m3 231 rfl) rfl
theorem q960 : (Jvm.Cond.fieldLinkNest "ValleyMass" (77 : Nat) "ValleyMass$Wrong" "kind" "I" "ValleyMass") ∈ lw_tbl := lw_at lw_m4 141 rfl
theorem q982 : (Jvm.Cond.fieldLinkNest "ValleyMass" (132 : Nat) "ValleyMass$Singer" "side" "I" "ValleyMass") ∈ lw_tbl := lw_at lw_m4 163 rfl
theorem q986 : (Jvm.Cond.fieldLinkNest "ValleyMass" (135 : Nat) "ValleyMass$Singer" "part" "I" "ValleyMass") ∈ lw_tbl := lw_at lw_m4 167 rfl
theorem q988 : (Jvm.Cond.fieldLinkNest "ValleyMass" (138 : Nat) "ValleyMass$Singer" "low" "I" "ValleyMass") ∈ lw_tbl := lw_at lw_m4 169 rfl
theorem q990 : (Jvm.Cond.fieldLinkNest "ValleyMass" (141 : Nat) "ValleyMass$Singer" "high" "I" "ValleyMass") ∈ lw_tbl := lw_at lw_m4 171 rfl
theorem q994 : (Jvm.Cond.fieldLinkNest "ValleyMass" (144 : Nat) "ValleyMass$Singer" "skill" "I" "ValleyMass") ∈ lw_tbl := lw_at lw_m4 175 rfl
theorem q1027 : (Jvm.Cond.fieldLinkNest "ValleyMass" (158 : Nat) "ValleyMass$Row" "need" "I" "ValleyMass") ∈ lw_tbl := lw_at lw_m4 208 rfl
theorem q1029 : (Jvm.Cond.fieldLinkNest "ValleyMass" (163 : Nat) "ValleyMass$Row" "notes" "Ljava/util/List;" "ValleyMass") ∈ lw_tbl := lw_at lw_m4 210 rfl
theorem q1252 : (Jvm.Cond.instanceMethod ({ cls := "ValleyMass", name := "count", desc := "(I)I" } : Jvm.MethodName)) ∈ lw_all := lw_g (lw_at lw_m5 193 rfl) rfl
theorem q1253 : (Jvm.Cond.selects "ValleyMass" ({ cls := "ValleyMass", name := "count", desc := "(I)I" } : Jvm.MethodName) ({ cls := "ValleyMass", name := "count", desc := "(I)I" } : Jvm.MethodName)) ∈ lw_all := lw_g (lw_at lw_m5 194 rfl) rfl
theorem q1254 : (Jvm.Cond.code ({ cls := "ValleyMass", name := "count", desc := "(I)I" } : Jvm.MethodName) prog_1_method_9_code (2 : Nat) (Option.some Jvm.ClassFile.FieldType.int)) ∈ lw_all := lw_g (lw_at lw_m5 195 rfl) rfl
theorem q1255 : (Jvm.Cond.methodLink "ValleyMass" (107 : Nat) ({ cls := "ValleyMass$State", name := "those", desc := "(I)I" } : Jvm.MethodName)) ∈ lw_all := lw_g (lw_at lw_m5 196 rfl) rfl
theorem q1256 : (Jvm.Cond.methodLink "ValleyMass" (117 : Nat) ({ cls := "ValleyMass", name := "found", desc := "(Z)V" } : Jvm.MethodName)) ∈ lw_all := lw_g (lw_at lw_m5 197 rfl) rfl
theorem q1257 : (Jvm.Cond.static ({ cls := "ValleyMass", name := "found", desc := "(Z)V" } : Jvm.MethodName)) ∈ lw_all := lw_g (lw_at lw_m5 198 rfl) rfl
theorem q1258 : (Jvm.Cond.code ({ cls := "ValleyMass", name := "found", desc := "(Z)V" } : Jvm.MethodName) prog_1_method_2_code (1 : Nat) (Option.none : Option Jvm.ClassFile.FieldType)) ∈ lw_all := lw_g (lw_at lw_m5 199 rfl) rfl
theorem q1259 : (Jvm.Cond.classLink "ValleyMass" (1 : Nat) "java/util/NoSuchElementException") ∈ lw_all := lw_g (lw_at lw_m5 200 rfl) rfl
theorem q1268 : (Jvm.Cond.methodLink "ValleyMass" (3 : Nat) ({ cls := "java/util/NoSuchElementException", name := "<init>", desc := "()V" } : Jvm.MethodName)) ∈ lw_all := lw_g (lw_at lw_m5 209 rfl) rfl
theorem q1278 : (Jvm.Cond.instanceMethod ({ cls := "ValleyMass", name := "singer", desc := "(II)I" } : Jvm.MethodName)) ∈ lw_all := lw_g (lw_at lw_m5 219 rfl) rfl
theorem q1279 : (Jvm.Cond.selects "ValleyMass" ({ cls := "ValleyMass", name := "singer", desc := "(II)I" } : Jvm.MethodName) ({ cls := "ValleyMass", name := "singer", desc := "(II)I" } : Jvm.MethodName)) ∈ lw_all := lw_g (lw_at lw_m5 220 rfl) rfl
theorem q1280 : (Jvm.Cond.code ({ cls := "ValleyMass", name := "singer", desc := "(II)I" } : Jvm.MethodName) prog_1_method_13_code (4 : Nat) (Option.some Jvm.ClassFile.FieldType.int)) ∈ lw_all := lw_g (lw_at lw_m5 221 rfl) rfl
theorem q1281 : (Jvm.Cond.methodLink "ValleyMass" (128 : Nat) ({ cls := "ValleyMass", name := "aSinger", desc := "(I)LValleyMass$Singer;" } : Jvm.MethodName)) ∈ lw_all := lw_g (lw_at lw_m5 222 rfl) rfl
theorem q1282 : (Jvm.Cond.privateMethod ({ cls := "ValleyMass", name := "aSinger", desc := "(I)LValleyMass$Singer;" } : Jvm.MethodName)) ∈ lw_tbl := lw_at lw_m5 223 rfl
theorem q1283 : (Jvm.Cond.instanceMethod ({ cls := "ValleyMass", name := "aSinger", desc := "(I)LValleyMass$Singer;" } : Jvm.MethodName)) ∈ lw_all := lw_g (lw_at lw_m5 224 rfl) rfl
theorem q1284 : (Jvm.Cond.code ({ cls := "ValleyMass", name := "aSinger", desc := "(I)LValleyMass$Singer;" } : Jvm.MethodName) prog_1_method_10_code (2 : Nat) (Option.some (Jvm.ClassFile.FieldType.object "ValleyMass$Singer"))) ∈ lw_all := lw_g (lw_at lw_m5 225 rfl) rfl
theorem q1289 : (Jvm.Cond.instanceMethod ({ cls := "ValleyMass", name := "row", desc := "(III)I" } : Jvm.MethodName)) ∈ lw_all := lw_g (lw_at lw_m5 230 rfl) rfl
theorem q1290 : (Jvm.Cond.selects "ValleyMass" ({ cls := "ValleyMass", name := "row", desc := "(III)I" } : Jvm.MethodName) ({ cls := "ValleyMass", name := "row", desc := "(III)I" } : Jvm.MethodName)) ∈ lw_all := lw_g (lw_at lw_m5 231 rfl) rfl
theorem q1291 : (Jvm.Cond.code ({ cls := "ValleyMass", name := "row", desc := "(III)I" } : Jvm.MethodName) prog_1_method_14_code (6 : Nat) (Option.some Jvm.ClassFile.FieldType.int)) ∈ lw_all := lw_g (lw_at lw_m5 232 rfl) rfl
theorem q1292 : (Jvm.Cond.methodLink "ValleyMass" (150 : Nat) ({ cls := "ValleyMass", name := "aPiece", desc := "(I)[LValleyMass$Row;" } : Jvm.MethodName)) ∈ lw_all := lw_g (lw_at lw_m5 233 rfl) rfl
theorem q1293 : (Jvm.Cond.privateMethod ({ cls := "ValleyMass", name := "aPiece", desc := "(I)[LValleyMass$Row;" } : Jvm.MethodName)) ∈ lw_tbl := lw_at lw_m5 234 rfl
theorem q1294 : (Jvm.Cond.instanceMethod ({ cls := "ValleyMass", name := "aPiece", desc := "(I)[LValleyMass$Row;" } : Jvm.MethodName)) ∈ lw_all := lw_g (lw_at lw_m5 235 rfl) rfl
theorem q1295 : (Jvm.Cond.code ({ cls := "ValleyMass", name := "aPiece", desc := "(I)[LValleyMass$Row;" } : Jvm.MethodName) prog_1_method_11_code (2 : Nat) (Option.some (Jvm.ClassFile.FieldType.array (Jvm.ClassFile.FieldType.object "ValleyMass$Row")))) ∈ lw_all := lw_g (lw_at lw_m5 236 rfl) rfl
theorem q1296 : (Jvm.Cond.methodLink "ValleyMass" (154 : Nat) ({ cls := "ValleyMass", name := "oneOf", desc := "(II)V" } : Jvm.MethodName)) ∈ lw_all := lw_g (lw_at lw_m5 237 rfl) rfl
theorem q1297 : (Jvm.Cond.static ({ cls := "ValleyMass", name := "oneOf", desc := "(II)V" } : Jvm.MethodName)) ∈ lw_all := lw_g (lw_at lw_m5 238 rfl) rfl
theorem q1298 : (Jvm.Cond.code ({ cls := "ValleyMass", name := "oneOf", desc := "(II)V" } : Jvm.MethodName) prog_1_method_12_code (2 : Nat) (Option.none : Option Jvm.ClassFile.FieldType)) ∈ lw_all := lw_g (lw_at lw_m5 239 rfl) rfl
theorem q1299 : (Jvm.Cond.classLink "ValleyMass" (166 : Nat) "java/lang/Integer") ∈ lw_all := lw_g (lw_at lw_m6 0 rfl) rfl
theorem q1300 : (Jvm.Cond.methodLink "ValleyMass" (168 : Nat) ({ cls := "java/lang/Integer", name := "intValue", desc := "()I" } : Jvm.MethodName)) ∈ lw_all := lw_g (lw_at lw_m6 1 rfl) rfl
theorem q1305 : (Jvm.Cond.instanceMethod ({ cls := "ValleyMass", name := "able", desc := "(II)I" } : Jvm.MethodName)) ∈ lw_all := lw_g (lw_at lw_m6 6 rfl) rfl
theorem q1306 : (Jvm.Cond.selects "ValleyMass" ({ cls := "ValleyMass", name := "able", desc := "(II)I" } : Jvm.MethodName) ({ cls := "ValleyMass", name := "able", desc := "(II)I" } : Jvm.MethodName)) ∈ lw_all := lw_g (lw_at lw_m6 7 rfl) rfl
theorem q1307 : (Jvm.Cond.code ({ cls := "ValleyMass", name := "able", desc := "(II)I" } : Jvm.MethodName) prog_1_method_16_code (3 : Nat) (Option.some Jvm.ClassFile.FieldType.int)) ∈ lw_all := lw_g (lw_at lw_m6 8 rfl) rfl
theorem q1312 : (Jvm.Cond.instanceMethod ({ cls := "ValleyMass", name := "fall", desc := "(I)Z" } : Jvm.MethodName)) ∈ lw_all := lw_g (lw_at lw_m6 13 rfl) rfl
theorem q1313 : (Jvm.Cond.selects "ValleyMass" ({ cls := "ValleyMass", name := "fall", desc := "(I)Z" } : Jvm.MethodName) ({ cls := "ValleyMass", name := "fall", desc := "(I)Z" } : Jvm.MethodName)) ∈ lw_all := lw_g (lw_at lw_m6 14 rfl) rfl
theorem q1314 : (Jvm.Cond.code ({ cls := "ValleyMass", name := "fall", desc := "(I)Z" } : Jvm.MethodName) prog_1_method_21_code (2 : Nat) (Option.some Jvm.ClassFile.FieldType.boolean)) ∈ lw_all := lw_g (lw_at lw_m6 15 rfl) rfl
theorem q1315 : (Jvm.Cond.methodLink "ValleyMass" (198 : Nat) ({ cls := "ValleyMass", name := "becomes", desc := "(III)Z" } : Jvm.MethodName)) ∈ lw_all := lw_g (lw_at lw_m6 16 rfl) rfl
theorem q1316 : (Jvm.Cond.privateMethod ({ cls := "ValleyMass", name := "becomes", desc := "(III)Z" } : Jvm.MethodName)) ∈ lw_tbl := lw_at lw_m6 17 rfl
theorem q1317 : (Jvm.Cond.instanceMethod ({ cls := "ValleyMass", name := "becomes", desc := "(III)Z" } : Jvm.MethodName)) ∈ lw_all := lw_g (lw_at lw_m6 18 rfl) rfl
theorem q1318 : (Jvm.Cond.code ({ cls := "ValleyMass", name := "becomes", desc := "(III)Z" } : Jvm.MethodName) prog_1_method_20_code (4 : Nat) (Option.some Jvm.ClassFile.FieldType.boolean)) ∈ lw_all := lw_g (lw_at lw_m6 19 rfl) rfl
theorem q1323 : (Jvm.Cond.instanceMethod ({ cls := "ValleyMass", name := "catches", desc := "(I)Z" } : Jvm.MethodName)) ∈ lw_all := lw_g (lw_at lw_m6 24 rfl) rfl
theorem q1324 : (Jvm.Cond.selects "ValleyMass" ({ cls := "ValleyMass", name := "catches", desc := "(I)Z" } : Jvm.MethodName) ({ cls := "ValleyMass", name := "catches", desc := "(I)Z" } : Jvm.MethodName)) ∈ lw_all := lw_g (lw_at lw_m6 25 rfl) rfl
theorem q1325 : (Jvm.Cond.code ({ cls := "ValleyMass", name := "catches", desc := "(I)Z" } : Jvm.MethodName) prog_1_method_22_code (2 : Nat) (Option.some Jvm.ClassFile.FieldType.boolean)) ∈ lw_all := lw_g (lw_at lw_m6 26 rfl) rfl
theorem q1330 : (Jvm.Cond.instanceMethod ({ cls := "ValleyMass", name := "release", desc := "(I)Z" } : Jvm.MethodName)) ∈ lw_all := lw_g (lw_at lw_m6 31 rfl) rfl
theorem q1331 : (Jvm.Cond.selects "ValleyMass" ({ cls := "ValleyMass", name := "release", desc := "(I)Z" } : Jvm.MethodName) ({ cls := "ValleyMass", name := "release", desc := "(I)Z" } : Jvm.MethodName)) ∈ lw_all := lw_g (lw_at lw_m6 32 rfl) rfl
theorem q1332 : (Jvm.Cond.code ({ cls := "ValleyMass", name := "release", desc := "(I)Z" } : Jvm.MethodName) prog_1_method_23_code (2 : Nat) (Option.some Jvm.ClassFile.FieldType.boolean)) ∈ lw_all := lw_g (lw_at lw_m6 33 rfl) rfl
theorem q1337 : (Jvm.Cond.instanceMethod ({ cls := "ValleyMass", name := "exchange", desc := "(II)Z" } : Jvm.MethodName)) ∈ lw_all := lw_g (lw_at lw_m6 38 rfl) rfl
theorem q1338 : (Jvm.Cond.selects "ValleyMass" ({ cls := "ValleyMass", name := "exchange", desc := "(II)Z" } : Jvm.MethodName) ({ cls := "ValleyMass", name := "exchange", desc := "(II)Z" } : Jvm.MethodName)) ∈ lw_all := lw_g (lw_at lw_m6 39 rfl) rfl
theorem q1339 : (Jvm.Cond.code ({ cls := "ValleyMass", name := "exchange", desc := "(II)Z" } : Jvm.MethodName) prog_1_method_24_code (5 : Nat) (Option.some Jvm.ClassFile.FieldType.boolean)) ∈ lw_all := lw_g (lw_at lw_m6 40 rfl) rfl
theorem q1344 : (Jvm.Cond.instanceMethod ({ cls := "ValleyMass", name := "moved", desc := "(I)I" } : Jvm.MethodName)) ∈ lw_all := lw_g (lw_at lw_m6 45 rfl) rfl
theorem q1345 : (Jvm.Cond.selects "ValleyMass" ({ cls := "ValleyMass", name := "moved", desc := "(I)I" } : Jvm.MethodName) ({ cls := "ValleyMass", name := "moved", desc := "(I)I" } : Jvm.MethodName)) ∈ lw_all := lw_g (lw_at lw_m6 46 rfl) rfl
theorem q1346 : (Jvm.Cond.code ({ cls := "ValleyMass", name := "moved", desc := "(I)I" } : Jvm.MethodName) prog_1_method_29_code (9 : Nat) (Option.some Jvm.ClassFile.FieldType.int)) ∈ lw_all := lw_g (lw_at lw_m6 47 rfl) rfl
theorem q1347 : (Jvm.Cond.methodLink "ValleyMass" (216 : Nat) ({ cls := "ValleyMass", name := "ofPart", desc := "(II)I" } : Jvm.MethodName)) ∈ lw_all := lw_g (lw_at lw_m6 48 rfl) rfl
theorem q1348 : (Jvm.Cond.privateMethod ({ cls := "ValleyMass", name := "ofPart", desc := "(II)I" } : Jvm.MethodName)) ∈ lw_tbl := lw_at lw_m6 49 rfl
theorem q1349 : (Jvm.Cond.instanceMethod ({ cls := "ValleyMass", name := "ofPart", desc := "(II)I" } : Jvm.MethodName)) ∈ lw_all := lw_g (lw_at lw_m6 50 rfl) rfl
theorem q1350 : (Jvm.Cond.code ({ cls := "ValleyMass", name := "ofPart", desc := "(II)I" } : Jvm.MethodName) prog_1_method_28_code (5 : Nat) (Option.some Jvm.ClassFile.FieldType.int)) ∈ lw_all := lw_g (lw_at lw_m6 51 rfl) rfl
theorem q1351 : (Jvm.Cond.methodLink "ValleyMass" (223 : Nat) ({ cls := "ValleyMass", name := "movedFor", desc := "(LValleyMass$Row;I)I" } : Jvm.MethodName)) ∈ lw_all := lw_g (lw_at lw_m6 52 rfl) rfl
theorem q1352 : (Jvm.Cond.privateMethod ({ cls := "ValleyMass", name := "movedFor", desc := "(LValleyMass$Row;I)I" } : Jvm.MethodName)) ∈ lw_tbl := lw_at lw_m6 53 rfl
theorem q1353 : (Jvm.Cond.instanceMethod ({ cls := "ValleyMass", name := "movedFor", desc := "(LValleyMass$Row;I)I" } : Jvm.MethodName)) ∈ lw_all := lw_g (lw_at lw_m6 54 rfl) rfl
theorem q1354 : (Jvm.Cond.code ({ cls := "ValleyMass", name := "movedFor", desc := "(LValleyMass$Row;I)I" } : Jvm.MethodName) prog_1_method_26_code (6 : Nat) (Option.some Jvm.ClassFile.FieldType.int)) ∈ lw_all := lw_g (lw_at lw_m6 55 rfl) rfl
theorem q1355 : (Jvm.Cond.methodLink "ValleyMass" (205 : Nat) ({ cls := "ValleyMass", name := "haveAll", desc := "(II)Z" } : Jvm.MethodName)) ∈ lw_all := lw_g (lw_at lw_m6 56 rfl) rfl
theorem q1356 : (Jvm.Cond.privateMethod ({ cls := "ValleyMass", name := "haveAll", desc := "(II)Z" } : Jvm.MethodName)) ∈ lw_tbl := lw_at lw_m6 57 rfl
theorem q1357 : (Jvm.Cond.instanceMethod ({ cls := "ValleyMass", name := "haveAll", desc := "(II)Z" } : Jvm.MethodName)) ∈ lw_all := lw_g (lw_at lw_m6 58 rfl) rfl
theorem q1358 : (Jvm.Cond.code ({ cls := "ValleyMass", name := "haveAll", desc := "(II)Z" } : Jvm.MethodName) prog_1_method_27_code (4 : Nat) (Option.some Jvm.ClassFile.FieldType.boolean)) ∈ lw_all := lw_g (lw_at lw_m6 59 rfl) rfl
theorem q1359 : (Jvm.Cond.methodLink "ValleyMass" (212 : Nat) ({ cls := "ValleyMass$Singer", name := "has", desc := "(I)Z" } : Jvm.MethodName)) ∈ lw_all := lw_g (lw_at lw_m6 60 rfl) rfl
theorem q1360 : (Jvm.Cond.methodLink "ValleyMass" (227 : Nat) ({ cls := "java/lang/Math", name := "min", desc := "(II)I" } : Jvm.MethodName)) ∈ lw_all := lw_g (lw_at lw_m6 61 rfl) rfl
theorem q1365 : (Jvm.Cond.instanceMethod ({ cls := "ValleyMass", name := "spare", desc := "(I)I" } : Jvm.MethodName)) ∈ lw_all := lw_g (lw_at lw_m6 66 rfl) rfl
theorem q1366 : (Jvm.Cond.selects "ValleyMass" ({ cls := "ValleyMass", name := "spare", desc := "(I)I" } : Jvm.MethodName) ({ cls := "ValleyMass", name := "spare", desc := "(I)I" } : Jvm.MethodName)) ∈ lw_all := lw_g (lw_at lw_m6 67 rfl) rfl
theorem q1367 : (Jvm.Cond.code ({ cls := "ValleyMass", name := "spare", desc := "(I)I" } : Jvm.MethodName) prog_1_method_30_code (5 : Nat) (Option.some Jvm.ClassFile.FieldType.int)) ∈ lw_all := lw_g (lw_at lw_m6 68 rfl) rfl
theorem q1372 : (Jvm.Cond.instanceMethod ({ cls := "ValleyMass", name := "ransom", desc := "(I)I" } : Jvm.MethodName)) ∈ lw_all := lw_g (lw_at lw_m6 73 rfl) rfl
theorem q1373 : (Jvm.Cond.selects "ValleyMass" ({ cls := "ValleyMass", name := "ransom", desc := "(I)I" } : Jvm.MethodName) ({ cls := "ValleyMass", name := "ransom", desc := "(I)I" } : Jvm.MethodName)) ∈ lw_all := lw_g (lw_at lw_m6 74 rfl) rfl
theorem q1374 : (Jvm.Cond.code ({ cls := "ValleyMass", name := "ransom", desc := "(I)I" } : Jvm.MethodName) prog_1_method_32_code (6 : Nat) (Option.some Jvm.ClassFile.FieldType.int)) ∈ lw_all := lw_g (lw_at lw_m6 75 rfl) rfl
theorem q1375 : (Jvm.Cond.methodLink "ValleyMass" (235 : Nat) ({ cls := "ValleyMass$Valley", name := "ofSide", desc := "(I)I" } : Jvm.MethodName)) ∈ lw_all := lw_g (lw_at lw_m6 76 rfl) rfl
theorem q1376 : (Jvm.Cond.methodLink "ValleyMass" (238 : Nat) ({ cls := "ValleyMass$Valley", name := "all", desc := "()I" } : Jvm.MethodName)) ∈ lw_all := lw_g (lw_at lw_m6 77 rfl) rfl
theorem q1384 : (Jvm.Cond.instanceMethod ({ cls := "ValleyMass", name := "luck", desc := "(III)I" } : Jvm.MethodName)) ∈ lw_all := lw_g (lw_at lw_m6 85 rfl) rfl
theorem q1385 : (Jvm.Cond.selects "ValleyMass" ({ cls := "ValleyMass", name := "luck", desc := "(III)I" } : Jvm.MethodName) ({ cls := "ValleyMass", name := "luck", desc := "(III)I" } : Jvm.MethodName)) ∈ lw_all := lw_g (lw_at lw_m6 86 rfl) rfl
theorem q1386 : (Jvm.Cond.code ({ cls := "ValleyMass", name := "luck", desc := "(III)I" } : Jvm.MethodName) prog_1_method_40_code (8 : Nat) (Option.some Jvm.ClassFile.FieldType.int)) ∈ lw_all := lw_g (lw_at lw_m6 87 rfl) rfl
theorem q1387 : (Jvm.Cond.methodLink "ValleyMass" (247 : Nat) ({ cls := "ValleyMass", name := "common", desc := "(JJ)J" } : Jvm.MethodName)) ∈ lw_all := lw_g (lw_at lw_m6 88 rfl) rfl
theorem q1388 : (Jvm.Cond.static ({ cls := "ValleyMass", name := "common", desc := "(JJ)J" } : Jvm.MethodName)) ∈ lw_all := lw_g (lw_at lw_m6 89 rfl) rfl
theorem q1389 : (Jvm.Cond.code ({ cls := "ValleyMass", name := "common", desc := "(JJ)J" } : Jvm.MethodName) prog_1_method_39_code (4 : Nat) (Option.some Jvm.ClassFile.FieldType.long)) ∈ lw_all := lw_g (lw_at lw_m6 90 rfl) rfl
theorem q1394 : (Jvm.Cond.instanceMethod ({ cls := "ValleyMass", name := "codes", desc := "(II)J" } : Jvm.MethodName)) ∈ lw_all := lw_g (lw_at lw_m6 95 rfl) rfl
theorem q1395 : (Jvm.Cond.selects "ValleyMass" ({ cls := "ValleyMass", name := "codes", desc := "(II)J" } : Jvm.MethodName) ({ cls := "ValleyMass", name := "codes", desc := "(II)J" } : Jvm.MethodName)) ∈ lw_all := lw_g (lw_at lw_m6 96 rfl) rfl
theorem q1396 : (Jvm.Cond.code ({ cls := "ValleyMass", name := "codes", desc := "(II)J" } : Jvm.MethodName) prog_1_method_42_code (3 : Nat) (Option.some Jvm.ClassFile.FieldType.long)) ∈ lw_all := lw_g (lw_at lw_m6 97 rfl) rfl
theorem q1397 : (Jvm.Cond.methodLink "ValleyMass" (253 : Nat) ({ cls := "ValleyMass", name := "codesOf", desc := "(II)J" } : Jvm.MethodName)) ∈ lw_all := lw_g (lw_at lw_m6 98 rfl) rfl
theorem q1398 : (Jvm.Cond.privateMethod ({ cls := "ValleyMass", name := "codesOf", desc := "(II)J" } : Jvm.MethodName)) ∈ lw_tbl := lw_at lw_m6 99 rfl
theorem q1399 : (Jvm.Cond.instanceMethod ({ cls := "ValleyMass", name := "codesOf", desc := "(II)J" } : Jvm.MethodName)) ∈ lw_all := lw_g (lw_at lw_m6 100 rfl) rfl
theorem q1400 : (Jvm.Cond.code ({ cls := "ValleyMass", name := "codesOf", desc := "(II)J" } : Jvm.MethodName) prog_1_method_41_code (10 : Nat) (Option.some Jvm.ClassFile.FieldType.long)) ∈ lw_all := lw_g (lw_at lw_m6 101 rfl) rfl
theorem q1401 : (Jvm.Cond.constantLong "ValleyMass" (251 : Nat) (2 : Int64)) ∈ lw_all := lw_g (lw_at lw_m6 102 rfl) rfl
theorem q1406 : (Jvm.Cond.instanceMethod ({ cls := "ValleyMass", name := "slips", desc := "(II)I" } : Jvm.MethodName)) ∈ lw_all := lw_g (lw_at lw_m6 107 rfl) rfl
theorem q1407 : (Jvm.Cond.selects "ValleyMass" ({ cls := "ValleyMass", name := "slips", desc := "(II)I" } : Jvm.MethodName) ({ cls := "ValleyMass", name := "slips", desc := "(II)I" } : Jvm.MethodName)) ∈ lw_all := lw_g (lw_at lw_m6 108 rfl) rfl
theorem q1408 : (Jvm.Cond.code ({ cls := "ValleyMass", name := "slips", desc := "(II)I" } : Jvm.MethodName) prog_1_method_43_code (4 : Nat) (Option.some Jvm.ClassFile.FieldType.int)) ∈ lw_all := lw_g (lw_at lw_m6 109 rfl) rfl
theorem q1409 : (Jvm.Cond.constant "ValleyMass" (257 : Nat) (1000000000 : Int32)) ∈ lw_all := lw_g (lw_at lw_m6 110 rfl) rfl
theorem q1414 : (Jvm.Cond.instanceMethod ({ cls := "ValleyMass", name := "hear", desc := "(IIII)I" } : Jvm.MethodName)) ∈ lw_all := lw_g (lw_at lw_m6 115 rfl) rfl
theorem q1415 : (Jvm.Cond.selects "ValleyMass" ({ cls := "ValleyMass", name := "hear", desc := "(IIII)I" } : Jvm.MethodName) ({ cls := "ValleyMass", name := "hear", desc := "(IIII)I" } : Jvm.MethodName)) ∈ lw_all := lw_g (lw_at lw_m6 116 rfl) rfl
theorem q1416 : (Jvm.Cond.code ({ cls := "ValleyMass", name := "hear", desc := "(IIII)I" } : Jvm.MethodName) prog_1_method_44_code (7 : Nat) (Option.some Jvm.ClassFile.FieldType.int)) ∈ lw_all := lw_g (lw_at lw_m6 117 rfl) rfl
theorem q1421 : (Jvm.Cond.instanceMethod ({ cls := "ValleyMass", name := "flat", desc := "(I)I" } : Jvm.MethodName)) ∈ lw_all := lw_g (lw_at lw_m6 122 rfl) rfl
theorem q1422 : (Jvm.Cond.selects "ValleyMass" ({ cls := "ValleyMass", name := "flat", desc := "(I)I" } : Jvm.MethodName) ({ cls := "ValleyMass", name := "flat", desc := "(I)I" } : Jvm.MethodName)) ∈ lw_all := lw_g (lw_at lw_m6 123 rfl) rfl
theorem q1423 : (Jvm.Cond.code ({ cls := "ValleyMass", name := "flat", desc := "(I)I" } : Jvm.MethodName) prog_1_method_46_code (6 : Nat) (Option.some Jvm.ClassFile.FieldType.int)) ∈ lw_all := lw_g (lw_at lw_m6 124 rfl) rfl
theorem q1424 : (Jvm.Cond.methodLink "ValleyMass" (259 : Nat) ({ cls := "ValleyMass", name := "isAsHeard", desc := "(II)Z" } : Jvm.MethodName)) ∈ lw_all := lw_g (lw_at lw_m6 125 rfl) rfl
theorem q1425 : (Jvm.Cond.privateMethod ({ cls := "ValleyMass", name := "isAsHeard", desc := "(II)Z" } : Jvm.MethodName)) ∈ lw_tbl := lw_at lw_m6 126 rfl
theorem q1426 : (Jvm.Cond.instanceMethod ({ cls := "ValleyMass", name := "isAsHeard", desc := "(II)Z" } : Jvm.MethodName)) ∈ lw_all := lw_g (lw_at lw_m6 127 rfl) rfl
theorem q1427 : (Jvm.Cond.code ({ cls := "ValleyMass", name := "isAsHeard", desc := "(II)Z" } : Jvm.MethodName) prog_1_method_45_code (6 : Nat) (Option.some Jvm.ClassFile.FieldType.boolean)) ∈ lw_all := lw_g (lw_at lw_m6 128 rfl) rfl
theorem q1428 : (Jvm.Cond.classLink "ValleyMass" (258 : Nat) "[I") ∈ lw_all := lw_g (lw_at lw_m6 129 rfl) rfl
theorem q1433 : (Jvm.Cond.instanceMethod ({ cls := "ValleyMass", name := "game", desc := "(II)I" } : Jvm.MethodName)) ∈ lw_all := lw_g (lw_at lw_m6 134 rfl) rfl
theorem q1434 : (Jvm.Cond.selects "ValleyMass" ({ cls := "ValleyMass", name := "game", desc := "(II)I" } : Jvm.MethodName) ({ cls := "ValleyMass", name := "game", desc := "(II)I" } : Jvm.MethodName)) ∈ lw_all := lw_g (lw_at lw_m6 135 rfl) rfl
theorem q1435 : (Jvm.Cond.code ({ cls := "ValleyMass", name := "game", desc := "(II)I" } : Jvm.MethodName) prog_1_method_49_code (7 : Nat) (Option.some Jvm.ClassFile.FieldType.int)) ∈ lw_all := lw_g (lw_at lw_m6 136 rfl) rfl
theorem q1436 : (Jvm.Cond.methodLink "ValleyMass" (268 : Nat) ({ cls := "ValleyMass", name := "gain", desc := "(IIII)I" } : Jvm.MethodName)) ∈ lw_all := lw_g (lw_at lw_m6 137 rfl) rfl
theorem q1437 : (Jvm.Cond.privateMethod ({ cls := "ValleyMass", name := "gain", desc := "(IIII)I" } : Jvm.MethodName)) ∈ lw_tbl := lw_at lw_m6 138 rfl
theorem q1438 : (Jvm.Cond.instanceMethod ({ cls := "ValleyMass", name := "gain", desc := "(IIII)I" } : Jvm.MethodName)) ∈ lw_all := lw_g (lw_at lw_m6 139 rfl) rfl
theorem q1439 : (Jvm.Cond.code ({ cls := "ValleyMass", name := "gain", desc := "(IIII)I" } : Jvm.MethodName) prog_1_method_48_code (10 : Nat) (Option.some Jvm.ClassFile.FieldType.int)) ∈ lw_all := lw_g (lw_at lw_m6 140 rfl) rfl
theorem q1440 : (Jvm.Cond.methodLink "ValleyMass" (262 : Nat) ({ cls := "ValleyMass$State", name := "aims", desc := "(I)I" } : Jvm.MethodName)) ∈ lw_all := lw_g (lw_at lw_m6 141 rfl) rfl
theorem q1441 : (Jvm.Cond.methodLink "ValleyMass" (265 : Nat) ({ cls := "ValleyMass$Valley", name := "skills", desc := "(I)I" } : Jvm.MethodName)) ∈ lw_all := lw_g (lw_at lw_m6 142 rfl) rfl
theorem q1449 : (Jvm.Cond.instanceMethod ({ cls := "ValleyMass", name := "wars", desc := "(III)I" } : Jvm.MethodName)) ∈ lw_all := lw_g (lw_at lw_m6 150 rfl) rfl
theorem q1450 : (Jvm.Cond.selects "ValleyMass" ({ cls := "ValleyMass", name := "wars", desc := "(III)I" } : Jvm.MethodName) ({ cls := "ValleyMass", name := "wars", desc := "(III)I" } : Jvm.MethodName)) ∈ lw_all := lw_g (lw_at lw_m6 151 rfl) rfl
theorem q1451 : (Jvm.Cond.code ({ cls := "ValleyMass", name := "wars", desc := "(III)I" } : Jvm.MethodName) prog_1_method_51_code (7 : Nat) (Option.some Jvm.ClassFile.FieldType.int)) ∈ lw_all := lw_g (lw_at lw_m6 152 rfl) rfl
theorem q1452 : (Jvm.Cond.methodLink "ValleyMass" (276 : Nat) ({ cls := "ValleyMass", name := "draw", desc := "(I)I" } : Jvm.MethodName)) ∈ lw_all := lw_g (lw_at lw_m6 153 rfl) rfl
theorem q1453 : (Jvm.Cond.privateMethod ({ cls := "ValleyMass", name := "draw", desc := "(I)I" } : Jvm.MethodName)) ∈ lw_tbl := lw_at lw_m6 154 rfl
theorem q1454 : (Jvm.Cond.instanceMethod ({ cls := "ValleyMass", name := "draw", desc := "(I)I" } : Jvm.MethodName)) ∈ lw_all := lw_g (lw_at lw_m6 155 rfl) rfl
theorem q1455 : (Jvm.Cond.code ({ cls := "ValleyMass", name := "draw", desc := "(I)I" } : Jvm.MethodName) prog_1_method_50_code (2 : Nat) (Option.some Jvm.ClassFile.FieldType.int)) ∈ lw_all := lw_g (lw_at lw_m6 156 rfl) rfl
theorem q1456 : (Jvm.Cond.constant "ValleyMass" (275 : Nat) (1103515245 : Int32)) ∈ lw_all := lw_g (lw_at lw_m6 157 rfl) rfl
theorem q1461 : (Jvm.Cond.instanceMethod ({ cls := "ValleyMass", name := "cast", desc := "(II)I" } : Jvm.MethodName)) ∈ lw_all := lw_g (lw_at lw_m6 162 rfl) rfl
theorem q1462 : (Jvm.Cond.selects "ValleyMass" ({ cls := "ValleyMass", name := "cast", desc := "(II)I" } : Jvm.MethodName) ({ cls := "ValleyMass", name := "cast", desc := "(II)I" } : Jvm.MethodName)) ∈ lw_all := lw_g (lw_at lw_m6 163 rfl) rfl
theorem q1463 : (Jvm.Cond.code ({ cls := "ValleyMass", name := "cast", desc := "(II)I" } : Jvm.MethodName) prog_1_method_53_code (6 : Nat) (Option.some Jvm.ClassFile.FieldType.int)) ∈ lw_all := lw_g (lw_at lw_m6 164 rfl) rfl
theorem q1464 : (Jvm.Cond.methodLink "ValleyMass" (279 : Nat) ({ cls := "ValleyMass", name := "castOf", desc := "(LValleyMass$Row;I)I" } : Jvm.MethodName)) ∈ lw_all := lw_g (lw_at lw_m6 165 rfl) rfl
theorem q1465 : (Jvm.Cond.privateMethod ({ cls := "ValleyMass", name := "castOf", desc := "(LValleyMass$Row;I)I" } : Jvm.MethodName)) ∈ lw_tbl := lw_at lw_m6 166 rfl
theorem q1466 : (Jvm.Cond.instanceMethod ({ cls := "ValleyMass", name := "castOf", desc := "(LValleyMass$Row;I)I" } : Jvm.MethodName)) ∈ lw_all := lw_g (lw_at lw_m6 167 rfl) rfl
theorem q1467 : (Jvm.Cond.code ({ cls := "ValleyMass", name := "castOf", desc := "(LValleyMass$Row;I)I" } : Jvm.MethodName) prog_1_method_52_code (7 : Nat) (Option.some Jvm.ClassFile.FieldType.int)) ∈ lw_all := lw_g (lw_at lw_m6 168 rfl) rfl
theorem q1472 : (Jvm.Cond.instanceMethod ({ cls := "ValleyMass", name := "transposed", desc := "(I)I" } : Jvm.MethodName)) ∈ lw_all := lw_g (lw_at lw_m6 173 rfl) rfl
theorem q1473 : (Jvm.Cond.selects "ValleyMass" ({ cls := "ValleyMass", name := "transposed", desc := "(I)I" } : Jvm.MethodName) ({ cls := "ValleyMass", name := "transposed", desc := "(I)I" } : Jvm.MethodName)) ∈ lw_all := lw_g (lw_at lw_m6 174 rfl) rfl
theorem q1474 : (Jvm.Cond.code ({ cls := "ValleyMass", name := "transposed", desc := "(I)I" } : Jvm.MethodName) prog_1_method_55_code (5 : Nat) (Option.some Jvm.ClassFile.FieldType.int)) ∈ lw_all := lw_g (lw_at lw_m6 175 rfl) rfl
theorem q1475 : (Jvm.Cond.methodLink "ValleyMass" (282 : Nat) ({ cls := "ValleyMass", name := "isOnScale", desc := "([LValleyMass$Row;I)Z" } : Jvm.MethodName)) ∈ lw_all := lw_g (lw_at lw_m6 176 rfl) rfl
theorem q1476 : (Jvm.Cond.privateMethod ({ cls := "ValleyMass", name := "isOnScale", desc := "([LValleyMass$Row;I)Z" } : Jvm.MethodName)) ∈ lw_tbl := lw_at lw_m6 177 rfl
theorem q1477 : (Jvm.Cond.instanceMethod ({ cls := "ValleyMass", name := "isOnScale", desc := "([LValleyMass$Row;I)Z" } : Jvm.MethodName)) ∈ lw_all := lw_g (lw_at lw_m6 178 rfl) rfl
theorem q1478 : (Jvm.Cond.code ({ cls := "ValleyMass", name := "isOnScale", desc := "([LValleyMass$Row;I)Z" } : Jvm.MethodName) prog_1_method_54_code (5 : Nat) (Option.some Jvm.ClassFile.FieldType.boolean)) ∈ lw_all := lw_g (lw_at lw_m6 179 rfl) rfl
theorem q1479 : (Jvm.Cond.methodLink "ValleyMass" (286 : Nat) ({ cls := "ValleyMass$Valley", name := "isSung", desc := "(III)Z" } : Jvm.MethodName)) ∈ lw_all := lw_g (lw_at lw_m6 180 rfl) rfl
theorem q1484 : (Jvm.Cond.instanceMethod ({ cls := "ValleyMass", name := "standIns", desc := "(I)I" } : Jvm.MethodName)) ∈ lw_all := lw_g (lw_at lw_m6 185 rfl) rfl
theorem q1485 : (Jvm.Cond.selects "ValleyMass" ({ cls := "ValleyMass", name := "standIns", desc := "(I)I" } : Jvm.MethodName) ({ cls := "ValleyMass", name := "standIns", desc := "(I)I" } : Jvm.MethodName)) ∈ lw_all := lw_g (lw_at lw_m6 186 rfl) rfl
theorem q1486 : (Jvm.Cond.code ({ cls := "ValleyMass", name := "standIns", desc := "(I)I" } : Jvm.MethodName) prog_1_method_56_code (6 : Nat) (Option.some Jvm.ClassFile.FieldType.int)) ∈ lw_all := lw_g (lw_at lw_m6 187 rfl) rfl
theorem q1491 : (Jvm.Cond.instanceMethod ({ cls := "ValleyMass", name := "falls", desc := "(I)I" } : Jvm.MethodName)) ∈ lw_all := lw_g (lw_at lw_m6 192 rfl) rfl
theorem q1492 : (Jvm.Cond.selects "ValleyMass" ({ cls := "ValleyMass", name := "falls", desc := "(I)I" } : Jvm.MethodName) ({ cls := "ValleyMass", name := "falls", desc := "(I)I" } : Jvm.MethodName)) ∈ lw_all := lw_g (lw_at lw_m6 193 rfl) rfl
theorem q1493 : (Jvm.Cond.code ({ cls := "ValleyMass", name := "falls", desc := "(I)I" } : Jvm.MethodName) prog_1_method_35_code (5 : Nat) (Option.some Jvm.ClassFile.FieldType.int)) ∈ lw_all := lw_g (lw_at lw_m6 194 rfl) rfl
theorem q1498 : (Jvm.Cond.instanceMethod ({ cls := "ValleyMass", name := "voices", desc := "(II)I" } : Jvm.MethodName)) ∈ lw_all := lw_g (lw_at lw_m6 199 rfl) rfl
theorem q1499 : (Jvm.Cond.selects "ValleyMass" ({ cls := "ValleyMass", name := "voices", desc := "(II)I" } : Jvm.MethodName) ({ cls := "ValleyMass", name := "voices", desc := "(II)I" } : Jvm.MethodName)) ∈ lw_all := lw_g (lw_at lw_m6 200 rfl) rfl
theorem q1500 : (Jvm.Cond.code ({ cls := "ValleyMass", name := "voices", desc := "(II)I" } : Jvm.MethodName) prog_1_method_57_code (3 : Nat) (Option.some Jvm.ClassFile.FieldType.int)) ∈ lw_all := lw_g (lw_at lw_m6 201 rfl) rfl
theorem q1501 : (Jvm.Cond.methodLink "ValleyMass" (288 : Nat) ({ cls := "ValleyMass$State", name := "freeOf", desc := "(I)I" } : Jvm.MethodName)) ∈ lw_all := lw_g (lw_at lw_m6 202 rfl) rfl
theorem q1506 : (Jvm.Cond.instanceMethod ({ cls := "ValleyMass", name := "lacking", desc := "(II)I" } : Jvm.MethodName)) ∈ lw_all := lw_g (lw_at lw_m6 207 rfl) rfl
theorem q1507 : (Jvm.Cond.selects "ValleyMass" ({ cls := "ValleyMass", name := "lacking", desc := "(II)I" } : Jvm.MethodName) ({ cls := "ValleyMass", name := "lacking", desc := "(II)I" } : Jvm.MethodName)) ∈ lw_all := lw_g (lw_at lw_m6 208 rfl) rfl
theorem q1508 : (Jvm.Cond.code ({ cls := "ValleyMass", name := "lacking", desc := "(II)I" } : Jvm.MethodName) prog_1_method_59_code (4 : Nat) (Option.some Jvm.ClassFile.FieldType.int)) ∈ lw_all := lw_g (lw_at lw_m6 209 rfl) rfl
theorem q1509 : (Jvm.Cond.methodLink "ValleyMass" (294 : Nat) ({ cls := "ValleyMass", name := "lackingIn", desc := "(II)I" } : Jvm.MethodName)) ∈ lw_all := lw_g (lw_at lw_m6 210 rfl) rfl
theorem q1510 : (Jvm.Cond.privateMethod ({ cls := "ValleyMass", name := "lackingIn", desc := "(II)I" } : Jvm.MethodName)) ∈ lw_tbl := lw_at lw_m6 211 rfl
theorem q1511 : (Jvm.Cond.instanceMethod ({ cls := "ValleyMass", name := "lackingIn", desc := "(II)I" } : Jvm.MethodName)) ∈ lw_all := lw_g (lw_at lw_m6 212 rfl) rfl
theorem q1512 : (Jvm.Cond.code ({ cls := "ValleyMass", name := "lackingIn", desc := "(II)I" } : Jvm.MethodName) prog_1_method_58_code (3 : Nat) (Option.some Jvm.ClassFile.FieldType.int)) ∈ lw_all := lw_g (lw_at lw_m6 213 rfl) rfl
theorem q1513 : (Jvm.Cond.methodLink "ValleyMass" (291 : Nat) ({ cls := "java/lang/Math", name := "max", desc := "(II)I" } : Jvm.MethodName)) ∈ lw_all := lw_g (lw_at lw_m6 214 rfl) rfl
theorem q1518 : (Jvm.Cond.instanceMethod ({ cls := "ValleyMass", name := "widen", desc := "(II)I" } : Jvm.MethodName)) ∈ lw_all := lw_g (lw_at lw_m6 219 rfl) rfl
theorem q1519 : (Jvm.Cond.selects "ValleyMass" ({ cls := "ValleyMass", name := "widen", desc := "(II)I" } : Jvm.MethodName) ({ cls := "ValleyMass", name := "widen", desc := "(II)I" } : Jvm.MethodName)) ∈ lw_all := lw_g (lw_at lw_m6 220 rfl) rfl
theorem q1520 : (Jvm.Cond.code ({ cls := "ValleyMass", name := "widen", desc := "(II)I" } : Jvm.MethodName) prog_1_method_61_code (10 : Nat) (Option.some Jvm.ClassFile.FieldType.int)) ∈ lw_all := lw_g (lw_at lw_m6 221 rfl) rfl
theorem q1521 : (Jvm.Cond.methodLink "ValleyMass" (297 : Nat) ({ cls := "ValleyMass$Row", name := "fits", desc := "(LValleyMass$Singer;I)Z" } : Jvm.MethodName)) ∈ lw_all := lw_g (lw_at lw_m6 222 rfl) rfl
theorem q1522 : (Jvm.Cond.methodLink "ValleyMass" (301 : Nat) ({ cls := "ValleyMass", name := "wider", desc := "(LValleyMass$Singer;LValleyMass$Row;)I" } : Jvm.MethodName)) ∈ lw_all := lw_g (lw_at lw_m6 223 rfl) rfl
theorem q1523 : (Jvm.Cond.static ({ cls := "ValleyMass", name := "wider", desc := "(LValleyMass$Singer;LValleyMass$Row;)I" } : Jvm.MethodName)) ∈ lw_all := lw_g (lw_at lw_m6 224 rfl) rfl
theorem q1524 : (Jvm.Cond.code ({ cls := "ValleyMass", name := "wider", desc := "(LValleyMass$Singer;LValleyMass$Row;)I" } : Jvm.MethodName) prog_1_method_60_code (5 : Nat) (Option.some Jvm.ClassFile.FieldType.int)) ∈ lw_all := lw_g (lw_at lw_m6 225 rfl) rfl
theorem q1529 : (Jvm.Cond.instanceMethod ({ cls := "ValleyMass", name := "casts", desc := "(I)J" } : Jvm.MethodName)) ∈ lw_all := lw_g (lw_at lw_m6 230 rfl) rfl
theorem q1530 : (Jvm.Cond.selects "ValleyMass" ({ cls := "ValleyMass", name := "casts", desc := "(I)J" } : Jvm.MethodName) ({ cls := "ValleyMass", name := "casts", desc := "(I)J" } : Jvm.MethodName)) ∈ lw_all := lw_g (lw_at lw_m6 231 rfl) rfl
theorem q1531 : (Jvm.Cond.code ({ cls := "ValleyMass", name := "casts", desc := "(I)J" } : Jvm.MethodName) prog_1_method_63_code (8 : Nat) (Option.some Jvm.ClassFile.FieldType.long)) ∈ lw_all := lw_g (lw_at lw_m6 232 rfl) rfl
theorem q1536 : (Jvm.Cond.instanceMethod ({ cls := "ValleyMass", name := "holds", desc := "(I)Z" } : Jvm.MethodName)) ∈ lw_all := lw_g (lw_at lw_m6 237 rfl) rfl
theorem q1537 : (Jvm.Cond.selects "ValleyMass" ({ cls := "ValleyMass", name := "holds", desc := "(I)Z" } : Jvm.MethodName) ({ cls := "ValleyMass", name := "holds", desc := "(I)Z" } : Jvm.MethodName)) ∈ lw_all := lw_g (lw_at lw_m6 238 rfl) rfl
theorem q1538 : (Jvm.Cond.code ({ cls := "ValleyMass", name := "holds", desc := "(I)Z" } : Jvm.MethodName) prog_1_method_64_code (2 : Nat) (Option.some Jvm.ClassFile.FieldType.boolean)) ∈ lw_all := lw_g (lw_at lw_m6 239 rfl) rfl
theorem q1539 : (Jvm.Cond.methodLink "ValleyMass" (305 : Nat) ({ cls := "ValleyMass$State", name := "holds", desc := "(I)Z" } : Jvm.MethodName)) ∈ lw_all := lw_g (lw_at lw_m7 0 rfl) rfl
theorem q1544 : (Jvm.Cond.instanceMethod ({ cls := "ValleyMass", name := "aimed", desc := "(I)I" } : Jvm.MethodName)) ∈ lw_all := lw_g (lw_at lw_m7 5 rfl) rfl
theorem q1545 : (Jvm.Cond.selects "ValleyMass" ({ cls := "ValleyMass", name := "aimed", desc := "(I)I" } : Jvm.MethodName) ({ cls := "ValleyMass", name := "aimed", desc := "(I)I" } : Jvm.MethodName)) ∈ lw_all := lw_g (lw_at lw_m7 6 rfl) rfl
theorem q1546 : (Jvm.Cond.code ({ cls := "ValleyMass", name := "aimed", desc := "(I)I" } : Jvm.MethodName) prog_1_method_65_code (2 : Nat) (Option.some Jvm.ClassFile.FieldType.int)) ∈ lw_all := lw_g (lw_at lw_m7 7 rfl) rfl
theorem q1551 : (Jvm.Cond.instanceMethod ({ cls := "ValleyMass", name := "held", desc := "(II)I" } : Jvm.MethodName)) ∈ lw_all := lw_g (lw_at lw_m7 12 rfl) rfl
theorem q1552 : (Jvm.Cond.selects "ValleyMass" ({ cls := "ValleyMass", name := "held", desc := "(II)I" } : Jvm.MethodName) ({ cls := "ValleyMass", name := "held", desc := "(II)I" } : Jvm.MethodName)) ∈ lw_all := lw_g (lw_at lw_m7 13 rfl) rfl
theorem q1553 : (Jvm.Cond.code ({ cls := "ValleyMass", name := "held", desc := "(II)I" } : Jvm.MethodName) prog_1_method_66_code (6 : Nat) (Option.some Jvm.ClassFile.FieldType.int)) ∈ lw_all := lw_g (lw_at lw_m7 14 rfl) rfl
theorem q1558 : (Jvm.Cond.instanceMethod ({ cls := "ValleyMass", name := "lost", desc := "(I)I" } : Jvm.MethodName)) ∈ lw_all := lw_g (lw_at lw_m7 19 rfl) rfl
theorem q1559 : (Jvm.Cond.selects "ValleyMass" ({ cls := "ValleyMass", name := "lost", desc := "(I)I" } : Jvm.MethodName) ({ cls := "ValleyMass", name := "lost", desc := "(I)I" } : Jvm.MethodName)) ∈ lw_all := lw_g (lw_at lw_m7 20 rfl) rfl
theorem q1560 : (Jvm.Cond.code ({ cls := "ValleyMass", name := "lost", desc := "(I)I" } : Jvm.MethodName) prog_1_method_67_code (4 : Nat) (Option.some Jvm.ClassFile.FieldType.int)) ∈ lw_all := lw_g (lw_at lw_m7 21 rfl) rfl
theorem q1565 : (Jvm.Cond.instanceMethod ({ cls := "ValleyMass", name := "gone", desc := "(I)I" } : Jvm.MethodName)) ∈ lw_all := lw_g (lw_at lw_m7 26 rfl) rfl
theorem q1566 : (Jvm.Cond.selects "ValleyMass" ({ cls := "ValleyMass", name := "gone", desc := "(I)I" } : Jvm.MethodName) ({ cls := "ValleyMass", name := "gone", desc := "(I)I" } : Jvm.MethodName)) ∈ lw_all := lw_g (lw_at lw_m7 27 rfl) rfl
theorem q1567 : (Jvm.Cond.code ({ cls := "ValleyMass", name := "gone", desc := "(I)I" } : Jvm.MethodName) prog_1_method_68_code (4 : Nat) (Option.some Jvm.ClassFile.FieldType.int)) ∈ lw_all := lw_g (lw_at lw_m7 28 rfl) rfl
theorem q1572 : (Jvm.Cond.instanceMethod ({ cls := "ValleyMass", name := "rows", desc := "(I)I" } : Jvm.MethodName)) ∈ lw_all := lw_g (lw_at lw_m7 33 rfl) rfl
theorem q1573 : (Jvm.Cond.selects "ValleyMass" ({ cls := "ValleyMass", name := "rows", desc := "(I)I" } : Jvm.MethodName) ({ cls := "ValleyMass", name := "rows", desc := "(I)I" } : Jvm.MethodName)) ∈ lw_all := lw_g (lw_at lw_m7 34 rfl) rfl
theorem q1574 : (Jvm.Cond.code ({ cls := "ValleyMass", name := "rows", desc := "(I)I" } : Jvm.MethodName) prog_1_method_69_code (5 : Nat) (Option.some Jvm.ClassFile.FieldType.int)) ∈ lw_all := lw_g (lw_at lw_m7 35 rfl) rfl
theorem q2221 : (Jvm.Cond.castable "ValleyMass" "java/lang/Object") ∈ lw_tbl := lw_at lw_m9 202 rfl
theorem in_X1 : ∀ w ∈ wsX10, w ∈ lw_all := lw_in wsX10 [246, 248, 250, 252, 254, 256, 258, 260, 262, 264, 266, 268, 270] (by decide +kernel) (by decide +kernel)

