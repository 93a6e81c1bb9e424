set_option maxRecDepth 100000
/-! ValleyMass$Valley -/
def RX2 : String := "ValleyMass$Valley"
def TX2 : u_T := fun k => match k with
  | 0 => ("ValleyMass$Valley", "singers", "Ljava/util/List;", true)
  | 1 => ("ValleyMass$Valley", "pieces", "Ljava/util/List;", true)
  | 2 => ("ValleyMass$Valley", "truce", "[LValleyMass$Form;", true)
  | 3 => ("ValleyMass$Valley", "aim", "[LValleyMass$Form;", true)
  | _ => ("ValleyMass$Valley", "every", "I", false)
def tyX2 : Nat → FieldType := fun k => match k with
  | 0 => .object "java/util/List"
  | 1 => .object "java/util/List"
  | 2 => .array (.object "ValleyMass$Form")
  | 3 => .array (.object "ValleyMass$Form")
  | _ => .int
abbrev wsX20 : List Cond := u_ws RX2 TX2 5
theorem nmX2 : ∀ a, a < 5 → ∀ b, b < 5 → a ≠ b → (TX2 a).2.1 ≠ (TX2 b).2.1 := by decide +kernel
theorem tyX2_ok : ∀ k, k < 5 → parseFieldDescriptor (TX2 k).2.2.1 = some (tyX2 k) := by decide +kernel
abbrev cX2_init : ByteArray := prog_10_method_1_code
def yX2_init : MethodName := ⟨RX2, "<init>", "()V"⟩
def dkwX2_init_2 : List UInt8 := [177]
abbrev dktX2_init_2 : List UInt8 := dkwX2_init_2 ++ []
def dkwX2_init_1 : List UInt8 := [181, 0, 18, 42, 5, 189, 0, 21, 181, 0, 23, 42, 5, 189, 0, 21, 181, 0, 27, 42, 7, 181, 0, 30]
abbrev dktX2_init_1 : List UInt8 := dkwX2_init_1 ++ dktX2_init_2
def dkwX2_init_0 : List UInt8 := [42, 183, 0, 3, 42, 187, 0, 9, 89, 183, 0, 11, 181, 0, 12, 42, 187, 0, 9, 89, 183, 0, 11]
abbrev dktX2_init_0 : List UInt8 := dkwX2_init_0 ++ dktX2_init_1
theorem dksX2_init_0 : cX2_init.data.toList.drop 0 = dktX2_init_0 := by decide +kernel
theorem dksX2_init_1 : cX2_init.data.toList.drop 23 = dktX2_init_1 := dk_seg dksX2_init_0 23 rfl rfl
theorem dksX2_init_2 : cX2_init.data.toList.drop 47 = dktX2_init_2 := dk_seg dksX2_init_1 24 rfl rfl
theorem dX2_init_0 : decode cX2_init 0 = .ok (.aload_n 0, 1) := dk_42 (dk_at dksX2_init_0 0 rfl rfl)
theorem dX2_init_1 : decode cX2_init 1 = .ok (.invokespecial 3, 3) := dk_183 0 3 (dk_at dksX2_init_0 1 rfl rfl)
theorem dX2_init_4 : decode cX2_init 4 = .ok (.aload_n 0, 1) := dk_42 (dk_at dksX2_init_0 4 rfl rfl)
theorem dX2_init_5 : decode cX2_init 5 = .ok (.new 9, 3) := dk_187 0 9 (dk_at dksX2_init_0 5 rfl rfl)
theorem dX2_init_8 : decode cX2_init 8 = .ok (.dup, 1) := dk_89 (dk_at dksX2_init_0 8 rfl rfl)
theorem dX2_init_9 : decode cX2_init 9 = .ok (.invokespecial 11, 3) := dk_183 0 11 (dk_at dksX2_init_0 9 rfl rfl)
theorem dX2_init_12 : decode cX2_init 12 = .ok (.putfield 12, 3) := dk_181 0 12 (dk_at dksX2_init_0 12 rfl rfl)
theorem dX2_init_15 : decode cX2_init 15 = .ok (.aload_n 0, 1) := dk_42 (dk_at dksX2_init_0 15 rfl rfl)
theorem dX2_init_16 : decode cX2_init 16 = .ok (.new 9, 3) := dk_187 0 9 (dk_at dksX2_init_0 16 rfl rfl)
theorem dX2_init_19 : decode cX2_init 19 = .ok (.dup, 1) := dk_89 (dk_at dksX2_init_0 19 rfl rfl)
theorem dX2_init_20 : decode cX2_init 20 = .ok (.invokespecial 11, 3) := dk_183 0 11 (dk_at dksX2_init_0 20 rfl rfl)
theorem dX2_init_23 : decode cX2_init 23 = .ok (.putfield 18, 3) := dk_181 0 18 (dk_at dksX2_init_1 0 rfl rfl)
theorem dX2_init_26 : decode cX2_init 26 = .ok (.aload_n 0, 1) := dk_42 (dk_at dksX2_init_1 3 rfl rfl)
theorem dX2_init_27 : decode cX2_init 27 = .ok (.iconst 2, 1) := dk_5 (dk_at dksX2_init_1 4 rfl rfl)
theorem dX2_init_28 : decode cX2_init 28 = .ok (.anewarray 21, 3) := dk_189 0 21 (dk_at dksX2_init_1 5 rfl rfl)
theorem dX2_init_31 : decode cX2_init 31 = .ok (.putfield 23, 3) := dk_181 0 23 (dk_at dksX2_init_1 8 rfl rfl)
theorem dX2_init_34 : decode cX2_init 34 = .ok (.aload_n 0, 1) := dk_42 (dk_at dksX2_init_1 11 rfl rfl)
theorem dX2_init_35 : decode cX2_init 35 = .ok (.iconst 2, 1) := dk_5 (dk_at dksX2_init_1 12 rfl rfl)
theorem dX2_init_36 : decode cX2_init 36 = .ok (.anewarray 21, 3) := dk_189 0 21 (dk_at dksX2_init_1 13 rfl rfl)
theorem dX2_init_39 : decode cX2_init 39 = .ok (.putfield 27, 3) := dk_181 0 27 (dk_at dksX2_init_1 16 rfl rfl)
theorem dX2_init_42 : decode cX2_init 42 = .ok (.aload_n 0, 1) := dk_42 (dk_at dksX2_init_1 19 rfl rfl)
theorem dX2_init_43 : decode cX2_init 43 = .ok (.iconst 4, 1) := dk_7 (dk_at dksX2_init_1 20 rfl rfl)
theorem dX2_init_44 : decode cX2_init 44 = .ok (.putfield 30, 3) := dk_181 0 30 (dk_at dksX2_init_1 21 rfl rfl)
theorem dX2_init_47 : decode cX2_init 47 = .ok (.return_, 1) := dk_177 (dk_at dksX2_init_2 0 rfl rfl)
abbrev cX2_sung : ByteArray := prog_10_method_7_code
def yX2_sung : MethodName := ⟨RX2, "sung", "(I)I"⟩
def dkwX2_sung_1 : List UInt8 := [153, 0, 9, 28, 4, 29, 120, 128, 61, 132, 3, 1, 167, 255, 225, 28, 172]
abbrev dktX2_sung_1 : List UInt8 := dkwX2_sung_1 ++ []
def dkwX2_sung_0 : List UInt8 := [3, 61, 3, 62, 29, 42, 180, 0, 18, 185, 0, 34, 1, 0, 162, 0, 24, 42, 29, 27, 182, 0, 81]
abbrev dktX2_sung_0 : List UInt8 := dkwX2_sung_0 ++ dktX2_sung_1
theorem dksX2_sung_0 : cX2_sung.data.toList.drop 0 = dktX2_sung_0 := by decide +kernel
theorem dksX2_sung_1 : cX2_sung.data.toList.drop 23 = dktX2_sung_1 := dk_seg dksX2_sung_0 23 rfl rfl
theorem dX2_sung_0 : decode cX2_sung 0 = .ok (.iconst 0, 1) := dk_3 (dk_at dksX2_sung_0 0 rfl rfl)
theorem dX2_sung_1 : decode cX2_sung 1 = .ok (.istore_n 2, 1) := dk_61 (dk_at dksX2_sung_0 1 rfl rfl)
theorem dX2_sung_2 : decode cX2_sung 2 = .ok (.iconst 0, 1) := dk_3 (dk_at dksX2_sung_0 2 rfl rfl)
theorem dX2_sung_3 : decode cX2_sung 3 = .ok (.istore_n 3, 1) := dk_62 (dk_at dksX2_sung_0 3 rfl rfl)
theorem dX2_sung_4 : decode cX2_sung 4 = .ok (.iload_n 3, 1) := dk_29 (dk_at dksX2_sung_0 4 rfl rfl)
theorem dX2_sung_5 : decode cX2_sung 5 = .ok (.aload_n 0, 1) := dk_42 (dk_at dksX2_sung_0 5 rfl rfl)
theorem dX2_sung_6 : decode cX2_sung 6 = .ok (.getfield 18, 3) := dk_180 0 18 (dk_at dksX2_sung_0 6 rfl rfl)
theorem dX2_sung_9 : decode cX2_sung 9 = .ok (.invokeinterface 34 1, 5) := by decide +kernel
theorem dX2_sung_14 : decode cX2_sung 14 = .ok (.if_icmp .ge 24, 3) := dk_162 0 24 (dk_at dksX2_sung_0 14 rfl rfl)
theorem dX2_sung_17 : decode cX2_sung 17 = .ok (.aload_n 0, 1) := dk_42 (dk_at dksX2_sung_0 17 rfl rfl)
theorem dX2_sung_18 : decode cX2_sung 18 = .ok (.iload_n 3, 1) := dk_29 (dk_at dksX2_sung_0 18 rfl rfl)
theorem dX2_sung_19 : decode cX2_sung 19 = .ok (.iload_n 1, 1) := dk_27 (dk_at dksX2_sung_0 19 rfl rfl)
theorem dX2_sung_20 : decode cX2_sung 20 = .ok (.invokevirtual 81, 3) := dk_182 0 81 (dk_at dksX2_sung_0 20 rfl rfl)
theorem dX2_sung_23 : decode cX2_sung 23 = .ok (.ifCond .eq 9, 3) := dk_153 0 9 (dk_at dksX2_sung_1 0 rfl rfl)
theorem dX2_sung_26 : decode cX2_sung 26 = .ok (.iload_n 2, 1) := dk_28 (dk_at dksX2_sung_1 3 rfl rfl)
theorem dX2_sung_27 : decode cX2_sung 27 = .ok (.iconst 1, 1) := dk_4 (dk_at dksX2_sung_1 4 rfl rfl)
theorem dX2_sung_28 : decode cX2_sung 28 = .ok (.iload_n 3, 1) := dk_29 (dk_at dksX2_sung_1 5 rfl rfl)
theorem dX2_sung_29 : decode cX2_sung 29 = .ok (.ishl, 1) := dk_120 (dk_at dksX2_sung_1 6 rfl rfl)
theorem dX2_sung_30 : decode cX2_sung 30 = .ok (.ior, 1) := dk_128 (dk_at dksX2_sung_1 7 rfl rfl)
theorem dX2_sung_31 : decode cX2_sung 31 = .ok (.istore_n 2, 1) := dk_61 (dk_at dksX2_sung_1 8 rfl rfl)
theorem dX2_sung_32 : decode cX2_sung 32 = .ok (.iinc 3 1, 3) := dk_132 3 1 (dk_at dksX2_sung_1 9 rfl rfl)
theorem dX2_sung_35 : decode cX2_sung 35 = .ok (.goto (-31), 3) := dk_167 255 225 (dk_at dksX2_sung_1 12 rfl rfl)
theorem dX2_sung_38 : decode cX2_sung 38 = .ok (.iload_n 2, 1) := dk_28 (dk_at dksX2_sung_1 15 rfl rfl)
theorem dX2_sung_39 : decode cX2_sung 39 = .ok (.ireturn, 1) := dk_172 (dk_at dksX2_sung_1 16 rfl rfl)
abbrev cX2_isSung : ByteArray := prog_10_method_6_code
def yX2_isSung : MethodName := ⟨RX2, "isSung", "(II)Z"⟩
def dkwX2_isSung_0 : List UInt8 := [42, 27, 28, 3, 182, 0, 77, 172]
abbrev dktX2_isSung_0 : List UInt8 := dkwX2_isSung_0 ++ []
theorem dksX2_isSung_0 : cX2_isSung.data.toList.drop 0 = dktX2_isSung_0 := by decide +kernel
theorem dX2_isSung_0 : decode cX2_isSung 0 = .ok (.aload_n 0, 1) := dk_42 (dk_at dksX2_isSung_0 0 rfl rfl)
theorem dX2_isSung_1 : decode cX2_isSung 1 = .ok (.iload_n 1, 1) := dk_27 (dk_at dksX2_isSung_0 1 rfl rfl)
theorem dX2_isSung_2 : decode cX2_isSung 2 = .ok (.iload_n 2, 1) := dk_28 (dk_at dksX2_isSung_0 2 rfl rfl)
theorem dX2_isSung_3 : decode cX2_isSung 3 = .ok (.iconst 0, 1) := dk_3 (dk_at dksX2_isSung_0 3 rfl rfl)
theorem dX2_isSung_4 : decode cX2_isSung 4 = .ok (.invokevirtual 77, 3) := dk_182 0 77 (dk_at dksX2_isSung_0 4 rfl rfl)
theorem dX2_isSung_7 : decode cX2_isSung 7 = .ok (.ireturn, 1) := dk_172 (dk_at dksX2_isSung_0 7 rfl rfl)
abbrev cX2_isSung_2 : ByteArray := prog_10_method_5_code
def yX2_isSung_2 : MethodName := ⟨RX2, "isSung", "(III)Z"⟩
def dkwX2_isSung_2_3 : List UInt8 := [132, 6, 1, 167, 255, 204, 21, 5, 172]
abbrev dktX2_isSung_2_3 : List UInt8 := dkwX2_isSung_2_3 ++ []
def dkwX2_isSung_2_2 : List UInt8 := [182, 0, 64, 184, 0, 68, 25, 4, 21, 6, 50, 180, 0, 74, 162, 0, 5, 3, 172, 4, 54, 5]
abbrev dktX2_isSung_2_2 : List UInt8 := dkwX2_isSung_2_2 ++ dktX2_isSung_2_3
def dkwX2_isSung_2_1 : List UInt8 := [162, 0, 52, 25, 4, 21, 6, 50, 199, 0, 6, 167, 0, 35, 42, 25, 4, 21, 6, 50, 21, 6, 28, 29]
abbrev dktX2_isSung_2_1 : List UInt8 := dkwX2_isSung_2_1 ++ dktX2_isSung_2_2
def dkwX2_isSung_2_0 : List UInt8 := [42, 180, 0, 18, 27, 185, 0, 40, 2, 0, 192, 0, 62, 58, 4, 3, 54, 5, 3, 54, 6, 21, 6, 7]
abbrev dktX2_isSung_2_0 : List UInt8 := dkwX2_isSung_2_0 ++ dktX2_isSung_2_1
theorem dksX2_isSung_2_0 : cX2_isSung_2.data.toList.drop 0 = dktX2_isSung_2_0 := by decide +kernel
theorem dksX2_isSung_2_1 : cX2_isSung_2.data.toList.drop 24 = dktX2_isSung_2_1 := dk_seg dksX2_isSung_2_0 24 rfl rfl
theorem dksX2_isSung_2_2 : cX2_isSung_2.data.toList.drop 48 = dktX2_isSung_2_2 := dk_seg dksX2_isSung_2_1 24 rfl rfl
theorem dksX2_isSung_2_3 : cX2_isSung_2.data.toList.drop 70 = dktX2_isSung_2_3 := dk_seg dksX2_isSung_2_2 22 rfl rfl
theorem dX2_isSung_2_0 : decode cX2_isSung_2 0 = .ok (.aload_n 0, 1) := dk_42 (dk_at dksX2_isSung_2_0 0 rfl rfl)
theorem dX2_isSung_2_1 : decode cX2_isSung_2 1 = .ok (.getfield 18, 3) := dk_180 0 18 (dk_at dksX2_isSung_2_0 1 rfl rfl)
theorem dX2_isSung_2_4 : decode cX2_isSung_2 4 = .ok (.iload_n 1, 1) := dk_27 (dk_at dksX2_isSung_2_0 4 rfl rfl)
theorem dX2_isSung_2_5 : decode cX2_isSung_2 5 = .ok (.invokeinterface 40 2, 5) := by decide +kernel
theorem dX2_isSung_2_10 : decode cX2_isSung_2 10 = .ok (.checkcast 62, 3) := dk_192 0 62 (dk_at dksX2_isSung_2_0 10 rfl rfl)
theorem dX2_isSung_2_13 : decode cX2_isSung_2 13 = .ok (.astore 4, 2) := dk_58 4 (dk_at dksX2_isSung_2_0 13 rfl rfl)
theorem dX2_isSung_2_15 : decode cX2_isSung_2 15 = .ok (.iconst 0, 1) := dk_3 (dk_at dksX2_isSung_2_0 15 rfl rfl)
theorem dX2_isSung_2_16 : decode cX2_isSung_2 16 = .ok (.istore 5, 2) := dk_54 5 (dk_at dksX2_isSung_2_0 16 rfl rfl)
theorem dX2_isSung_2_18 : decode cX2_isSung_2 18 = .ok (.iconst 0, 1) := dk_3 (dk_at dksX2_isSung_2_0 18 rfl rfl)
theorem dX2_isSung_2_19 : decode cX2_isSung_2 19 = .ok (.istore 6, 2) := dk_54 6 (dk_at dksX2_isSung_2_0 19 rfl rfl)
theorem dX2_isSung_2_21 : decode cX2_isSung_2 21 = .ok (.iload 6, 2) := dk_21 6 (dk_at dksX2_isSung_2_0 21 rfl rfl)
theorem dX2_isSung_2_23 : decode cX2_isSung_2 23 = .ok (.iconst 4, 1) := dk_7 (dk_at dksX2_isSung_2_0 23 rfl rfl)
theorem dX2_isSung_2_24 : decode cX2_isSung_2 24 = .ok (.if_icmp .ge 52, 3) := dk_162 0 52 (dk_at dksX2_isSung_2_1 0 rfl rfl)
theorem dX2_isSung_2_27 : decode cX2_isSung_2 27 = .ok (.aload 4, 2) := dk_25 4 (dk_at dksX2_isSung_2_1 3 rfl rfl)
theorem dX2_isSung_2_29 : decode cX2_isSung_2 29 = .ok (.iload 6, 2) := dk_21 6 (dk_at dksX2_isSung_2_1 5 rfl rfl)
theorem dX2_isSung_2_31 : decode cX2_isSung_2 31 = .ok (.aaload, 1) := dk_50 (dk_at dksX2_isSung_2_1 7 rfl rfl)
theorem dX2_isSung_2_32 : decode cX2_isSung_2 32 = .ok (.ifnonnull 6, 3) := dk_199 0 6 (dk_at dksX2_isSung_2_1 8 rfl rfl)
theorem dX2_isSung_2_35 : decode cX2_isSung_2 35 = .ok (.goto 35, 3) := dk_167 0 35 (dk_at dksX2_isSung_2_1 11 rfl rfl)
theorem dX2_isSung_2_38 : decode cX2_isSung_2 38 = .ok (.aload_n 0, 1) := dk_42 (dk_at dksX2_isSung_2_1 14 rfl rfl)
theorem dX2_isSung_2_39 : decode cX2_isSung_2 39 = .ok (.aload 4, 2) := dk_25 4 (dk_at dksX2_isSung_2_1 15 rfl rfl)
theorem dX2_isSung_2_41 : decode cX2_isSung_2 41 = .ok (.iload 6, 2) := dk_21 6 (dk_at dksX2_isSung_2_1 17 rfl rfl)
theorem dX2_isSung_2_43 : decode cX2_isSung_2 43 = .ok (.aaload, 1) := dk_50 (dk_at dksX2_isSung_2_1 19 rfl rfl)
theorem dX2_isSung_2_44 : decode cX2_isSung_2 44 = .ok (.iload 6, 2) := dk_21 6 (dk_at dksX2_isSung_2_1 20 rfl rfl)
theorem dX2_isSung_2_46 : decode cX2_isSung_2 46 = .ok (.iload_n 2, 1) := dk_28 (dk_at dksX2_isSung_2_1 22 rfl rfl)
theorem dX2_isSung_2_47 : decode cX2_isSung_2 47 = .ok (.iload_n 3, 1) := dk_29 (dk_at dksX2_isSung_2_1 23 rfl rfl)
theorem dX2_isSung_2_48 : decode cX2_isSung_2 48 = .ok (.invokevirtual 64, 3) := dk_182 0 64 (dk_at dksX2_isSung_2_2 0 rfl rfl)
theorem dX2_isSung_2_51 : decode cX2_isSung_2 51 = .ok (.invokestatic 68, 3) := dk_184 0 68 (dk_at dksX2_isSung_2_2 3 rfl rfl)
theorem dX2_isSung_2_54 : decode cX2_isSung_2 54 = .ok (.aload 4, 2) := dk_25 4 (dk_at dksX2_isSung_2_2 6 rfl rfl)
theorem dX2_isSung_2_56 : decode cX2_isSung_2 56 = .ok (.iload 6, 2) := dk_21 6 (dk_at dksX2_isSung_2_2 8 rfl rfl)
theorem dX2_isSung_2_58 : decode cX2_isSung_2 58 = .ok (.aaload, 1) := dk_50 (dk_at dksX2_isSung_2_2 10 rfl rfl)
theorem dX2_isSung_2_59 : decode cX2_isSung_2 59 = .ok (.getfield 74, 3) := dk_180 0 74 (dk_at dksX2_isSung_2_2 11 rfl rfl)
theorem dX2_isSung_2_62 : decode cX2_isSung_2 62 = .ok (.if_icmp .ge 5, 3) := dk_162 0 5 (dk_at dksX2_isSung_2_2 14 rfl rfl)
theorem dX2_isSung_2_65 : decode cX2_isSung_2 65 = .ok (.iconst 0, 1) := dk_3 (dk_at dksX2_isSung_2_2 17 rfl rfl)
theorem dX2_isSung_2_66 : decode cX2_isSung_2 66 = .ok (.ireturn, 1) := dk_172 (dk_at dksX2_isSung_2_2 18 rfl rfl)
theorem dX2_isSung_2_67 : decode cX2_isSung_2 67 = .ok (.iconst 1, 1) := dk_4 (dk_at dksX2_isSung_2_2 19 rfl rfl)
theorem dX2_isSung_2_68 : decode cX2_isSung_2 68 = .ok (.istore 5, 2) := dk_54 5 (dk_at dksX2_isSung_2_2 20 rfl rfl)
theorem dX2_isSung_2_70 : decode cX2_isSung_2 70 = .ok (.iinc 6 1, 3) := dk_132 6 1 (dk_at dksX2_isSung_2_3 0 rfl rfl)
theorem dX2_isSung_2_73 : decode cX2_isSung_2 73 = .ok (.goto (-52), 3) := dk_167 255 204 (dk_at dksX2_isSung_2_3 3 rfl rfl)
theorem dX2_isSung_2_76 : decode cX2_isSung_2 76 = .ok (.iload 5, 2) := dk_21 5 (dk_at dksX2_isSung_2_3 6 rfl rfl)
theorem dX2_isSung_2_78 : decode cX2_isSung_2 78 = .ok (.ireturn, 1) := dk_172 (dk_at dksX2_isSung_2_3 8 rfl rfl)
abbrev cX2_able : ByteArray := prog_10_method_4_code
def yX2_able : MethodName := ⟨RX2, "able", "(LValleyMass$Row;III)I"⟩
def dkwX2_able_3 : List UInt8 := [153, 0, 12, 21, 5, 4, 21, 6, 120, 128, 54, 5, 132, 6, 1, 167, 255, 177, 21, 5, 172]
abbrev dktX2_able_3 : List UInt8 := dkwX2_able_3 ++ []
def dkwX2_able_2 : List UInt8 := [160, 0, 35, 43, 42, 180, 0, 12, 21, 6, 185, 0, 40, 2, 0, 192, 0, 44, 21, 4, 182, 0, 56]
abbrev dktX2_able_2 : List UInt8 := dkwX2_able_2 ++ dktX2_able_3
def dkwX2_able_1 : List UInt8 := [184, 0, 49, 153, 0, 56, 42, 180, 0, 12, 21, 6, 185, 0, 40, 2, 0, 192, 0, 44, 180, 0, 53, 28]
abbrev dktX2_able_1 : List UInt8 := dkwX2_able_1 ++ dktX2_able_2
def dkwX2_able_0 : List UInt8 := [3, 54, 5, 3, 54, 6, 21, 6, 42, 180, 0, 12, 185, 0, 34, 1, 0, 162, 0, 71, 29, 21, 6]
abbrev dktX2_able_0 : List UInt8 := dkwX2_able_0 ++ dktX2_able_1
theorem dksX2_able_0 : cX2_able.data.toList.drop 0 = dktX2_able_0 := by decide +kernel
theorem dksX2_able_1 : cX2_able.data.toList.drop 23 = dktX2_able_1 := dk_seg dksX2_able_0 23 rfl rfl
theorem dksX2_able_2 : cX2_able.data.toList.drop 47 = dktX2_able_2 := dk_seg dksX2_able_1 24 rfl rfl
theorem dksX2_able_3 : cX2_able.data.toList.drop 70 = dktX2_able_3 := dk_seg dksX2_able_2 23 rfl rfl
theorem dX2_able_0 : decode cX2_able 0 = .ok (.iconst 0, 1) := dk_3 (dk_at dksX2_able_0 0 rfl rfl)
theorem dX2_able_1 : decode cX2_able 1 = .ok (.istore 5, 2) := dk_54 5 (dk_at dksX2_able_0 1 rfl rfl)
theorem dX2_able_3 : decode cX2_able 3 = .ok (.iconst 0, 1) := dk_3 (dk_at dksX2_able_0 3 rfl rfl)
theorem dX2_able_4 : decode cX2_able 4 = .ok (.istore 6, 2) := dk_54 6 (dk_at dksX2_able_0 4 rfl rfl)
theorem dX2_able_6 : decode cX2_able 6 = .ok (.iload 6, 2) := dk_21 6 (dk_at dksX2_able_0 6 rfl rfl)
theorem dX2_able_8 : decode cX2_able 8 = .ok (.aload_n 0, 1) := dk_42 (dk_at dksX2_able_0 8 rfl rfl)
theorem dX2_able_9 : decode cX2_able 9 = .ok (.getfield 12, 3) := dk_180 0 12 (dk_at dksX2_able_0 9 rfl rfl)
theorem dX2_able_12 : decode cX2_able 12 = .ok (.invokeinterface 34 1, 5) := by decide +kernel
theorem dX2_able_17 : decode cX2_able 17 = .ok (.if_icmp .ge 71, 3) := dk_162 0 71 (dk_at dksX2_able_0 17 rfl rfl)
theorem dX2_able_20 : decode cX2_able 20 = .ok (.iload_n 3, 1) := dk_29 (dk_at dksX2_able_0 20 rfl rfl)
theorem dX2_able_21 : decode cX2_able 21 = .ok (.iload 6, 2) := dk_21 6 (dk_at dksX2_able_0 21 rfl rfl)
theorem dX2_able_23 : decode cX2_able 23 = .ok (.invokestatic 49, 3) := dk_184 0 49 (dk_at dksX2_able_1 0 rfl rfl)
theorem dX2_able_26 : decode cX2_able 26 = .ok (.ifCond .eq 56, 3) := dk_153 0 56 (dk_at dksX2_able_1 3 rfl rfl)
theorem dX2_able_29 : decode cX2_able 29 = .ok (.aload_n 0, 1) := dk_42 (dk_at dksX2_able_1 6 rfl rfl)
theorem dX2_able_30 : decode cX2_able 30 = .ok (.getfield 12, 3) := dk_180 0 12 (dk_at dksX2_able_1 7 rfl rfl)
theorem dX2_able_33 : decode cX2_able 33 = .ok (.iload 6, 2) := dk_21 6 (dk_at dksX2_able_1 10 rfl rfl)
theorem dX2_able_35 : decode cX2_able 35 = .ok (.invokeinterface 40 2, 5) := by decide +kernel
theorem dX2_able_40 : decode cX2_able 40 = .ok (.checkcast 44, 3) := dk_192 0 44 (dk_at dksX2_able_1 17 rfl rfl)
theorem dX2_able_43 : decode cX2_able 43 = .ok (.getfield 53, 3) := dk_180 0 53 (dk_at dksX2_able_1 20 rfl rfl)
theorem dX2_able_46 : decode cX2_able 46 = .ok (.iload_n 2, 1) := dk_28 (dk_at dksX2_able_1 23 rfl rfl)
theorem dX2_able_47 : decode cX2_able 47 = .ok (.if_icmp .ne 35, 3) := dk_160 0 35 (dk_at dksX2_able_2 0 rfl rfl)
theorem dX2_able_50 : decode cX2_able 50 = .ok (.aload_n 1, 1) := dk_43 (dk_at dksX2_able_2 3 rfl rfl)
theorem dX2_able_51 : decode cX2_able 51 = .ok (.aload_n 0, 1) := dk_42 (dk_at dksX2_able_2 4 rfl rfl)
theorem dX2_able_52 : decode cX2_able 52 = .ok (.getfield 12, 3) := dk_180 0 12 (dk_at dksX2_able_2 5 rfl rfl)
theorem dX2_able_55 : decode cX2_able 55 = .ok (.iload 6, 2) := dk_21 6 (dk_at dksX2_able_2 8 rfl rfl)
theorem dX2_able_57 : decode cX2_able 57 = .ok (.invokeinterface 40 2, 5) := by decide +kernel
theorem dX2_able_62 : decode cX2_able 62 = .ok (.checkcast 44, 3) := dk_192 0 44 (dk_at dksX2_able_2 15 rfl rfl)
theorem dX2_able_65 : decode cX2_able 65 = .ok (.iload 4, 2) := dk_21 4 (dk_at dksX2_able_2 18 rfl rfl)
theorem dX2_able_67 : decode cX2_able 67 = .ok (.invokevirtual 56, 3) := dk_182 0 56 (dk_at dksX2_able_2 20 rfl rfl)
theorem dX2_able_70 : decode cX2_able 70 = .ok (.ifCond .eq 12, 3) := dk_153 0 12 (dk_at dksX2_able_3 0 rfl rfl)
theorem dX2_able_73 : decode cX2_able 73 = .ok (.iload 5, 2) := dk_21 5 (dk_at dksX2_able_3 3 rfl rfl)
theorem dX2_able_75 : decode cX2_able 75 = .ok (.iconst 1, 1) := dk_4 (dk_at dksX2_able_3 5 rfl rfl)
theorem dX2_able_76 : decode cX2_able 76 = .ok (.iload 6, 2) := dk_21 6 (dk_at dksX2_able_3 6 rfl rfl)
theorem dX2_able_78 : decode cX2_able 78 = .ok (.ishl, 1) := dk_120 (dk_at dksX2_able_3 8 rfl rfl)
theorem dX2_able_79 : decode cX2_able 79 = .ok (.ior, 1) := dk_128 (dk_at dksX2_able_3 9 rfl rfl)
theorem dX2_able_80 : decode cX2_able 80 = .ok (.istore 5, 2) := dk_54 5 (dk_at dksX2_able_3 10 rfl rfl)
theorem dX2_able_82 : decode cX2_able 82 = .ok (.iinc 6 1, 3) := dk_132 6 1 (dk_at dksX2_able_3 12 rfl rfl)
theorem dX2_able_85 : decode cX2_able 85 = .ok (.goto (-79), 3) := dk_167 255 177 (dk_at dksX2_able_3 15 rfl rfl)
theorem dX2_able_88 : decode cX2_able 88 = .ok (.iload 5, 2) := dk_21 5 (dk_at dksX2_able_3 18 rfl rfl)
theorem dX2_able_90 : decode cX2_able 90 = .ok (.ireturn, 1) := dk_172 (dk_at dksX2_able_3 20 rfl rfl)
abbrev cX2_ofSide : ByteArray := prog_10_method_3_code
def yX2_ofSide : MethodName := ⟨RX2, "ofSide", "(I)I"⟩
def dkwX2_ofSide_2 : List UInt8 := [167, 255, 214, 28, 172]
abbrev dktX2_ofSide_2 : List UInt8 := dkwX2_ofSide_2 ++ []
def dkwX2_ofSide_1 : List UInt8 := [185, 0, 40, 2, 0, 192, 0, 44, 180, 0, 46, 27, 160, 0, 9, 28, 4, 29, 120, 128, 61, 132, 3, 1]
abbrev dktX2_ofSide_1 : List UInt8 := dkwX2_ofSide_1 ++ dktX2_ofSide_2
def dkwX2_ofSide_0 : List UInt8 := [3, 61, 3, 62, 29, 42, 180, 0, 12, 185, 0, 34, 1, 0, 162, 0, 35, 42, 180, 0, 12, 29]
abbrev dktX2_ofSide_0 : List UInt8 := dkwX2_ofSide_0 ++ dktX2_ofSide_1
theorem dksX2_ofSide_0 : cX2_ofSide.data.toList.drop 0 = dktX2_ofSide_0 := by decide +kernel
theorem dksX2_ofSide_1 : cX2_ofSide.data.toList.drop 22 = dktX2_ofSide_1 := dk_seg dksX2_ofSide_0 22 rfl rfl
theorem dksX2_ofSide_2 : cX2_ofSide.data.toList.drop 46 = dktX2_ofSide_2 := dk_seg dksX2_ofSide_1 24 rfl rfl
theorem dX2_ofSide_0 : decode cX2_ofSide 0 = .ok (.iconst 0, 1) := dk_3 (dk_at dksX2_ofSide_0 0 rfl rfl)
theorem dX2_ofSide_1 : decode cX2_ofSide 1 = .ok (.istore_n 2, 1) := dk_61 (dk_at dksX2_ofSide_0 1 rfl rfl)
theorem dX2_ofSide_2 : decode cX2_ofSide 2 = .ok (.iconst 0, 1) := dk_3 (dk_at dksX2_ofSide_0 2 rfl rfl)
theorem dX2_ofSide_3 : decode cX2_ofSide 3 = .ok (.istore_n 3, 1) := dk_62 (dk_at dksX2_ofSide_0 3 rfl rfl)
theorem dX2_ofSide_4 : decode cX2_ofSide 4 = .ok (.iload_n 3, 1) := dk_29 (dk_at dksX2_ofSide_0 4 rfl rfl)
theorem dX2_ofSide_5 : decode cX2_ofSide 5 = .ok (.aload_n 0, 1) := dk_42 (dk_at dksX2_ofSide_0 5 rfl rfl)
theorem dX2_ofSide_6 : decode cX2_ofSide 6 = .ok (.getfield 12, 3) := dk_180 0 12 (dk_at dksX2_ofSide_0 6 rfl rfl)
theorem dX2_ofSide_9 : decode cX2_ofSide 9 = .ok (.invokeinterface 34 1, 5) := by decide +kernel
theorem dX2_ofSide_14 : decode cX2_ofSide 14 = .ok (.if_icmp .ge 35, 3) := dk_162 0 35 (dk_at dksX2_ofSide_0 14 rfl rfl)
theorem dX2_ofSide_17 : decode cX2_ofSide 17 = .ok (.aload_n 0, 1) := dk_42 (dk_at dksX2_ofSide_0 17 rfl rfl)
theorem dX2_ofSide_18 : decode cX2_ofSide 18 = .ok (.getfield 12, 3) := dk_180 0 12 (dk_at dksX2_ofSide_0 18 rfl rfl)
theorem dX2_ofSide_21 : decode cX2_ofSide 21 = .ok (.iload_n 3, 1) := dk_29 (dk_at dksX2_ofSide_0 21 rfl rfl)
theorem dX2_ofSide_22 : decode cX2_ofSide 22 = .ok (.invokeinterface 40 2, 5) := by decide +kernel
theorem dX2_ofSide_27 : decode cX2_ofSide 27 = .ok (.checkcast 44, 3) := dk_192 0 44 (dk_at dksX2_ofSide_1 5 rfl rfl)
theorem dX2_ofSide_30 : decode cX2_ofSide 30 = .ok (.getfield 46, 3) := dk_180 0 46 (dk_at dksX2_ofSide_1 8 rfl rfl)
theorem dX2_ofSide_33 : decode cX2_ofSide 33 = .ok (.iload_n 1, 1) := dk_27 (dk_at dksX2_ofSide_1 11 rfl rfl)
theorem dX2_ofSide_34 : decode cX2_ofSide 34 = .ok (.if_icmp .ne 9, 3) := dk_160 0 9 (dk_at dksX2_ofSide_1 12 rfl rfl)
theorem dX2_ofSide_37 : decode cX2_ofSide 37 = .ok (.iload_n 2, 1) := dk_28 (dk_at dksX2_ofSide_1 15 rfl rfl)
theorem dX2_ofSide_38 : decode cX2_ofSide 38 = .ok (.iconst 1, 1) := dk_4 (dk_at dksX2_ofSide_1 16 rfl rfl)
theorem dX2_ofSide_39 : decode cX2_ofSide 39 = .ok (.iload_n 3, 1) := dk_29 (dk_at dksX2_ofSide_1 17 rfl rfl)
theorem dX2_ofSide_40 : decode cX2_ofSide 40 = .ok (.ishl, 1) := dk_120 (dk_at dksX2_ofSide_1 18 rfl rfl)
theorem dX2_ofSide_41 : decode cX2_ofSide 41 = .ok (.ior, 1) := dk_128 (dk_at dksX2_ofSide_1 19 rfl rfl)
theorem dX2_ofSide_42 : decode cX2_ofSide 42 = .ok (.istore_n 2, 1) := dk_61 (dk_at dksX2_ofSide_1 20 rfl rfl)
theorem dX2_ofSide_43 : decode cX2_ofSide 43 = .ok (.iinc 3 1, 3) := dk_132 3 1 (dk_at dksX2_ofSide_1 21 rfl rfl)
theorem dX2_ofSide_46 : decode cX2_ofSide 46 = .ok (.goto (-42), 3) := dk_167 255 214 (dk_at dksX2_ofSide_2 0 rfl rfl)
theorem dX2_ofSide_49 : decode cX2_ofSide 49 = .ok (.iload_n 2, 1) := dk_28 (dk_at dksX2_ofSide_2 3 rfl rfl)
theorem dX2_ofSide_50 : decode cX2_ofSide 50 = .ok (.ireturn, 1) := dk_172 (dk_at dksX2_ofSide_2 4 rfl rfl)
abbrev cX2_all : ByteArray := prog_10_method_2_code
def yX2_all : MethodName := ⟨RX2, "all", "()I"⟩
def dkwX2_all_0 : List UInt8 := [4, 42, 180, 0, 12, 185, 0, 34, 1, 0, 120, 4, 100, 172]
abbrev dktX2_all_0 : List UInt8 := dkwX2_all_0 ++ []
theorem dksX2_all_0 : cX2_all.data.toList.drop 0 = dktX2_all_0 := by decide +kernel
theorem dX2_all_0 : decode cX2_all 0 = .ok (.iconst 1, 1) := dk_4 (dk_at dksX2_all_0 0 rfl rfl)
theorem dX2_all_1 : decode cX2_all 1 = .ok (.aload_n 0, 1) := dk_42 (dk_at dksX2_all_0 1 rfl rfl)
theorem dX2_all_2 : decode cX2_all 2 = .ok (.getfield 12, 3) := dk_180 0 12 (dk_at dksX2_all_0 2 rfl rfl)
theorem dX2_all_5 : decode cX2_all 5 = .ok (.invokeinterface 34 1, 5) := by decide +kernel
theorem dX2_all_10 : decode cX2_all 10 = .ok (.ishl, 1) := dk_120 (dk_at dksX2_all_0 10 rfl rfl)
theorem dX2_all_11 : decode cX2_all 11 = .ok (.iconst 1, 1) := dk_4 (dk_at dksX2_all_0 11 rfl rfl)
theorem dX2_all_12 : decode cX2_all 12 = .ok (.isub, 1) := dk_100 (dk_at dksX2_all_0 12 rfl rfl)
theorem dX2_all_13 : decode cX2_all 13 = .ok (.ireturn, 1) := dk_172 (dk_at dksX2_all_0 13 rfl rfl)
abbrev cX2_skills : ByteArray := prog_10_method_8_code
def yX2_skills : MethodName := ⟨RX2, "skills", "(I)I"⟩
def dkwX2_skills_2 : List UInt8 := [132, 3, 1, 167, 255, 213, 28, 172]
abbrev dktX2_skills_2 : List UInt8 := dkwX2_skills_2 ++ []
def dkwX2_skills_1 : List UInt8 := [153, 0, 22, 28, 42, 180, 0, 12, 29, 185, 0, 40, 2, 0, 192, 0, 44, 180, 0, 83, 96, 61]
abbrev dktX2_skills_1 : List UInt8 := dkwX2_skills_1 ++ dktX2_skills_2
def dkwX2_skills_0 : List UInt8 := [3, 61, 3, 62, 29, 42, 180, 0, 12, 185, 0, 34, 1, 0, 162, 0, 36, 27, 29, 184, 0, 49]
abbrev dktX2_skills_0 : List UInt8 := dkwX2_skills_0 ++ dktX2_skills_1
theorem dksX2_skills_0 : cX2_skills.data.toList.drop 0 = dktX2_skills_0 := by decide +kernel
theorem dksX2_skills_1 : cX2_skills.data.toList.drop 22 = dktX2_skills_1 := dk_seg dksX2_skills_0 22 rfl rfl
theorem dksX2_skills_2 : cX2_skills.data.toList.drop 44 = dktX2_skills_2 := dk_seg dksX2_skills_1 22 rfl rfl
theorem dX2_skills_0 : decode cX2_skills 0 = .ok (.iconst 0, 1) := dk_3 (dk_at dksX2_skills_0 0 rfl rfl)
theorem dX2_skills_1 : decode cX2_skills 1 = .ok (.istore_n 2, 1) := dk_61 (dk_at dksX2_skills_0 1 rfl rfl)
theorem dX2_skills_2 : decode cX2_skills 2 = .ok (.iconst 0, 1) := dk_3 (dk_at dksX2_skills_0 2 rfl rfl)
theorem dX2_skills_3 : decode cX2_skills 3 = .ok (.istore_n 3, 1) := dk_62 (dk_at dksX2_skills_0 3 rfl rfl)
theorem dX2_skills_4 : decode cX2_skills 4 = .ok (.iload_n 3, 1) := dk_29 (dk_at dksX2_skills_0 4 rfl rfl)
theorem dX2_skills_5 : decode cX2_skills 5 = .ok (.aload_n 0, 1) := dk_42 (dk_at dksX2_skills_0 5 rfl rfl)
theorem dX2_skills_6 : decode cX2_skills 6 = .ok (.getfield 12, 3) := dk_180 0 12 (dk_at dksX2_skills_0 6 rfl rfl)
theorem dX2_skills_9 : decode cX2_skills 9 = .ok (.invokeinterface 34 1, 5) := by decide +kernel
theorem dX2_skills_14 : decode cX2_skills 14 = .ok (.if_icmp .ge 36, 3) := dk_162 0 36 (dk_at dksX2_skills_0 14 rfl rfl)
theorem dX2_skills_17 : decode cX2_skills 17 = .ok (.iload_n 1, 1) := dk_27 (dk_at dksX2_skills_0 17 rfl rfl)
theorem dX2_skills_18 : decode cX2_skills 18 = .ok (.iload_n 3, 1) := dk_29 (dk_at dksX2_skills_0 18 rfl rfl)
theorem dX2_skills_19 : decode cX2_skills 19 = .ok (.invokestatic 49, 3) := dk_184 0 49 (dk_at dksX2_skills_0 19 rfl rfl)
theorem dX2_skills_22 : decode cX2_skills 22 = .ok (.ifCond .eq 22, 3) := dk_153 0 22 (dk_at dksX2_skills_1 0 rfl rfl)
theorem dX2_skills_25 : decode cX2_skills 25 = .ok (.iload_n 2, 1) := dk_28 (dk_at dksX2_skills_1 3 rfl rfl)
theorem dX2_skills_26 : decode cX2_skills 26 = .ok (.aload_n 0, 1) := dk_42 (dk_at dksX2_skills_1 4 rfl rfl)
theorem dX2_skills_27 : decode cX2_skills 27 = .ok (.getfield 12, 3) := dk_180 0 12 (dk_at dksX2_skills_1 5 rfl rfl)
theorem dX2_skills_30 : decode cX2_skills 30 = .ok (.iload_n 3, 1) := dk_29 (dk_at dksX2_skills_1 8 rfl rfl)
theorem dX2_skills_31 : decode cX2_skills 31 = .ok (.invokeinterface 40 2, 5) := by decide +kernel
theorem dX2_skills_36 : decode cX2_skills 36 = .ok (.checkcast 44, 3) := dk_192 0 44 (dk_at dksX2_skills_1 14 rfl rfl)
theorem dX2_skills_39 : decode cX2_skills 39 = .ok (.getfield 83, 3) := dk_180 0 83 (dk_at dksX2_skills_1 17 rfl rfl)
theorem dX2_skills_42 : decode cX2_skills 42 = .ok (.iadd, 1) := dk_96 (dk_at dksX2_skills_1 20 rfl rfl)
theorem dX2_skills_43 : decode cX2_skills 43 = .ok (.istore_n 2, 1) := dk_61 (dk_at dksX2_skills_1 21 rfl rfl)
theorem dX2_skills_44 : decode cX2_skills 44 = .ok (.iinc 3 1, 3) := dk_132 3 1 (dk_at dksX2_skills_2 0 rfl rfl)
theorem dX2_skills_47 : decode cX2_skills 47 = .ok (.goto (-43), 3) := dk_167 255 213 (dk_at dksX2_skills_2 3 rfl rfl)
theorem dX2_skills_50 : decode cX2_skills 50 = .ok (.iload_n 2, 1) := dk_28 (dk_at dksX2_skills_2 6 rfl rfl)
theorem dX2_skills_51 : decode cX2_skills 51 = .ok (.ireturn, 1) := dk_172 (dk_at dksX2_skills_2 7 rfl rfl)
theorem q101 : (Jvm.Cond.initialized "ValleyMass$Valley") ∈ lw_all := lw_g (lw_at lw_m1 2 rfl) rfl
theorem q144 : (Jvm.Cond.instantiable "ValleyMass$Valley" (5 : Nat)) ∈ lw_all := lw_g (lw_at lw_m1 45 rfl) rfl
theorem q146 : (Jvm.Cond.instanceMethod ({ cls := "ValleyMass$Valley", name := "<init>", desc := "()V" } : Jvm.MethodName)) ∈ lw_all := lw_g (lw_at lw_m1 47 rfl) rfl
theorem q147 : (Jvm.Cond.code ({ cls := "ValleyMass$Valley", name := "<init>", desc := "()V" } : Jvm.MethodName) prog_10_method_1_code (1 : Nat) (Option.none : Option Jvm.ClassFile.FieldType)) ∈ lw_all := lw_g (lw_at lw_m1 48 rfl) rfl
theorem q148 : (Jvm.Cond.methodLink "ValleyMass$Valley" (3 : Nat) ({ cls := "java/lang/Object", name := "<init>", desc := "()V" } : Jvm.MethodName)) ∈ lw_all := lw_g (lw_at lw_m1 49 rfl) rfl
theorem q149 : (Jvm.Cond.classLink "ValleyMass$Valley" (9 : Nat) "java/util/ArrayList") ∈ lw_all := lw_g (lw_at lw_m1 50 rfl) rfl
theorem q151 : (Jvm.Cond.methodLink "ValleyMass$Valley" (11 : Nat) ({ cls := "java/util/ArrayList", name := "<init>", desc := "()V" } : Jvm.MethodName)) ∈ lw_all := lw_g (lw_at lw_m1 52 rfl) rfl
theorem q175 : (Jvm.Cond.classLink "ValleyMass$Valley" (21 : Nat) "ValleyMass$Form") ∈ lw_all := lw_g (lw_at lw_m1 76 rfl) rfl
theorem q177 : (Jvm.Cond.fieldLink "ValleyMass$Valley" (12 : Nat) "ValleyMass$Valley" "singers" "Ljava/util/List;") ∈ lw_all := lw_g (lw_at lw_m1 78 rfl) rfl
theorem q181 : (Jvm.Cond.fieldLink "ValleyMass$Valley" (18 : Nat) "ValleyMass$Valley" "pieces" "Ljava/util/List;") ∈ lw_all := lw_g (lw_at lw_m1 82 rfl) rfl
theorem q184 : (Jvm.Cond.fieldLink "ValleyMass$Valley" (23 : Nat) "ValleyMass$Valley" "truce" "[LValleyMass$Form;") ∈ lw_all := lw_g (lw_at lw_m1 85 rfl) rfl
theorem q187 : (Jvm.Cond.fieldLink "ValleyMass$Valley" (27 : Nat) "ValleyMass$Valley" "aim" "[LValleyMass$Form;") ∈ lw_all := lw_g (lw_at lw_m1 88 rfl) rfl
theorem q190 : (Jvm.Cond.fieldLink "ValleyMass$Valley" (30 : Nat) "ValleyMass$Valley" "every" "I") ∈ lw_all := lw_g (lw_at lw_m1 91 rfl) rfl
theorem q194 : (Jvm.Cond.laysFinal "ValleyMass$Valley" "ValleyMass$Valley" "singers" "Ljava/util/List;") ∈ lw_all := lw_g (lw_at lw_m1 95 rfl) rfl
theorem q195 : (Jvm.Cond.soleField "ValleyMass$Valley" "singers") ∈ lw_all := lw_g (lw_at lw_m1 96 rfl) rfl
theorem q196 : (Jvm.Cond.laysFinal "ValleyMass$Valley" "ValleyMass$Valley" "pieces" "Ljava/util/List;") ∈ lw_all := lw_g (lw_at lw_m1 97 rfl) rfl
theorem q197 : (Jvm.Cond.soleField "ValleyMass$Valley" "pieces") ∈ lw_all := lw_g (lw_at lw_m1 98 rfl) rfl
theorem q198 : (Jvm.Cond.laysFinal "ValleyMass$Valley" "ValleyMass$Valley" "truce" "[LValleyMass$Form;") ∈ lw_all := lw_g (lw_at lw_m1 99 rfl) rfl
theorem q199 : (Jvm.Cond.soleField "ValleyMass$Valley" "truce") ∈ lw_all := lw_g (lw_at lw_m1 100 rfl) rfl
theorem q200 : (Jvm.Cond.laysFinal "ValleyMass$Valley" "ValleyMass$Valley" "aim" "[LValleyMass$Form;") ∈ lw_all := lw_g (lw_at lw_m1 101 rfl) rfl
theorem q201 : (Jvm.Cond.soleField "ValleyMass$Valley" "aim") ∈ lw_all := lw_g (lw_at lw_m1 102 rfl) rfl
theorem q202 : (Jvm.Cond.lays "ValleyMass$Valley" "ValleyMass$Valley" "every" "I") ∈ lw_all := lw_g (lw_at lw_m1 103 rfl) rfl
theorem q203 : (Jvm.Cond.soleField "ValleyMass$Valley" "every") ∈ lw_all := lw_g (lw_at lw_m1 104 rfl) rfl
theorem q204 : (Jvm.Cond.superclass "ValleyMass$Valley" "java/lang/Object") ∈ lw_all := lw_g (lw_at lw_m1 105 rfl) rfl
theorem q349 : (Jvm.Cond.selects "ValleyMass$Valley" ({ cls := "java/lang/Object", name := "getClass", desc := "()Ljava/lang/Class;" } : Jvm.MethodName) ({ cls := "java/lang/Object", name := "getClass", desc := "()Ljava/lang/Class;" } : Jvm.MethodName)) ∈ lw_all := lw_g (lw_at lw_m2 10 rfl) rfl
theorem q421 : (Jvm.Cond.instanceMethod ({ cls := "ValleyMass$Valley", name := "sung", desc := "(I)I" } : Jvm.MethodName)) ∈ lw_all := lw_g (lw_at lw_m2 82 rfl) rfl
theorem q422 : (Jvm.Cond.selects "ValleyMass$Valley" ({ cls := "ValleyMass$Valley", name := "sung", desc := "(I)I" } : Jvm.MethodName) ({ cls := "ValleyMass$Valley", name := "sung", desc := "(I)I" } : Jvm.MethodName)) ∈ lw_all := lw_g (lw_at lw_m2 83 rfl) rfl
theorem q423 : (Jvm.Cond.code ({ cls := "ValleyMass$Valley", name := "sung", desc := "(I)I" } : Jvm.MethodName) prog_10_method_7_code (4 : Nat) (Option.some Jvm.ClassFile.FieldType.int)) ∈ lw_all := lw_g (lw_at lw_m2 84 rfl) rfl
theorem q424 : (Jvm.Cond.interfaceEntry "ValleyMass$Valley" (34 : Nat)) ∈ lw_tbl := lw_at lw_m2 85 rfl
theorem q425 : (Jvm.Cond.methodLink "ValleyMass$Valley" (34 : Nat) ({ cls := "java/util/List", name := "size", desc := "()I" } : Jvm.MethodName)) ∈ lw_all := lw_g (lw_at lw_m2 86 rfl) rfl
theorem q426 : (Jvm.Cond.methodLink "ValleyMass$Valley" (81 : Nat) ({ cls := "ValleyMass$Valley", name := "isSung", desc := "(II)Z" } : Jvm.MethodName)) ∈ lw_all := lw_g (lw_at lw_m2 87 rfl) rfl
theorem q427 : (Jvm.Cond.instanceMethod ({ cls := "ValleyMass$Valley", name := "isSung", desc := "(II)Z" } : Jvm.MethodName)) ∈ lw_all := lw_g (lw_at lw_m2 88 rfl) rfl
theorem q428 : (Jvm.Cond.selects "ValleyMass$Valley" ({ cls := "ValleyMass$Valley", name := "isSung", desc := "(II)Z" } : Jvm.MethodName) ({ cls := "ValleyMass$Valley", name := "isSung", desc := "(II)Z" } : Jvm.MethodName)) ∈ lw_all := lw_g (lw_at lw_m2 89 rfl) rfl
theorem q429 : (Jvm.Cond.code ({ cls := "ValleyMass$Valley", name := "isSung", desc := "(II)Z" } : Jvm.MethodName) prog_10_method_6_code (3 : Nat) (Option.some Jvm.ClassFile.FieldType.boolean)) ∈ lw_all := lw_g (lw_at lw_m2 90 rfl) rfl
theorem q430 : (Jvm.Cond.methodLink "ValleyMass$Valley" (77 : Nat) ({ cls := "ValleyMass$Valley", name := "isSung", desc := "(III)Z" } : Jvm.MethodName)) ∈ lw_all := lw_g (lw_at lw_m2 91 rfl) rfl
theorem q431 : (Jvm.Cond.instanceMethod ({ cls := "ValleyMass$Valley", name := "isSung", desc := "(III)Z" } : Jvm.MethodName)) ∈ lw_all := lw_g (lw_at lw_m2 92 rfl) rfl
theorem q432 : (Jvm.Cond.selects "ValleyMass$Valley" ({ cls := "ValleyMass$Valley", name := "isSung", desc := "(III)Z" } : Jvm.MethodName) ({ cls := "ValleyMass$Valley", name := "isSung", desc := "(III)Z" } : Jvm.MethodName)) ∈ lw_all := lw_g (lw_at lw_m2 93 rfl) rfl
theorem q433 : (Jvm.Cond.code ({ cls := "ValleyMass$Valley", name := "isSung", desc := "(III)Z" } : Jvm.MethodName) prog_10_method_5_code (7 : Nat) (Option.some Jvm.ClassFile.FieldType.boolean)) ∈ lw_all := lw_g (lw_at lw_m2 94 rfl) rfl
theorem q434 : (Jvm.Cond.interfaceEntry "ValleyMass$Valley" (40 : Nat)) ∈ lw_tbl := lw_at lw_m2 95 rfl
theorem q435 : (Jvm.Cond.methodLink "ValleyMass$Valley" (40 : Nat) ({ cls := "java/util/List", name := "get", desc := "(I)Ljava/lang/Object;" } : Jvm.MethodName)) ∈ lw_all := lw_g (lw_at lw_m2 96 rfl) rfl
theorem q447 : (Jvm.Cond.classLink "ValleyMass$Valley" (62 : Nat) "[LValleyMass$Row;") ∈ lw_all := lw_g (lw_at lw_m2 108 rfl) rfl
theorem q448 : (Jvm.Cond.methodLink "ValleyMass$Valley" (64 : Nat) ({ cls := "ValleyMass$Valley", name := "able", desc := "(LValleyMass$Row;III)I" } : Jvm.MethodName)) ∈ lw_all := lw_g (lw_at lw_m2 109 rfl) rfl
theorem q449 : (Jvm.Cond.instanceMethod ({ cls := "ValleyMass$Valley", name := "able", desc := "(LValleyMass$Row;III)I" } : Jvm.MethodName)) ∈ lw_all := lw_g (lw_at lw_m2 110 rfl) rfl
theorem q450 : (Jvm.Cond.selects "ValleyMass$Valley" ({ cls := "ValleyMass$Valley", name := "able", desc := "(LValleyMass$Row;III)I" } : Jvm.MethodName) ({ cls := "ValleyMass$Valley", name := "able", desc := "(LValleyMass$Row;III)I" } : Jvm.MethodName)) ∈ lw_all := lw_g (lw_at lw_m2 111 rfl) rfl
theorem q451 : (Jvm.Cond.code ({ cls := "ValleyMass$Valley", name := "able", desc := "(LValleyMass$Row;III)I" } : Jvm.MethodName) prog_10_method_4_code (7 : Nat) (Option.some Jvm.ClassFile.FieldType.int)) ∈ lw_all := lw_g (lw_at lw_m2 112 rfl) rfl
theorem q452 : (Jvm.Cond.methodLinkNest "ValleyMass$Valley" (49 : Nat) ({ cls := "ValleyMass", name := "isOf", desc := "(II)Z" } : Jvm.MethodName) "ValleyMass") ∈ lw_tbl := lw_at lw_m2 113 rfl
theorem q455 : (Jvm.Cond.classLink "ValleyMass$Valley" (44 : Nat) "ValleyMass$Singer") ∈ lw_all := lw_g (lw_at lw_m2 116 rfl) rfl
theorem q456 : (Jvm.Cond.methodLink "ValleyMass$Valley" (56 : Nat) ({ cls := "ValleyMass$Row", name := "fits", desc := "(LValleyMass$Singer;I)Z" } : Jvm.MethodName)) ∈ lw_all := lw_g (lw_at lw_m2 117 rfl) rfl
theorem q474 : (Jvm.Cond.methodLink "ValleyMass$Valley" (68 : Nat) ({ cls := "java/lang/Integer", name := "bitCount", desc := "(I)I" } : Jvm.MethodName)) ∈ lw_all := lw_g (lw_at lw_m2 135 rfl) rfl
theorem q489 : (Jvm.Cond.instanceMethod ({ cls := "ValleyMass$Valley", name := "ofSide", desc := "(I)I" } : Jvm.MethodName)) ∈ lw_all := lw_g (lw_at lw_m2 150 rfl) rfl
theorem q490 : (Jvm.Cond.selects "ValleyMass$Valley" ({ cls := "ValleyMass$Valley", name := "ofSide", desc := "(I)I" } : Jvm.MethodName) ({ cls := "ValleyMass$Valley", name := "ofSide", desc := "(I)I" } : Jvm.MethodName)) ∈ lw_all := lw_g (lw_at lw_m2 151 rfl) rfl
theorem q491 : (Jvm.Cond.code ({ cls := "ValleyMass$Valley", name := "ofSide", desc := "(I)I" } : Jvm.MethodName) prog_10_method_3_code (4 : Nat) (Option.some Jvm.ClassFile.FieldType.int)) ∈ lw_all := lw_g (lw_at lw_m2 152 rfl) rfl
theorem q980 : (Jvm.Cond.fieldLinkNest "ValleyMass$Valley" (46 : Nat) "ValleyMass$Singer" "side" "I" "ValleyMass") ∈ lw_tbl := lw_at lw_m4 161 rfl
theorem q984 : (Jvm.Cond.fieldLinkNest "ValleyMass$Valley" (53 : Nat) "ValleyMass$Singer" "part" "I" "ValleyMass") ∈ lw_tbl := lw_at lw_m4 165 rfl
theorem q993 : (Jvm.Cond.fieldLinkNest "ValleyMass$Valley" (83 : Nat) "ValleyMass$Singer" "skill" "I" "ValleyMass") ∈ lw_tbl := lw_at lw_m4 174 rfl
theorem q1026 : (Jvm.Cond.fieldLinkNest "ValleyMass$Valley" (74 : Nat) "ValleyMass$Row" "need" "I" "ValleyMass") ∈ lw_tbl := lw_at lw_m4 207 rfl
theorem q1377 : (Jvm.Cond.instanceMethod ({ cls := "ValleyMass$Valley", name := "all", desc := "()I" } : Jvm.MethodName)) ∈ lw_all := lw_g (lw_at lw_m6 78 rfl) rfl
theorem q1378 : (Jvm.Cond.selects "ValleyMass$Valley" ({ cls := "ValleyMass$Valley", name := "all", desc := "()I" } : Jvm.MethodName) ({ cls := "ValleyMass$Valley", name := "all", desc := "()I" } : Jvm.MethodName)) ∈ lw_all := lw_g (lw_at lw_m6 79 rfl) rfl
theorem q1379 : (Jvm.Cond.code ({ cls := "ValleyMass$Valley", name := "all", desc := "()I" } : Jvm.MethodName) prog_10_method_2_code (1 : Nat) (Option.some Jvm.ClassFile.FieldType.int)) ∈ lw_all := lw_g (lw_at lw_m6 80 rfl) rfl
theorem q1442 : (Jvm.Cond.instanceMethod ({ cls := "ValleyMass$Valley", name := "skills", desc := "(I)I" } : Jvm.MethodName)) ∈ lw_all := lw_g (lw_at lw_m6 143 rfl) rfl
theorem q1443 : (Jvm.Cond.selects "ValleyMass$Valley" ({ cls := "ValleyMass$Valley", name := "skills", desc := "(I)I" } : Jvm.MethodName) ({ cls := "ValleyMass$Valley", name := "skills", desc := "(I)I" } : Jvm.MethodName)) ∈ lw_all := lw_g (lw_at lw_m6 144 rfl) rfl
theorem q1444 : (Jvm.Cond.code ({ cls := "ValleyMass$Valley", name := "skills", desc := "(I)I" } : Jvm.MethodName) prog_10_method_8_code (4 : Nat) (Option.some Jvm.ClassFile.FieldType.int)) ∈ lw_all := lw_g (lw_at lw_m6 145 rfl) rfl
theorem q2222 : (Jvm.Cond.castable "ValleyMass$Valley" "java/lang/Object") ∈ lw_tbl := lw_at lw_m9 203 rfl
theorem in_X2 : ∀ w ∈ wsX20, w ∈ lw_all := lw_in wsX20 [194, 196, 198, 200, 202] (by decide +kernel) (by decide +kernel)

/-! ValleyMass$State -/
def RX3 : String := "ValleyMass$State"
def TX3 : u_T := fun k => match k with
  | 0 => ("ValleyMass$State", "how", "[I", true)
  | 1 => ("ValleyMass$State", "day", "I", false)
  | 2 => ("ValleyMass$State", "sung", "I", false)
  | _ => ("ValleyMass$State", "this$0", "LValleyMass;", true)
def tyX3 : Nat → FieldType := fun k => match k with
  | 0 => .array .int
  | 1 => .int
  | 2 => .int
  | _ => .object "ValleyMass"
abbrev wsX30 : List Cond := u_ws RX3 TX3 4
theorem nmX3 : ∀ a, a < 4 → ∀ b, b < 4 → a ≠ b → (TX3 a).2.1 ≠ (TX3 b).2.1 := by decide +kernel
theorem tyX3_ok : ∀ k, k < 4 → parseFieldDescriptor (TX3 k).2.2.1 = some (tyX3 k) := by decide +kernel
abbrev cX3_init : ByteArray := prog_9_method_1_code
def yX3_init : MethodName := ⟨RX3, "<init>", "(LValleyMass;)V"⟩
def dkwX3_init_0 : List UInt8 := [42, 43, 181, 0, 3, 42, 183, 0, 9, 42, 16, 14, 188, 10, 181, 0, 15, 177]
abbrev dktX3_init_0 : List UInt8 := dkwX3_init_0 ++ []
theorem dksX3_init_0 : cX3_init.data.toList.drop 0 = dktX3_init_0 := by decide +kernel
theorem dX3_init_0 : decode cX3_init 0 = .ok (.aload_n 0, 1) := dk_42 (dk_at dksX3_init_0 0 rfl rfl)
theorem dX3_init_1 : decode cX3_init 1 = .ok (.aload_n 1, 1) := dk_43 (dk_at dksX3_init_0 1 rfl rfl)
theorem dX3_init_2 : decode cX3_init 2 = .ok (.putfield 3, 3) := dk_181 0 3 (dk_at dksX3_init_0 2 rfl rfl)
theorem dX3_init_5 : decode cX3_init 5 = .ok (.aload_n 0, 1) := dk_42 (dk_at dksX3_init_0 5 rfl rfl)
theorem dX3_init_6 : decode cX3_init 6 = .ok (.invokespecial 9, 3) := dk_183 0 9 (dk_at dksX3_init_0 6 rfl rfl)
theorem dX3_init_9 : decode cX3_init 9 = .ok (.aload_n 0, 1) := dk_42 (dk_at dksX3_init_0 9 rfl rfl)
theorem dX3_init_10 : decode cX3_init 10 = .ok (.bipush 14, 2) := dk_16 14 (dk_at dksX3_init_0 10 rfl rfl)
theorem dX3_init_12 : decode cX3_init 12 = .ok (.newarray .int, 2) := dk_188_10 (dk_at dksX3_init_0 12 rfl rfl)
theorem dX3_init_14 : decode cX3_init 14 = .ok (.putfield 15, 3) := dk_181 0 15 (dk_at dksX3_init_0 14 rfl rfl)
theorem dX3_init_17 : decode cX3_init 17 = .ok (.return_, 1) := dk_177 (dk_at dksX3_init_0 17 rfl rfl)
abbrev cX3_copy : ByteArray := prog_9_method_2_code
def yX3_copy : MethodName := ⟨RX3, "copy", "()LValleyMass$State;"⟩
def dkwX3_copy_2 : List UInt8 := [180, 0, 26, 181, 0, 26, 43, 176]
abbrev dktX3_copy_2 : List UInt8 := dkwX3_copy_2 ++ []
def dkwX3_copy_1 : List UInt8 := [28, 42, 180, 0, 15, 28, 46, 79, 132, 2, 1, 167, 255, 235, 43, 42, 180, 0, 22, 181, 0, 22, 43, 42]
abbrev dktX3_copy_1 : List UInt8 := dkwX3_copy_1 ++ dktX3_copy_2
def dkwX3_copy_0 : List UInt8 := [187, 0, 4, 89, 42, 180, 0, 3, 183, 0, 19, 76, 3, 61, 28, 16, 14, 162, 0, 21, 43, 180, 0, 15]
abbrev dktX3_copy_0 : List UInt8 := dkwX3_copy_0 ++ dktX3_copy_1
theorem dksX3_copy_0 : cX3_copy.data.toList.drop 0 = dktX3_copy_0 := by decide +kernel
theorem dksX3_copy_1 : cX3_copy.data.toList.drop 24 = dktX3_copy_1 := dk_seg dksX3_copy_0 24 rfl rfl
theorem dksX3_copy_2 : cX3_copy.data.toList.drop 48 = dktX3_copy_2 := dk_seg dksX3_copy_1 24 rfl rfl
theorem dX3_copy_0 : decode cX3_copy 0 = .ok (.new 4, 3) := dk_187 0 4 (dk_at dksX3_copy_0 0 rfl rfl)
theorem dX3_copy_3 : decode cX3_copy 3 = .ok (.dup, 1) := dk_89 (dk_at dksX3_copy_0 3 rfl rfl)
theorem dX3_copy_4 : decode cX3_copy 4 = .ok (.aload_n 0, 1) := dk_42 (dk_at dksX3_copy_0 4 rfl rfl)
theorem dX3_copy_5 : decode cX3_copy 5 = .ok (.getfield 3, 3) := dk_180 0 3 (dk_at dksX3_copy_0 5 rfl rfl)
theorem dX3_copy_8 : decode cX3_copy 8 = .ok (.invokespecial 19, 3) := dk_183 0 19 (dk_at dksX3_copy_0 8 rfl rfl)
theorem dX3_copy_11 : decode cX3_copy 11 = .ok (.astore_n 1, 1) := dk_76 (dk_at dksX3_copy_0 11 rfl rfl)
theorem dX3_copy_12 : decode cX3_copy 12 = .ok (.iconst 0, 1) := dk_3 (dk_at dksX3_copy_0 12 rfl rfl)
theorem dX3_copy_13 : decode cX3_copy 13 = .ok (.istore_n 2, 1) := dk_61 (dk_at dksX3_copy_0 13 rfl rfl)
theorem dX3_copy_14 : decode cX3_copy 14 = .ok (.iload_n 2, 1) := dk_28 (dk_at dksX3_copy_0 14 rfl rfl)
theorem dX3_copy_15 : decode cX3_copy 15 = .ok (.bipush 14, 2) := dk_16 14 (dk_at dksX3_copy_0 15 rfl rfl)
theorem dX3_copy_17 : decode cX3_copy 17 = .ok (.if_icmp .ge 21, 3) := dk_162 0 21 (dk_at dksX3_copy_0 17 rfl rfl)
theorem dX3_copy_20 : decode cX3_copy 20 = .ok (.aload_n 1, 1) := dk_43 (dk_at dksX3_copy_0 20 rfl rfl)
theorem dX3_copy_21 : decode cX3_copy 21 = .ok (.getfield 15, 3) := dk_180 0 15 (dk_at dksX3_copy_0 21 rfl rfl)
theorem dX3_copy_24 : decode cX3_copy 24 = .ok (.iload_n 2, 1) := dk_28 (dk_at dksX3_copy_1 0 rfl rfl)
theorem dX3_copy_25 : decode cX3_copy 25 = .ok (.aload_n 0, 1) := dk_42 (dk_at dksX3_copy_1 1 rfl rfl)
theorem dX3_copy_26 : decode cX3_copy 26 = .ok (.getfield 15, 3) := dk_180 0 15 (dk_at dksX3_copy_1 2 rfl rfl)
theorem dX3_copy_29 : decode cX3_copy 29 = .ok (.iload_n 2, 1) := dk_28 (dk_at dksX3_copy_1 5 rfl rfl)
theorem dX3_copy_30 : decode cX3_copy 30 = .ok (.iaload, 1) := dk_46 (dk_at dksX3_copy_1 6 rfl rfl)
theorem dX3_copy_31 : decode cX3_copy 31 = .ok (.iastore, 1) := dk_79 (dk_at dksX3_copy_1 7 rfl rfl)
theorem dX3_copy_32 : decode cX3_copy 32 = .ok (.iinc 2 1, 3) := dk_132 2 1 (dk_at dksX3_copy_1 8 rfl rfl)
theorem dX3_copy_35 : decode cX3_copy 35 = .ok (.goto (-21), 3) := dk_167 255 235 (dk_at dksX3_copy_1 11 rfl rfl)
theorem dX3_copy_38 : decode cX3_copy 38 = .ok (.aload_n 1, 1) := dk_43 (dk_at dksX3_copy_1 14 rfl rfl)
theorem dX3_copy_39 : decode cX3_copy 39 = .ok (.aload_n 0, 1) := dk_42 (dk_at dksX3_copy_1 15 rfl rfl)
theorem dX3_copy_40 : decode cX3_copy 40 = .ok (.getfield 22, 3) := dk_180 0 22 (dk_at dksX3_copy_1 16 rfl rfl)
theorem dX3_copy_43 : decode cX3_copy 43 = .ok (.putfield 22, 3) := dk_181 0 22 (dk_at dksX3_copy_1 19 rfl rfl)
theorem dX3_copy_46 : decode cX3_copy 46 = .ok (.aload_n 1, 1) := dk_43 (dk_at dksX3_copy_1 22 rfl rfl)
theorem dX3_copy_47 : decode cX3_copy 47 = .ok (.aload_n 0, 1) := dk_42 (dk_at dksX3_copy_1 23 rfl rfl)
theorem dX3_copy_48 : decode cX3_copy 48 = .ok (.getfield 26, 3) := dk_180 0 26 (dk_at dksX3_copy_2 0 rfl rfl)
theorem dX3_copy_51 : decode cX3_copy 51 = .ok (.putfield 26, 3) := dk_181 0 26 (dk_at dksX3_copy_2 3 rfl rfl)
theorem dX3_copy_54 : decode cX3_copy 54 = .ok (.aload_n 1, 1) := dk_43 (dk_at dksX3_copy_2 6 rfl rfl)
theorem dX3_copy_55 : decode cX3_copy 55 = .ok (.areturn, 1) := dk_176 (dk_at dksX3_copy_2 7 rfl rfl)
abbrev cX3_pass : ByteArray := prog_9_method_10_code
def yX3_pass : MethodName := ⟨RX3, "pass", "()I"⟩
def dkwX3_pass_5 : List UInt8 := [167, 0, 4, 4, 96, 60, 42, 89, 180, 0, 22, 4, 96, 181, 0, 22, 27, 172]
abbrev dktX3_pass_5 : List UInt8 := dkwX3_pass_5 ++ []
def dkwX3_pass_4 : List UInt8 := [180, 0, 15, 29, 5, 79, 28, 2, 160, 0, 7, 3, 167, 0, 4, 4, 29, 2, 160, 0, 7, 3]
abbrev dktX3_pass_4 : List UInt8 := dkwX3_pass_4 ++ dktX3_pass_5
def dkwX3_pass_3 : List UInt8 := [182, 0, 111, 62, 28, 2, 159, 0, 10, 42, 180, 0, 15, 28, 5, 79, 29, 2, 159, 0, 10, 42]
abbrev dktX3_pass_3 : List UInt8 := dkwX3_pass_3 ++ dktX3_pass_4
def dkwX3_pass_2 : List UInt8 := [2, 167, 0, 8, 42, 3, 182, 0, 111, 61, 42, 4, 182, 0, 107, 153, 0, 7, 2, 167, 0, 8, 42, 4]
abbrev dktX3_pass_2 : List UInt8 := dkwX3_pass_2 ++ dktX3_pass_3
def dkwX3_pass_1 : List UInt8 := [153, 0, 16, 42, 89, 180, 0, 26, 4, 96, 181, 0, 26, 167, 0, 85, 42, 3, 182, 0, 107, 153, 0, 7]
abbrev dktX3_pass_1 : List UInt8 := dkwX3_pass_1 ++ dktX3_pass_2
def dkwX3_pass_0 : List UInt8 := [3, 60, 42, 182, 0, 103, 153, 0, 33, 42, 180, 0, 3, 180, 0, 29, 42, 182, 0, 49, 182, 0, 73]
abbrev dktX3_pass_0 : List UInt8 := dkwX3_pass_0 ++ dktX3_pass_1
theorem dksX3_pass_0 : cX3_pass.data.toList.drop 0 = dktX3_pass_0 := by decide +kernel
theorem dksX3_pass_1 : cX3_pass.data.toList.drop 23 = dktX3_pass_1 := dk_seg dksX3_pass_0 23 rfl rfl
theorem dksX3_pass_2 : cX3_pass.data.toList.drop 47 = dktX3_pass_2 := dk_seg dksX3_pass_1 24 rfl rfl
theorem dksX3_pass_3 : cX3_pass.data.toList.drop 71 = dktX3_pass_3 := dk_seg dksX3_pass_2 24 rfl rfl
theorem dksX3_pass_4 : cX3_pass.data.toList.drop 93 = dktX3_pass_4 := dk_seg dksX3_pass_3 22 rfl rfl
theorem dksX3_pass_5 : cX3_pass.data.toList.drop 115 = dktX3_pass_5 := dk_seg dksX3_pass_4 22 rfl rfl
theorem dX3_pass_0 : decode cX3_pass 0 = .ok (.iconst 0, 1) := dk_3 (dk_at dksX3_pass_0 0 rfl rfl)
theorem dX3_pass_1 : decode cX3_pass 1 = .ok (.istore_n 1, 1) := dk_60 (dk_at dksX3_pass_0 1 rfl rfl)
theorem dX3_pass_2 : decode cX3_pass 2 = .ok (.aload_n 0, 1) := dk_42 (dk_at dksX3_pass_0 2 rfl rfl)
theorem dX3_pass_3 : decode cX3_pass 3 = .ok (.invokevirtual 103, 3) := dk_182 0 103 (dk_at dksX3_pass_0 3 rfl rfl)
theorem dX3_pass_6 : decode cX3_pass 6 = .ok (.ifCond .eq 33, 3) := dk_153 0 33 (dk_at dksX3_pass_0 6 rfl rfl)
theorem dX3_pass_9 : decode cX3_pass 9 = .ok (.aload_n 0, 1) := dk_42 (dk_at dksX3_pass_0 9 rfl rfl)
theorem dX3_pass_10 : decode cX3_pass 10 = .ok (.getfield 3, 3) := dk_180 0 3 (dk_at dksX3_pass_0 10 rfl rfl)
theorem dX3_pass_13 : decode cX3_pass 13 = .ok (.getfield 29, 3) := dk_180 0 29 (dk_at dksX3_pass_0 13 rfl rfl)
theorem dX3_pass_16 : decode cX3_pass 16 = .ok (.aload_n 0, 1) := dk_42 (dk_at dksX3_pass_0 16 rfl rfl)
theorem dX3_pass_17 : decode cX3_pass 17 = .ok (.invokevirtual 49, 3) := dk_182 0 49 (dk_at dksX3_pass_0 17 rfl rfl)
theorem dX3_pass_20 : decode cX3_pass 20 = .ok (.invokevirtual 73, 3) := dk_182 0 73 (dk_at dksX3_pass_0 20 rfl rfl)
theorem dX3_pass_23 : decode cX3_pass 23 = .ok (.ifCond .eq 16, 3) := dk_153 0 16 (dk_at dksX3_pass_1 0 rfl rfl)
theorem dX3_pass_26 : decode cX3_pass 26 = .ok (.aload_n 0, 1) := dk_42 (dk_at dksX3_pass_1 3 rfl rfl)
theorem dX3_pass_27 : decode cX3_pass 27 = .ok (.dup, 1) := dk_89 (dk_at dksX3_pass_1 4 rfl rfl)
theorem dX3_pass_28 : decode cX3_pass 28 = .ok (.getfield 26, 3) := dk_180 0 26 (dk_at dksX3_pass_1 5 rfl rfl)
theorem dX3_pass_31 : decode cX3_pass 31 = .ok (.iconst 1, 1) := dk_4 (dk_at dksX3_pass_1 8 rfl rfl)
theorem dX3_pass_32 : decode cX3_pass 32 = .ok (.iadd, 1) := dk_96 (dk_at dksX3_pass_1 9 rfl rfl)
theorem dX3_pass_33 : decode cX3_pass 33 = .ok (.putfield 26, 3) := dk_181 0 26 (dk_at dksX3_pass_1 10 rfl rfl)
theorem dX3_pass_36 : decode cX3_pass 36 = .ok (.goto 85, 3) := dk_167 0 85 (dk_at dksX3_pass_1 13 rfl rfl)
theorem dX3_pass_39 : decode cX3_pass 39 = .ok (.aload_n 0, 1) := dk_42 (dk_at dksX3_pass_1 16 rfl rfl)
theorem dX3_pass_40 : decode cX3_pass 40 = .ok (.iconst 0, 1) := dk_3 (dk_at dksX3_pass_1 17 rfl rfl)
theorem dX3_pass_41 : decode cX3_pass 41 = .ok (.invokevirtual 107, 3) := dk_182 0 107 (dk_at dksX3_pass_1 18 rfl rfl)
theorem dX3_pass_44 : decode cX3_pass 44 = .ok (.ifCond .eq 7, 3) := dk_153 0 7 (dk_at dksX3_pass_1 21 rfl rfl)
theorem dX3_pass_47 : decode cX3_pass 47 = .ok (.iconst (-1), 1) := dk_2 (dk_at dksX3_pass_2 0 rfl rfl)
theorem dX3_pass_48 : decode cX3_pass 48 = .ok (.goto 8, 3) := dk_167 0 8 (dk_at dksX3_pass_2 1 rfl rfl)
theorem dX3_pass_51 : decode cX3_pass 51 = .ok (.aload_n 0, 1) := dk_42 (dk_at dksX3_pass_2 4 rfl rfl)
theorem dX3_pass_52 : decode cX3_pass 52 = .ok (.iconst 0, 1) := dk_3 (dk_at dksX3_pass_2 5 rfl rfl)
theorem dX3_pass_53 : decode cX3_pass 53 = .ok (.invokevirtual 111, 3) := dk_182 0 111 (dk_at dksX3_pass_2 6 rfl rfl)
theorem dX3_pass_56 : decode cX3_pass 56 = .ok (.istore_n 2, 1) := dk_61 (dk_at dksX3_pass_2 9 rfl rfl)
theorem dX3_pass_57 : decode cX3_pass 57 = .ok (.aload_n 0, 1) := dk_42 (dk_at dksX3_pass_2 10 rfl rfl)
theorem dX3_pass_58 : decode cX3_pass 58 = .ok (.iconst 1, 1) := dk_4 (dk_at dksX3_pass_2 11 rfl rfl)
theorem dX3_pass_59 : decode cX3_pass 59 = .ok (.invokevirtual 107, 3) := dk_182 0 107 (dk_at dksX3_pass_2 12 rfl rfl)
theorem dX3_pass_62 : decode cX3_pass 62 = .ok (.ifCond .eq 7, 3) := dk_153 0 7 (dk_at dksX3_pass_2 15 rfl rfl)
theorem dX3_pass_65 : decode cX3_pass 65 = .ok (.iconst (-1), 1) := dk_2 (dk_at dksX3_pass_2 18 rfl rfl)
theorem dX3_pass_66 : decode cX3_pass 66 = .ok (.goto 8, 3) := dk_167 0 8 (dk_at dksX3_pass_2 19 rfl rfl)
theorem dX3_pass_69 : decode cX3_pass 69 = .ok (.aload_n 0, 1) := dk_42 (dk_at dksX3_pass_2 22 rfl rfl)
theorem dX3_pass_70 : decode cX3_pass 70 = .ok (.iconst 1, 1) := dk_4 (dk_at dksX3_pass_2 23 rfl rfl)
theorem dX3_pass_71 : decode cX3_pass 71 = .ok (.invokevirtual 111, 3) := dk_182 0 111 (dk_at dksX3_pass_3 0 rfl rfl)
theorem dX3_pass_74 : decode cX3_pass 74 = .ok (.istore_n 3, 1) := dk_62 (dk_at dksX3_pass_3 3 rfl rfl)
theorem dX3_pass_75 : decode cX3_pass 75 = .ok (.iload_n 2, 1) := dk_28 (dk_at dksX3_pass_3 4 rfl rfl)
theorem dX3_pass_76 : decode cX3_pass 76 = .ok (.iconst (-1), 1) := dk_2 (dk_at dksX3_pass_3 5 rfl rfl)
theorem dX3_pass_77 : decode cX3_pass 77 = .ok (.if_icmp .eq 10, 3) := dk_159 0 10 (dk_at dksX3_pass_3 6 rfl rfl)
theorem dX3_pass_80 : decode cX3_pass 80 = .ok (.aload_n 0, 1) := dk_42 (dk_at dksX3_pass_3 9 rfl rfl)
theorem dX3_pass_81 : decode cX3_pass 81 = .ok (.getfield 15, 3) := dk_180 0 15 (dk_at dksX3_pass_3 10 rfl rfl)
theorem dX3_pass_84 : decode cX3_pass 84 = .ok (.iload_n 2, 1) := dk_28 (dk_at dksX3_pass_3 13 rfl rfl)
theorem dX3_pass_85 : decode cX3_pass 85 = .ok (.iconst 2, 1) := dk_5 (dk_at dksX3_pass_3 14 rfl rfl)
theorem dX3_pass_86 : decode cX3_pass 86 = .ok (.iastore, 1) := dk_79 (dk_at dksX3_pass_3 15 rfl rfl)
theorem dX3_pass_87 : decode cX3_pass 87 = .ok (.iload_n 3, 1) := dk_29 (dk_at dksX3_pass_3 16 rfl rfl)
theorem dX3_pass_88 : decode cX3_pass 88 = .ok (.iconst (-1), 1) := dk_2 (dk_at dksX3_pass_3 17 rfl rfl)
theorem dX3_pass_89 : decode cX3_pass 89 = .ok (.if_icmp .eq 10, 3) := dk_159 0 10 (dk_at dksX3_pass_3 18 rfl rfl)
theorem dX3_pass_92 : decode cX3_pass 92 = .ok (.aload_n 0, 1) := dk_42 (dk_at dksX3_pass_3 21 rfl rfl)
theorem dX3_pass_93 : decode cX3_pass 93 = .ok (.getfield 15, 3) := dk_180 0 15 (dk_at dksX3_pass_4 0 rfl rfl)
theorem dX3_pass_96 : decode cX3_pass 96 = .ok (.iload_n 3, 1) := dk_29 (dk_at dksX3_pass_4 3 rfl rfl)
theorem dX3_pass_97 : decode cX3_pass 97 = .ok (.iconst 2, 1) := dk_5 (dk_at dksX3_pass_4 4 rfl rfl)
theorem dX3_pass_98 : decode cX3_pass 98 = .ok (.iastore, 1) := dk_79 (dk_at dksX3_pass_4 5 rfl rfl)
theorem dX3_pass_99 : decode cX3_pass 99 = .ok (.iload_n 2, 1) := dk_28 (dk_at dksX3_pass_4 6 rfl rfl)
theorem dX3_pass_100 : decode cX3_pass 100 = .ok (.iconst (-1), 1) := dk_2 (dk_at dksX3_pass_4 7 rfl rfl)
theorem dX3_pass_101 : decode cX3_pass 101 = .ok (.if_icmp .ne 7, 3) := dk_160 0 7 (dk_at dksX3_pass_4 8 rfl rfl)
theorem dX3_pass_104 : decode cX3_pass 104 = .ok (.iconst 0, 1) := dk_3 (dk_at dksX3_pass_4 11 rfl rfl)
theorem dX3_pass_105 : decode cX3_pass 105 = .ok (.goto 4, 3) := dk_167 0 4 (dk_at dksX3_pass_4 12 rfl rfl)
theorem dX3_pass_108 : decode cX3_pass 108 = .ok (.iconst 1, 1) := dk_4 (dk_at dksX3_pass_4 15 rfl rfl)
theorem dX3_pass_109 : decode cX3_pass 109 = .ok (.iload_n 3, 1) := dk_29 (dk_at dksX3_pass_4 16 rfl rfl)
theorem dX3_pass_110 : decode cX3_pass 110 = .ok (.iconst (-1), 1) := dk_2 (dk_at dksX3_pass_4 17 rfl rfl)
theorem dX3_pass_111 : decode cX3_pass 111 = .ok (.if_icmp .ne 7, 3) := dk_160 0 7 (dk_at dksX3_pass_4 18 rfl rfl)
theorem dX3_pass_114 : decode cX3_pass 114 = .ok (.iconst 0, 1) := dk_3 (dk_at dksX3_pass_4 21 rfl rfl)
theorem dX3_pass_115 : decode cX3_pass 115 = .ok (.goto 4, 3) := dk_167 0 4 (dk_at dksX3_pass_5 0 rfl rfl)
theorem dX3_pass_118 : decode cX3_pass 118 = .ok (.iconst 1, 1) := dk_4 (dk_at dksX3_pass_5 3 rfl rfl)
theorem dX3_pass_119 : decode cX3_pass 119 = .ok (.iadd, 1) := dk_96 (dk_at dksX3_pass_5 4 rfl rfl)
theorem dX3_pass_120 : decode cX3_pass 120 = .ok (.istore_n 1, 1) := dk_60 (dk_at dksX3_pass_5 5 rfl rfl)
theorem dX3_pass_121 : decode cX3_pass 121 = .ok (.aload_n 0, 1) := dk_42 (dk_at dksX3_pass_5 6 rfl rfl)
theorem dX3_pass_122 : decode cX3_pass 122 = .ok (.dup, 1) := dk_89 (dk_at dksX3_pass_5 7 rfl rfl)
theorem dX3_pass_123 : decode cX3_pass 123 = .ok (.getfield 22, 3) := dk_180 0 22 (dk_at dksX3_pass_5 8 rfl rfl)
theorem dX3_pass_126 : decode cX3_pass 126 = .ok (.iconst 1, 1) := dk_4 (dk_at dksX3_pass_5 11 rfl rfl)
theorem dX3_pass_127 : decode cX3_pass 127 = .ok (.iadd, 1) := dk_96 (dk_at dksX3_pass_5 12 rfl rfl)
theorem dX3_pass_128 : decode cX3_pass 128 = .ok (.putfield 22, 3) := dk_181 0 22 (dk_at dksX3_pass_5 13 rfl rfl)
theorem dX3_pass_131 : decode cX3_pass 131 = .ok (.iload_n 1, 1) := dk_27 (dk_at dksX3_pass_5 16 rfl rfl)
theorem dX3_pass_132 : decode cX3_pass 132 = .ok (.ireturn, 1) := dk_172 (dk_at dksX3_pass_5 17 rfl rfl)
abbrev cX3_isEvening : ByteArray := prog_9_method_6_code
def yX3_isEvening : MethodName := ⟨RX3, "isEvening", "()Z"⟩
def dkwX3_isEvening_0 : List UInt8 := [42, 180, 0, 22, 42, 180, 0, 3, 180, 0, 29, 180, 0, 55, 112, 154, 0, 7, 4, 167, 0, 4, 3, 172]
abbrev dktX3_isEvening_0 : List UInt8 := dkwX3_isEvening_0 ++ []
theorem dksX3_isEvening_0 : cX3_isEvening.data.toList.drop 0 = dktX3_isEvening_0 := by decide +kernel
theorem dX3_isEvening_0 : decode cX3_isEvening 0 = .ok (.aload_n 0, 1) := dk_42 (dk_at dksX3_isEvening_0 0 rfl rfl)
theorem dX3_isEvening_1 : decode cX3_isEvening 1 = .ok (.getfield 22, 3) := dk_180 0 22 (dk_at dksX3_isEvening_0 1 rfl rfl)
theorem dX3_isEvening_4 : decode cX3_isEvening 4 = .ok (.aload_n 0, 1) := dk_42 (dk_at dksX3_isEvening_0 4 rfl rfl)
theorem dX3_isEvening_5 : decode cX3_isEvening 5 = .ok (.getfield 3, 3) := dk_180 0 3 (dk_at dksX3_isEvening_0 5 rfl rfl)
theorem dX3_isEvening_8 : decode cX3_isEvening 8 = .ok (.getfield 29, 3) := dk_180 0 29 (dk_at dksX3_isEvening_0 8 rfl rfl)
theorem dX3_isEvening_11 : decode cX3_isEvening 11 = .ok (.getfield 55, 3) := dk_180 0 55 (dk_at dksX3_isEvening_0 11 rfl rfl)
theorem dX3_isEvening_14 : decode cX3_isEvening 14 = .ok (.irem, 1) := dk_112 (dk_at dksX3_isEvening_0 14 rfl rfl)
theorem dX3_isEvening_15 : decode cX3_isEvening 15 = .ok (.ifCond .ne 7, 3) := dk_154 0 7 (dk_at dksX3_isEvening_0 15 rfl rfl)
theorem dX3_isEvening_18 : decode cX3_isEvening 18 = .ok (.iconst 1, 1) := dk_4 (dk_at dksX3_isEvening_0 18 rfl rfl)
theorem dX3_isEvening_19 : decode cX3_isEvening 19 = .ok (.goto 4, 3) := dk_167 0 4 (dk_at dksX3_isEvening_0 19 rfl rfl)
theorem dX3_isEvening_22 : decode cX3_isEvening 22 = .ok (.iconst 0, 1) := dk_3 (dk_at dksX3_isEvening_0 22 rfl rfl)
theorem dX3_isEvening_23 : decode cX3_isEvening 23 = .ok (.ireturn, 1) := dk_172 (dk_at dksX3_isEvening_0 23 rfl rfl)
abbrev cX3_free : ByteArray := prog_9_method_4_code
def yX3_free : MethodName := ⟨RX3, "free", "()I"⟩
def dkwX3_free_0 : List UInt8 := [42, 3, 182, 0, 45, 172]
abbrev dktX3_free_0 : List UInt8 := dkwX3_free_0 ++ []
theorem dksX3_free_0 : cX3_free.data.toList.drop 0 = dktX3_free_0 := by decide +kernel
theorem dX3_free_0 : decode cX3_free 0 = .ok (.aload_n 0, 1) := dk_42 (dk_at dksX3_free_0 0 rfl rfl)
theorem dX3_free_1 : decode cX3_free 1 = .ok (.iconst 0, 1) := dk_3 (dk_at dksX3_free_0 1 rfl rfl)
theorem dX3_free_2 : decode cX3_free 2 = .ok (.invokevirtual 45, 3) := dk_182 0 45 (dk_at dksX3_free_0 2 rfl rfl)
theorem dX3_free_5 : decode cX3_free 5 = .ok (.ireturn, 1) := dk_172 (dk_at dksX3_free_0 5 rfl rfl)
abbrev cX3_those : ByteArray := prog_9_method_3_code
def yX3_those : MethodName := ⟨RX3, "those", "(I)I"⟩
def dkwX3_those_1 : List UInt8 := [180, 0, 15, 29, 46, 27, 160, 0, 9, 28, 4, 29, 120, 128, 61, 132, 3, 1, 167, 255, 218, 28, 172]
abbrev dktX3_those_1 : List UInt8 := dkwX3_those_1 ++ []
def dkwX3_those_0 : List UInt8 := [3, 61, 3, 62, 29, 42, 180, 0, 3, 180, 0, 29, 180, 0, 33, 185, 0, 39, 1, 0, 162, 0, 25, 42]
abbrev dktX3_those_0 : List UInt8 := dkwX3_those_0 ++ dktX3_those_1
theorem dksX3_those_0 : cX3_those.data.toList.drop 0 = dktX3_those_0 := by decide +kernel
theorem dksX3_those_1 : cX3_those.data.toList.drop 24 = dktX3_those_1 := dk_seg dksX3_those_0 24 rfl rfl
theorem dX3_those_0 : decode cX3_those 0 = .ok (.iconst 0, 1) := dk_3 (dk_at dksX3_those_0 0 rfl rfl)
theorem dX3_those_1 : decode cX3_those 1 = .ok (.istore_n 2, 1) := dk_61 (dk_at dksX3_those_0 1 rfl rfl)
theorem dX3_those_2 : decode cX3_those 2 = .ok (.iconst 0, 1) := dk_3 (dk_at dksX3_those_0 2 rfl rfl)
theorem dX3_those_3 : decode cX3_those 3 = .ok (.istore_n 3, 1) := dk_62 (dk_at dksX3_those_0 3 rfl rfl)
theorem dX3_those_4 : decode cX3_those 4 = .ok (.iload_n 3, 1) := dk_29 (dk_at dksX3_those_0 4 rfl rfl)
theorem dX3_those_5 : decode cX3_those 5 = .ok (.aload_n 0, 1) := dk_42 (dk_at dksX3_those_0 5 rfl rfl)
theorem dX3_those_6 : decode cX3_those 6 = .ok (.getfield 3, 3) := dk_180 0 3 (dk_at dksX3_those_0 6 rfl rfl)
theorem dX3_those_9 : decode cX3_those 9 = .ok (.getfield 29, 3) := dk_180 0 29 (dk_at dksX3_those_0 9 rfl rfl)
theorem dX3_those_12 : decode cX3_those 12 = .ok (.getfield 33, 3) := dk_180 0 33 (dk_at dksX3_those_0 12 rfl rfl)
theorem dX3_those_15 : decode cX3_those 15 = .ok (.invokeinterface 39 1, 5) := by decide +kernel
theorem dX3_those_20 : decode cX3_those 20 = .ok (.if_icmp .ge 25, 3) := dk_162 0 25 (dk_at dksX3_those_0 20 rfl rfl)
theorem dX3_those_23 : decode cX3_those 23 = .ok (.aload_n 0, 1) := dk_42 (dk_at dksX3_those_0 23 rfl rfl)
theorem dX3_those_24 : decode cX3_those 24 = .ok (.getfield 15, 3) := dk_180 0 15 (dk_at dksX3_those_1 0 rfl rfl)
theorem dX3_those_27 : decode cX3_those 27 = .ok (.iload_n 3, 1) := dk_29 (dk_at dksX3_those_1 3 rfl rfl)
theorem dX3_those_28 : decode cX3_those 28 = .ok (.iaload, 1) := dk_46 (dk_at dksX3_those_1 4 rfl rfl)
theorem dX3_those_29 : decode cX3_those 29 = .ok (.iload_n 1, 1) := dk_27 (dk_at dksX3_those_1 5 rfl rfl)
theorem dX3_those_30 : decode cX3_those 30 = .ok (.if_icmp .ne 9, 3) := dk_160 0 9 (dk_at dksX3_those_1 6 rfl rfl)
theorem dX3_those_33 : decode cX3_those 33 = .ok (.iload_n 2, 1) := dk_28 (dk_at dksX3_those_1 9 rfl rfl)
theorem dX3_those_34 : decode cX3_those 34 = .ok (.iconst 1, 1) := dk_4 (dk_at dksX3_those_1 10 rfl rfl)
theorem dX3_those_35 : decode cX3_those 35 = .ok (.iload_n 3, 1) := dk_29 (dk_at dksX3_those_1 11 rfl rfl)
theorem dX3_those_36 : decode cX3_those 36 = .ok (.ishl, 1) := dk_120 (dk_at dksX3_those_1 12 rfl rfl)
theorem dX3_those_37 : decode cX3_those 37 = .ok (.ior, 1) := dk_128 (dk_at dksX3_those_1 13 rfl rfl)
theorem dX3_those_38 : decode cX3_those 38 = .ok (.istore_n 2, 1) := dk_61 (dk_at dksX3_those_1 14 rfl rfl)
theorem dX3_those_39 : decode cX3_those 39 = .ok (.iinc 3 1, 3) := dk_132 3 1 (dk_at dksX3_those_1 15 rfl rfl)
theorem dX3_those_42 : decode cX3_those 42 = .ok (.goto (-38), 3) := dk_167 255 218 (dk_at dksX3_those_1 18 rfl rfl)
theorem dX3_those_45 : decode cX3_those 45 = .ok (.iload_n 2, 1) := dk_28 (dk_at dksX3_those_1 21 rfl rfl)
theorem dX3_those_46 : decode cX3_those 46 = .ok (.ireturn, 1) := dk_172 (dk_at dksX3_those_1 22 rfl rfl)
abbrev cX3_holds : ByteArray := prog_9_method_7_code
def yX3_holds : MethodName := ⟨RX3, "holds", "(I)Z"⟩
def dkwX3_holds_7 : List UInt8 := [3, 172]
abbrev dktX3_holds_7 : List UInt8 := dkwX3_holds_7 ++ []
def dkwX3_holds_6 : List UInt8 := [180, 0, 58, 27, 50, 42, 180, 0, 3, 180, 0, 62, 185, 0, 75, 2, 0, 158, 0, 7, 4, 167, 0, 4]
abbrev dktX3_holds_6 : List UInt8 := dkwX3_holds_6 ++ dktX3_holds_7
def dkwX3_holds_5 : List UInt8 := [180, 0, 3, 180, 0, 29, 42, 182, 0, 49, 182, 0, 73, 184, 0, 68, 79, 42, 180, 0, 3, 180, 0, 29]
abbrev dktX3_holds_5 : List UInt8 := dkwX3_holds_5 ++ dktX3_holds_6
def dkwX3_holds_4 : List UInt8 := [180, 0, 3, 180, 0, 29, 27, 182, 0, 52, 126, 184, 0, 68, 79, 42, 180, 0, 3, 180, 0, 62, 8, 42]
abbrev dktX3_holds_4 : List UInt8 := dkwX3_holds_4 ++ dktX3_holds_5
def dkwX3_holds_3 : List UInt8 := [100, 182, 0, 65, 184, 0, 68, 79, 42, 180, 0, 3, 180, 0, 62, 7, 42, 5, 182, 0, 45, 42]
abbrev dktX3_holds_3 : List UInt8 := dkwX3_holds_3 ++ dktX3_holds_4
def dkwX3_holds_2 : List UInt8 := [180, 0, 62, 5, 42, 27, 182, 0, 65, 184, 0, 68, 79, 42, 180, 0, 3, 180, 0, 62, 6, 42, 4, 27]
abbrev dktX3_holds_2 : List UInt8 := dkwX3_holds_2 ++ dktX3_holds_3
def dkwX3_holds_1 : List UInt8 := [3, 42, 180, 0, 22, 79, 42, 180, 0, 3, 180, 0, 62, 4, 42, 180, 0, 26, 79, 42, 180, 0, 3]
abbrev dktX3_holds_1 : List UInt8 := dkwX3_holds_1 ++ dktX3_holds_2
def dkwX3_holds_0 : List UInt8 := [42, 180, 0, 3, 180, 0, 29, 180, 0, 58, 27, 50, 199, 0, 5, 3, 172, 42, 180, 0, 3, 180, 0, 62]
abbrev dktX3_holds_0 : List UInt8 := dkwX3_holds_0 ++ dktX3_holds_1
theorem dksX3_holds_0 : cX3_holds.data.toList.drop 0 = dktX3_holds_0 := by decide +kernel
theorem dksX3_holds_1 : cX3_holds.data.toList.drop 24 = dktX3_holds_1 := dk_seg dksX3_holds_0 24 rfl rfl
theorem dksX3_holds_2 : cX3_holds.data.toList.drop 47 = dktX3_holds_2 := dk_seg dksX3_holds_1 23 rfl rfl
theorem dksX3_holds_3 : cX3_holds.data.toList.drop 71 = dktX3_holds_3 := dk_seg dksX3_holds_2 24 rfl rfl
theorem dksX3_holds_4 : cX3_holds.data.toList.drop 93 = dktX3_holds_4 := dk_seg dksX3_holds_3 22 rfl rfl
theorem dksX3_holds_5 : cX3_holds.data.toList.drop 117 = dktX3_holds_5 := dk_seg dksX3_holds_4 24 rfl rfl
theorem dksX3_holds_6 : cX3_holds.data.toList.drop 141 = dktX3_holds_6 := dk_seg dksX3_holds_5 24 rfl rfl
theorem dksX3_holds_7 : cX3_holds.data.toList.drop 165 = dktX3_holds_7 := dk_seg dksX3_holds_6 24 rfl rfl
theorem dX3_holds_0 : decode cX3_holds 0 = .ok (.aload_n 0, 1) := dk_42 (dk_at dksX3_holds_0 0 rfl rfl)
theorem dX3_holds_1 : decode cX3_holds 1 = .ok (.getfield 3, 3) := dk_180 0 3 (dk_at dksX3_holds_0 1 rfl rfl)
theorem dX3_holds_4 : decode cX3_holds 4 = .ok (.getfield 29, 3) := dk_180 0 29 (dk_at dksX3_holds_0 4 rfl rfl)
theorem dX3_holds_7 : decode cX3_holds 7 = .ok (.getfield 58, 3) := dk_180 0 58 (dk_at dksX3_holds_0 7 rfl rfl)
theorem dX3_holds_10 : decode cX3_holds 10 = .ok (.iload_n 1, 1) := dk_27 (dk_at dksX3_holds_0 10 rfl rfl)
theorem dX3_holds_11 : decode cX3_holds 11 = .ok (.aaload, 1) := dk_50 (dk_at dksX3_holds_0 11 rfl rfl)
theorem dX3_holds_12 : decode cX3_holds 12 = .ok (.ifnonnull 5, 3) := dk_199 0 5 (dk_at dksX3_holds_0 12 rfl rfl)
theorem dX3_holds_15 : decode cX3_holds 15 = .ok (.iconst 0, 1) := dk_3 (dk_at dksX3_holds_0 15 rfl rfl)
theorem dX3_holds_16 : decode cX3_holds 16 = .ok (.ireturn, 1) := dk_172 (dk_at dksX3_holds_0 16 rfl rfl)
theorem dX3_holds_17 : decode cX3_holds 17 = .ok (.aload_n 0, 1) := dk_42 (dk_at dksX3_holds_0 17 rfl rfl)
theorem dX3_holds_18 : decode cX3_holds 18 = .ok (.getfield 3, 3) := dk_180 0 3 (dk_at dksX3_holds_0 18 rfl rfl)
theorem dX3_holds_21 : decode cX3_holds 21 = .ok (.getfield 62, 3) := dk_180 0 62 (dk_at dksX3_holds_0 21 rfl rfl)
theorem dX3_holds_24 : decode cX3_holds 24 = .ok (.iconst 0, 1) := dk_3 (dk_at dksX3_holds_1 0 rfl rfl)
theorem dX3_holds_25 : decode cX3_holds 25 = .ok (.aload_n 0, 1) := dk_42 (dk_at dksX3_holds_1 1 rfl rfl)
theorem dX3_holds_26 : decode cX3_holds 26 = .ok (.getfield 22, 3) := dk_180 0 22 (dk_at dksX3_holds_1 2 rfl rfl)
theorem dX3_holds_29 : decode cX3_holds 29 = .ok (.iastore, 1) := dk_79 (dk_at dksX3_holds_1 5 rfl rfl)
theorem dX3_holds_30 : decode cX3_holds 30 = .ok (.aload_n 0, 1) := dk_42 (dk_at dksX3_holds_1 6 rfl rfl)
theorem dX3_holds_31 : decode cX3_holds 31 = .ok (.getfield 3, 3) := dk_180 0 3 (dk_at dksX3_holds_1 7 rfl rfl)
theorem dX3_holds_34 : decode cX3_holds 34 = .ok (.getfield 62, 3) := dk_180 0 62 (dk_at dksX3_holds_1 10 rfl rfl)
theorem dX3_holds_37 : decode cX3_holds 37 = .ok (.iconst 1, 1) := dk_4 (dk_at dksX3_holds_1 13 rfl rfl)
theorem dX3_holds_38 : decode cX3_holds 38 = .ok (.aload_n 0, 1) := dk_42 (dk_at dksX3_holds_1 14 rfl rfl)
theorem dX3_holds_39 : decode cX3_holds 39 = .ok (.getfield 26, 3) := dk_180 0 26 (dk_at dksX3_holds_1 15 rfl rfl)
theorem dX3_holds_42 : decode cX3_holds 42 = .ok (.iastore, 1) := dk_79 (dk_at dksX3_holds_1 18 rfl rfl)
theorem dX3_holds_43 : decode cX3_holds 43 = .ok (.aload_n 0, 1) := dk_42 (dk_at dksX3_holds_1 19 rfl rfl)
theorem dX3_holds_44 : decode cX3_holds 44 = .ok (.getfield 3, 3) := dk_180 0 3 (dk_at dksX3_holds_1 20 rfl rfl)
theorem dX3_holds_47 : decode cX3_holds 47 = .ok (.getfield 62, 3) := dk_180 0 62 (dk_at dksX3_holds_2 0 rfl rfl)
theorem dX3_holds_50 : decode cX3_holds 50 = .ok (.iconst 2, 1) := dk_5 (dk_at dksX3_holds_2 3 rfl rfl)
theorem dX3_holds_51 : decode cX3_holds 51 = .ok (.aload_n 0, 1) := dk_42 (dk_at dksX3_holds_2 4 rfl rfl)
theorem dX3_holds_52 : decode cX3_holds 52 = .ok (.iload_n 1, 1) := dk_27 (dk_at dksX3_holds_2 5 rfl rfl)
theorem dX3_holds_53 : decode cX3_holds 53 = .ok (.invokevirtual 65, 3) := dk_182 0 65 (dk_at dksX3_holds_2 6 rfl rfl)
theorem dX3_holds_56 : decode cX3_holds 56 = .ok (.invokestatic 68, 3) := dk_184 0 68 (dk_at dksX3_holds_2 9 rfl rfl)
theorem dX3_holds_59 : decode cX3_holds 59 = .ok (.iastore, 1) := dk_79 (dk_at dksX3_holds_2 12 rfl rfl)
theorem dX3_holds_60 : decode cX3_holds 60 = .ok (.aload_n 0, 1) := dk_42 (dk_at dksX3_holds_2 13 rfl rfl)
theorem dX3_holds_61 : decode cX3_holds 61 = .ok (.getfield 3, 3) := dk_180 0 3 (dk_at dksX3_holds_2 14 rfl rfl)
theorem dX3_holds_64 : decode cX3_holds 64 = .ok (.getfield 62, 3) := dk_180 0 62 (dk_at dksX3_holds_2 17 rfl rfl)
theorem dX3_holds_67 : decode cX3_holds 67 = .ok (.iconst 3, 1) := dk_6 (dk_at dksX3_holds_2 20 rfl rfl)
theorem dX3_holds_68 : decode cX3_holds 68 = .ok (.aload_n 0, 1) := dk_42 (dk_at dksX3_holds_2 21 rfl rfl)
theorem dX3_holds_69 : decode cX3_holds 69 = .ok (.iconst 1, 1) := dk_4 (dk_at dksX3_holds_2 22 rfl rfl)
theorem dX3_holds_70 : decode cX3_holds 70 = .ok (.iload_n 1, 1) := dk_27 (dk_at dksX3_holds_2 23 rfl rfl)
theorem dX3_holds_71 : decode cX3_holds 71 = .ok (.isub, 1) := dk_100 (dk_at dksX3_holds_3 0 rfl rfl)
theorem dX3_holds_72 : decode cX3_holds 72 = .ok (.invokevirtual 65, 3) := dk_182 0 65 (dk_at dksX3_holds_3 1 rfl rfl)
theorem dX3_holds_75 : decode cX3_holds 75 = .ok (.invokestatic 68, 3) := dk_184 0 68 (dk_at dksX3_holds_3 4 rfl rfl)
theorem dX3_holds_78 : decode cX3_holds 78 = .ok (.iastore, 1) := dk_79 (dk_at dksX3_holds_3 7 rfl rfl)
theorem dX3_holds_79 : decode cX3_holds 79 = .ok (.aload_n 0, 1) := dk_42 (dk_at dksX3_holds_3 8 rfl rfl)
theorem dX3_holds_80 : decode cX3_holds 80 = .ok (.getfield 3, 3) := dk_180 0 3 (dk_at dksX3_holds_3 9 rfl rfl)
theorem dX3_holds_83 : decode cX3_holds 83 = .ok (.getfield 62, 3) := dk_180 0 62 (dk_at dksX3_holds_3 12 rfl rfl)
theorem dX3_holds_86 : decode cX3_holds 86 = .ok (.iconst 4, 1) := dk_7 (dk_at dksX3_holds_3 15 rfl rfl)
theorem dX3_holds_87 : decode cX3_holds 87 = .ok (.aload_n 0, 1) := dk_42 (dk_at dksX3_holds_3 16 rfl rfl)
theorem dX3_holds_88 : decode cX3_holds 88 = .ok (.iconst 2, 1) := dk_5 (dk_at dksX3_holds_3 17 rfl rfl)
theorem dX3_holds_89 : decode cX3_holds 89 = .ok (.invokevirtual 45, 3) := dk_182 0 45 (dk_at dksX3_holds_3 18 rfl rfl)
theorem dX3_holds_92 : decode cX3_holds 92 = .ok (.aload_n 0, 1) := dk_42 (dk_at dksX3_holds_3 21 rfl rfl)
theorem dX3_holds_93 : decode cX3_holds 93 = .ok (.getfield 3, 3) := dk_180 0 3 (dk_at dksX3_holds_4 0 rfl rfl)
theorem dX3_holds_96 : decode cX3_holds 96 = .ok (.getfield 29, 3) := dk_180 0 29 (dk_at dksX3_holds_4 3 rfl rfl)
theorem dX3_holds_99 : decode cX3_holds 99 = .ok (.iload_n 1, 1) := dk_27 (dk_at dksX3_holds_4 6 rfl rfl)
theorem dX3_holds_100 : decode cX3_holds 100 = .ok (.invokevirtual 52, 3) := dk_182 0 52 (dk_at dksX3_holds_4 7 rfl rfl)
theorem dX3_holds_103 : decode cX3_holds 103 = .ok (.iand, 1) := dk_126 (dk_at dksX3_holds_4 10 rfl rfl)
theorem dX3_holds_104 : decode cX3_holds 104 = .ok (.invokestatic 68, 3) := dk_184 0 68 (dk_at dksX3_holds_4 11 rfl rfl)
theorem dX3_holds_107 : decode cX3_holds 107 = .ok (.iastore, 1) := dk_79 (dk_at dksX3_holds_4 14 rfl rfl)
theorem dX3_holds_108 : decode cX3_holds 108 = .ok (.aload_n 0, 1) := dk_42 (dk_at dksX3_holds_4 15 rfl rfl)
theorem dX3_holds_109 : decode cX3_holds 109 = .ok (.getfield 3, 3) := dk_180 0 3 (dk_at dksX3_holds_4 16 rfl rfl)
theorem dX3_holds_112 : decode cX3_holds 112 = .ok (.getfield 62, 3) := dk_180 0 62 (dk_at dksX3_holds_4 19 rfl rfl)
theorem dX3_holds_115 : decode cX3_holds 115 = .ok (.iconst 5, 1) := dk_8 (dk_at dksX3_holds_4 22 rfl rfl)
theorem dX3_holds_116 : decode cX3_holds 116 = .ok (.aload_n 0, 1) := dk_42 (dk_at dksX3_holds_4 23 rfl rfl)
theorem dX3_holds_117 : decode cX3_holds 117 = .ok (.getfield 3, 3) := dk_180 0 3 (dk_at dksX3_holds_5 0 rfl rfl)
theorem dX3_holds_120 : decode cX3_holds 120 = .ok (.getfield 29, 3) := dk_180 0 29 (dk_at dksX3_holds_5 3 rfl rfl)
theorem dX3_holds_123 : decode cX3_holds 123 = .ok (.aload_n 0, 1) := dk_42 (dk_at dksX3_holds_5 6 rfl rfl)
theorem dX3_holds_124 : decode cX3_holds 124 = .ok (.invokevirtual 49, 3) := dk_182 0 49 (dk_at dksX3_holds_5 7 rfl rfl)
theorem dX3_holds_127 : decode cX3_holds 127 = .ok (.invokevirtual 73, 3) := dk_182 0 73 (dk_at dksX3_holds_5 10 rfl rfl)
theorem dX3_holds_130 : decode cX3_holds 130 = .ok (.invokestatic 68, 3) := dk_184 0 68 (dk_at dksX3_holds_5 13 rfl rfl)
theorem dX3_holds_133 : decode cX3_holds 133 = .ok (.iastore, 1) := dk_79 (dk_at dksX3_holds_5 16 rfl rfl)
theorem dX3_holds_134 : decode cX3_holds 134 = .ok (.aload_n 0, 1) := dk_42 (dk_at dksX3_holds_5 17 rfl rfl)
theorem dX3_holds_135 : decode cX3_holds 135 = .ok (.getfield 3, 3) := dk_180 0 3 (dk_at dksX3_holds_5 18 rfl rfl)
theorem dX3_holds_138 : decode cX3_holds 138 = .ok (.getfield 29, 3) := dk_180 0 29 (dk_at dksX3_holds_5 21 rfl rfl)
theorem dX3_holds_141 : decode cX3_holds 141 = .ok (.getfield 58, 3) := dk_180 0 58 (dk_at dksX3_holds_6 0 rfl rfl)
theorem dX3_holds_144 : decode cX3_holds 144 = .ok (.iload_n 1, 1) := dk_27 (dk_at dksX3_holds_6 3 rfl rfl)
theorem dX3_holds_145 : decode cX3_holds 145 = .ok (.aaload, 1) := dk_50 (dk_at dksX3_holds_6 4 rfl rfl)
theorem dX3_holds_146 : decode cX3_holds 146 = .ok (.aload_n 0, 1) := dk_42 (dk_at dksX3_holds_6 5 rfl rfl)
theorem dX3_holds_147 : decode cX3_holds 147 = .ok (.getfield 3, 3) := dk_180 0 3 (dk_at dksX3_holds_6 6 rfl rfl)
theorem dX3_holds_150 : decode cX3_holds 150 = .ok (.getfield 62, 3) := dk_180 0 62 (dk_at dksX3_holds_6 9 rfl rfl)
theorem dX3_holds_153 : decode cX3_holds 153 = .ok (.invokeinterface 75 2, 5) := by decide +kernel
theorem dX3_holds_158 : decode cX3_holds 158 = .ok (.ifCond .le 7, 3) := dk_158 0 7 (dk_at dksX3_holds_6 17 rfl rfl)
theorem dX3_holds_161 : decode cX3_holds 161 = .ok (.iconst 1, 1) := dk_4 (dk_at dksX3_holds_6 20 rfl rfl)
theorem dX3_holds_162 : decode cX3_holds 162 = .ok (.goto 4, 3) := dk_167 0 4 (dk_at dksX3_holds_6 21 rfl rfl)
theorem dX3_holds_165 : decode cX3_holds 165 = .ok (.iconst 0, 1) := dk_3 (dk_at dksX3_holds_7 0 rfl rfl)
theorem dX3_holds_166 : decode cX3_holds 166 = .ok (.ireturn, 1) := dk_172 (dk_at dksX3_holds_7 1 rfl rfl)
abbrev cX3_freeOf : ByteArray := prog_9_method_5_code
def yX3_freeOf : MethodName := ⟨RX3, "freeOf", "(I)I"⟩
def dkwX3_freeOf_0 : List UInt8 := [42, 182, 0, 49, 42, 180, 0, 3, 180, 0, 29, 27, 182, 0, 52, 126, 172]
abbrev dktX3_freeOf_0 : List UInt8 := dkwX3_freeOf_0 ++ []
theorem dksX3_freeOf_0 : cX3_freeOf.data.toList.drop 0 = dktX3_freeOf_0 := by decide +kernel
theorem dX3_freeOf_0 : decode cX3_freeOf 0 = .ok (.aload_n 0, 1) := dk_42 (dk_at dksX3_freeOf_0 0 rfl rfl)
theorem dX3_freeOf_1 : decode cX3_freeOf 1 = .ok (.invokevirtual 49, 3) := dk_182 0 49 (dk_at dksX3_freeOf_0 1 rfl rfl)
theorem dX3_freeOf_4 : decode cX3_freeOf 4 = .ok (.aload_n 0, 1) := dk_42 (dk_at dksX3_freeOf_0 4 rfl rfl)
theorem dX3_freeOf_5 : decode cX3_freeOf 5 = .ok (.getfield 3, 3) := dk_180 0 3 (dk_at dksX3_freeOf_0 5 rfl rfl)
theorem dX3_freeOf_8 : decode cX3_freeOf 8 = .ok (.getfield 29, 3) := dk_180 0 29 (dk_at dksX3_freeOf_0 8 rfl rfl)
theorem dX3_freeOf_11 : decode cX3_freeOf 11 = .ok (.iload_n 1, 1) := dk_27 (dk_at dksX3_freeOf_0 11 rfl rfl)
theorem dX3_freeOf_12 : decode cX3_freeOf 12 = .ok (.invokevirtual 52, 3) := dk_182 0 52 (dk_at dksX3_freeOf_0 12 rfl rfl)
theorem dX3_freeOf_15 : decode cX3_freeOf 15 = .ok (.iand, 1) := dk_126 (dk_at dksX3_freeOf_0 15 rfl rfl)
theorem dX3_freeOf_16 : decode cX3_freeOf 16 = .ok (.ireturn, 1) := dk_172 (dk_at dksX3_freeOf_0 16 rfl rfl)
abbrev cX3_aims : ByteArray := prog_9_method_9_code
def yX3_aims : MethodName := ⟨RX3, "aims", "(I)I"⟩
def dkwX3_aims_4 : List UInt8 := [21, 5, 62, 132, 4, 1, 167, 255, 162, 28, 172]
abbrev dktX3_aims_4 : List UInt8 := dkwX3_aims_4 ++ []
def dkwX3_aims_3 : List UInt8 := [21, 4, 182, 0, 99, 54, 5, 28, 2, 159, 0, 12, 21, 5, 29, 163, 0, 6, 167, 0, 9, 21, 4, 61]
abbrev dktX3_aims_3 : List UInt8 := dkwX3_aims_3 ++ dktX3_aims_4
def dkwX3_aims_2 : List UInt8 := [21, 4, 185, 0, 81, 2, 0, 192, 0, 85, 180, 0, 96, 4, 27, 100, 159, 0, 6, 167, 0, 32, 42, 27]
abbrev dktX3_aims_2 : List UInt8 := dkwX3_aims_2 ++ dktX3_aims_3
def dkwX3_aims_1 : List UInt8 := [162, 0, 80, 42, 180, 0, 15, 21, 4, 46, 154, 0, 64, 42, 180, 0, 3, 180, 0, 29, 180, 0, 33]
abbrev dktX3_aims_1 : List UInt8 := dkwX3_aims_1 ++ dktX3_aims_2
def dkwX3_aims_0 : List UInt8 := [2, 61, 3, 62, 3, 54, 4, 21, 4, 42, 180, 0, 3, 180, 0, 29, 180, 0, 33, 185, 0, 39, 1, 0]
abbrev dktX3_aims_0 : List UInt8 := dkwX3_aims_0 ++ dktX3_aims_1
theorem dksX3_aims_0 : cX3_aims.data.toList.drop 0 = dktX3_aims_0 := by decide +kernel
theorem dksX3_aims_1 : cX3_aims.data.toList.drop 24 = dktX3_aims_1 := dk_seg dksX3_aims_0 24 rfl rfl
theorem dksX3_aims_2 : cX3_aims.data.toList.drop 47 = dktX3_aims_2 := dk_seg dksX3_aims_1 23 rfl rfl
theorem dksX3_aims_3 : cX3_aims.data.toList.drop 71 = dktX3_aims_3 := dk_seg dksX3_aims_2 24 rfl rfl
theorem dksX3_aims_4 : cX3_aims.data.toList.drop 95 = dktX3_aims_4 := dk_seg dksX3_aims_3 24 rfl rfl
theorem dX3_aims_0 : decode cX3_aims 0 = .ok (.iconst (-1), 1) := dk_2 (dk_at dksX3_aims_0 0 rfl rfl)
theorem dX3_aims_1 : decode cX3_aims 1 = .ok (.istore_n 2, 1) := dk_61 (dk_at dksX3_aims_0 1 rfl rfl)
theorem dX3_aims_2 : decode cX3_aims 2 = .ok (.iconst 0, 1) := dk_3 (dk_at dksX3_aims_0 2 rfl rfl)
theorem dX3_aims_3 : decode cX3_aims 3 = .ok (.istore_n 3, 1) := dk_62 (dk_at dksX3_aims_0 3 rfl rfl)
theorem dX3_aims_4 : decode cX3_aims 4 = .ok (.iconst 0, 1) := dk_3 (dk_at dksX3_aims_0 4 rfl rfl)
theorem dX3_aims_5 : decode cX3_aims 5 = .ok (.istore 4, 2) := dk_54 4 (dk_at dksX3_aims_0 5 rfl rfl)
theorem dX3_aims_7 : decode cX3_aims 7 = .ok (.iload 4, 2) := dk_21 4 (dk_at dksX3_aims_0 7 rfl rfl)
theorem dX3_aims_9 : decode cX3_aims 9 = .ok (.aload_n 0, 1) := dk_42 (dk_at dksX3_aims_0 9 rfl rfl)
theorem dX3_aims_10 : decode cX3_aims 10 = .ok (.getfield 3, 3) := dk_180 0 3 (dk_at dksX3_aims_0 10 rfl rfl)
theorem dX3_aims_13 : decode cX3_aims 13 = .ok (.getfield 29, 3) := dk_180 0 29 (dk_at dksX3_aims_0 13 rfl rfl)
theorem dX3_aims_16 : decode cX3_aims 16 = .ok (.getfield 33, 3) := dk_180 0 33 (dk_at dksX3_aims_0 16 rfl rfl)
theorem dX3_aims_19 : decode cX3_aims 19 = .ok (.invokeinterface 39 1, 5) := by decide +kernel
theorem dX3_aims_24 : decode cX3_aims 24 = .ok (.if_icmp .ge 80, 3) := dk_162 0 80 (dk_at dksX3_aims_1 0 rfl rfl)
theorem dX3_aims_27 : decode cX3_aims 27 = .ok (.aload_n 0, 1) := dk_42 (dk_at dksX3_aims_1 3 rfl rfl)
theorem dX3_aims_28 : decode cX3_aims 28 = .ok (.getfield 15, 3) := dk_180 0 15 (dk_at dksX3_aims_1 4 rfl rfl)
theorem dX3_aims_31 : decode cX3_aims 31 = .ok (.iload 4, 2) := dk_21 4 (dk_at dksX3_aims_1 7 rfl rfl)
theorem dX3_aims_33 : decode cX3_aims 33 = .ok (.iaload, 1) := dk_46 (dk_at dksX3_aims_1 9 rfl rfl)
theorem dX3_aims_34 : decode cX3_aims 34 = .ok (.ifCond .ne 64, 3) := dk_154 0 64 (dk_at dksX3_aims_1 10 rfl rfl)
theorem dX3_aims_37 : decode cX3_aims 37 = .ok (.aload_n 0, 1) := dk_42 (dk_at dksX3_aims_1 13 rfl rfl)
theorem dX3_aims_38 : decode cX3_aims 38 = .ok (.getfield 3, 3) := dk_180 0 3 (dk_at dksX3_aims_1 14 rfl rfl)
theorem dX3_aims_41 : decode cX3_aims 41 = .ok (.getfield 29, 3) := dk_180 0 29 (dk_at dksX3_aims_1 17 rfl rfl)
theorem dX3_aims_44 : decode cX3_aims 44 = .ok (.getfield 33, 3) := dk_180 0 33 (dk_at dksX3_aims_1 20 rfl rfl)
theorem dX3_aims_47 : decode cX3_aims 47 = .ok (.iload 4, 2) := dk_21 4 (dk_at dksX3_aims_2 0 rfl rfl)
theorem dX3_aims_49 : decode cX3_aims 49 = .ok (.invokeinterface 81 2, 5) := by decide +kernel
theorem dX3_aims_54 : decode cX3_aims 54 = .ok (.checkcast 85, 3) := dk_192 0 85 (dk_at dksX3_aims_2 7 rfl rfl)
theorem dX3_aims_57 : decode cX3_aims 57 = .ok (.getfield 96, 3) := dk_180 0 96 (dk_at dksX3_aims_2 10 rfl rfl)
theorem dX3_aims_60 : decode cX3_aims 60 = .ok (.iconst 1, 1) := dk_4 (dk_at dksX3_aims_2 13 rfl rfl)
theorem dX3_aims_61 : decode cX3_aims 61 = .ok (.iload_n 1, 1) := dk_27 (dk_at dksX3_aims_2 14 rfl rfl)
theorem dX3_aims_62 : decode cX3_aims 62 = .ok (.isub, 1) := dk_100 (dk_at dksX3_aims_2 15 rfl rfl)
theorem dX3_aims_63 : decode cX3_aims 63 = .ok (.if_icmp .eq 6, 3) := dk_159 0 6 (dk_at dksX3_aims_2 16 rfl rfl)
theorem dX3_aims_66 : decode cX3_aims 66 = .ok (.goto 32, 3) := dk_167 0 32 (dk_at dksX3_aims_2 19 rfl rfl)
theorem dX3_aims_69 : decode cX3_aims 69 = .ok (.aload_n 0, 1) := dk_42 (dk_at dksX3_aims_2 22 rfl rfl)
theorem dX3_aims_70 : decode cX3_aims 70 = .ok (.iload_n 1, 1) := dk_27 (dk_at dksX3_aims_2 23 rfl rfl)
theorem dX3_aims_71 : decode cX3_aims 71 = .ok (.iload 4, 2) := dk_21 4 (dk_at dksX3_aims_3 0 rfl rfl)
theorem dX3_aims_73 : decode cX3_aims 73 = .ok (.invokevirtual 99, 3) := dk_182 0 99 (dk_at dksX3_aims_3 2 rfl rfl)
theorem dX3_aims_76 : decode cX3_aims 76 = .ok (.istore 5, 2) := dk_54 5 (dk_at dksX3_aims_3 5 rfl rfl)
theorem dX3_aims_78 : decode cX3_aims 78 = .ok (.iload_n 2, 1) := dk_28 (dk_at dksX3_aims_3 7 rfl rfl)
theorem dX3_aims_79 : decode cX3_aims 79 = .ok (.iconst (-1), 1) := dk_2 (dk_at dksX3_aims_3 8 rfl rfl)
theorem dX3_aims_80 : decode cX3_aims 80 = .ok (.if_icmp .eq 12, 3) := dk_159 0 12 (dk_at dksX3_aims_3 9 rfl rfl)
theorem dX3_aims_83 : decode cX3_aims 83 = .ok (.iload 5, 2) := dk_21 5 (dk_at dksX3_aims_3 12 rfl rfl)
theorem dX3_aims_85 : decode cX3_aims 85 = .ok (.iload_n 3, 1) := dk_29 (dk_at dksX3_aims_3 14 rfl rfl)
theorem dX3_aims_86 : decode cX3_aims 86 = .ok (.if_icmp .gt 6, 3) := dk_163 0 6 (dk_at dksX3_aims_3 15 rfl rfl)
theorem dX3_aims_89 : decode cX3_aims 89 = .ok (.goto 9, 3) := dk_167 0 9 (dk_at dksX3_aims_3 18 rfl rfl)
theorem dX3_aims_92 : decode cX3_aims 92 = .ok (.iload 4, 2) := dk_21 4 (dk_at dksX3_aims_3 21 rfl rfl)
theorem dX3_aims_94 : decode cX3_aims 94 = .ok (.istore_n 2, 1) := dk_61 (dk_at dksX3_aims_3 23 rfl rfl)
theorem dX3_aims_95 : decode cX3_aims 95 = .ok (.iload 5, 2) := dk_21 5 (dk_at dksX3_aims_4 0 rfl rfl)
theorem dX3_aims_97 : decode cX3_aims 97 = .ok (.istore_n 3, 1) := dk_62 (dk_at dksX3_aims_4 2 rfl rfl)
theorem dX3_aims_98 : decode cX3_aims 98 = .ok (.iinc 4 1, 3) := dk_132 4 1 (dk_at dksX3_aims_4 3 rfl rfl)
theorem dX3_aims_101 : decode cX3_aims 101 = .ok (.goto (-94), 3) := dk_167 255 162 (dk_at dksX3_aims_4 6 rfl rfl)
theorem dX3_aims_104 : decode cX3_aims 104 = .ok (.iload_n 2, 1) := dk_28 (dk_at dksX3_aims_4 9 rfl rfl)
theorem dX3_aims_105 : decode cX3_aims 105 = .ok (.ireturn, 1) := dk_172 (dk_at dksX3_aims_4 10 rfl rfl)
abbrev cX3_worth : ByteArray := prog_9_method_8_code
def yX3_worth : MethodName := ⟨RX3, "worth", "(II)I"⟩
def dkwX3_worth_7 : List UInt8 := [180, 0, 29, 180, 0, 87, 27, 50, 42, 180, 0, 3, 180, 0, 62, 185, 0, 75, 2, 0, 172]
abbrev dktX3_worth_7 : List UInt8 := dkwX3_worth_7 ++ []
def dkwX3_worth_6 : List UInt8 := [180, 0, 3, 180, 0, 62, 5, 28, 79, 42, 180, 0, 3, 180, 0, 62, 6, 21, 4, 79, 42, 180, 0, 3]
abbrev dktX3_worth_6 : List UInt8 := dkwX3_worth_6 ++ dktX3_worth_7
def dkwX3_worth_5 : List UInt8 := [180, 0, 62, 3, 45, 180, 0, 90, 79, 42, 180, 0, 3, 180, 0, 62, 4, 45, 180, 0, 93, 79, 42]
abbrev dktX3_worth_5 : List UInt8 := dkwX3_worth_5 ++ dktX3_worth_6
def dkwX3_worth_4 : List UInt8 := [180, 0, 93, 45, 180, 0, 93, 160, 0, 6, 132, 4, 1, 132, 5, 1, 167, 255, 190, 42, 180, 0, 3]
abbrev dktX3_worth_4 : List UInt8 := dkwX3_worth_4 ++ dktX3_worth_5
def dkwX3_worth_3 : List UInt8 := [46, 154, 0, 36, 42, 180, 0, 3, 180, 0, 29, 180, 0, 33, 21, 5, 185, 0, 81, 2, 0, 192, 0, 85]
abbrev dktX3_worth_3 : List UInt8 := dkwX3_worth_3 ++ dktX3_worth_4
def dkwX3_worth_2 : List UInt8 := [42, 180, 0, 3, 180, 0, 29, 180, 0, 33, 185, 0, 39, 1, 0, 162, 0, 52, 42, 180, 0, 15, 21, 5]
abbrev dktX3_worth_2 : List UInt8 := dkwX3_worth_2 ++ dktX3_worth_3
def dkwX3_worth_1 : List UInt8 := [180, 0, 29, 180, 0, 87, 27, 50, 199, 0, 8, 45, 180, 0, 90, 172, 3, 54, 4, 3, 54, 5, 21, 5]
abbrev dktX3_worth_1 : List UInt8 := dkwX3_worth_1 ++ dktX3_worth_2
def dkwX3_worth_0 : List UInt8 := [42, 180, 0, 3, 180, 0, 29, 180, 0, 33, 28, 185, 0, 81, 2, 0, 192, 0, 85, 78, 42, 180, 0, 3]
abbrev dktX3_worth_0 : List UInt8 := dkwX3_worth_0 ++ dktX3_worth_1
theorem dksX3_worth_0 : cX3_worth.data.toList.drop 0 = dktX3_worth_0 := by decide +kernel
theorem dksX3_worth_1 : cX3_worth.data.toList.drop 24 = dktX3_worth_1 := dk_seg dksX3_worth_0 24 rfl rfl
theorem dksX3_worth_2 : cX3_worth.data.toList.drop 48 = dktX3_worth_2 := dk_seg dksX3_worth_1 24 rfl rfl
theorem dksX3_worth_3 : cX3_worth.data.toList.drop 72 = dktX3_worth_3 := dk_seg dksX3_worth_2 24 rfl rfl
theorem dksX3_worth_4 : cX3_worth.data.toList.drop 96 = dktX3_worth_4 := dk_seg dksX3_worth_3 24 rfl rfl
theorem dksX3_worth_5 : cX3_worth.data.toList.drop 119 = dktX3_worth_5 := dk_seg dksX3_worth_4 23 rfl rfl
theorem dksX3_worth_6 : cX3_worth.data.toList.drop 142 = dktX3_worth_6 := dk_seg dksX3_worth_5 23 rfl rfl
theorem dksX3_worth_7 : cX3_worth.data.toList.drop 166 = dktX3_worth_7 := dk_seg dksX3_worth_6 24 rfl rfl
theorem dX3_worth_0 : decode cX3_worth 0 = .ok (.aload_n 0, 1) := dk_42 (dk_at dksX3_worth_0 0 rfl rfl)
theorem dX3_worth_1 : decode cX3_worth 1 = .ok (.getfield 3, 3) := dk_180 0 3 (dk_at dksX3_worth_0 1 rfl rfl)
theorem dX3_worth_4 : decode cX3_worth 4 = .ok (.getfield 29, 3) := dk_180 0 29 (dk_at dksX3_worth_0 4 rfl rfl)
theorem dX3_worth_7 : decode cX3_worth 7 = .ok (.getfield 33, 3) := dk_180 0 33 (dk_at dksX3_worth_0 7 rfl rfl)
theorem dX3_worth_10 : decode cX3_worth 10 = .ok (.iload_n 2, 1) := dk_28 (dk_at dksX3_worth_0 10 rfl rfl)
theorem dX3_worth_11 : decode cX3_worth 11 = .ok (.invokeinterface 81 2, 5) := by decide +kernel
theorem dX3_worth_16 : decode cX3_worth 16 = .ok (.checkcast 85, 3) := dk_192 0 85 (dk_at dksX3_worth_0 16 rfl rfl)
theorem dX3_worth_19 : decode cX3_worth 19 = .ok (.astore_n 3, 1) := dk_78 (dk_at dksX3_worth_0 19 rfl rfl)
theorem dX3_worth_20 : decode cX3_worth 20 = .ok (.aload_n 0, 1) := dk_42 (dk_at dksX3_worth_0 20 rfl rfl)
theorem dX3_worth_21 : decode cX3_worth 21 = .ok (.getfield 3, 3) := dk_180 0 3 (dk_at dksX3_worth_0 21 rfl rfl)
theorem dX3_worth_24 : decode cX3_worth 24 = .ok (.getfield 29, 3) := dk_180 0 29 (dk_at dksX3_worth_1 0 rfl rfl)
theorem dX3_worth_27 : decode cX3_worth 27 = .ok (.getfield 87, 3) := dk_180 0 87 (dk_at dksX3_worth_1 3 rfl rfl)
theorem dX3_worth_30 : decode cX3_worth 30 = .ok (.iload_n 1, 1) := dk_27 (dk_at dksX3_worth_1 6 rfl rfl)
theorem dX3_worth_31 : decode cX3_worth 31 = .ok (.aaload, 1) := dk_50 (dk_at dksX3_worth_1 7 rfl rfl)
theorem dX3_worth_32 : decode cX3_worth 32 = .ok (.ifnonnull 8, 3) := dk_199 0 8 (dk_at dksX3_worth_1 8 rfl rfl)
theorem dX3_worth_35 : decode cX3_worth 35 = .ok (.aload_n 3, 1) := dk_45 (dk_at dksX3_worth_1 11 rfl rfl)
theorem dX3_worth_36 : decode cX3_worth 36 = .ok (.getfield 90, 3) := dk_180 0 90 (dk_at dksX3_worth_1 12 rfl rfl)
theorem dX3_worth_39 : decode cX3_worth 39 = .ok (.ireturn, 1) := dk_172 (dk_at dksX3_worth_1 15 rfl rfl)
theorem dX3_worth_40 : decode cX3_worth 40 = .ok (.iconst 0, 1) := dk_3 (dk_at dksX3_worth_1 16 rfl rfl)
theorem dX3_worth_41 : decode cX3_worth 41 = .ok (.istore 4, 2) := dk_54 4 (dk_at dksX3_worth_1 17 rfl rfl)
theorem dX3_worth_43 : decode cX3_worth 43 = .ok (.iconst 0, 1) := dk_3 (dk_at dksX3_worth_1 19 rfl rfl)
theorem dX3_worth_44 : decode cX3_worth 44 = .ok (.istore 5, 2) := dk_54 5 (dk_at dksX3_worth_1 20 rfl rfl)
theorem dX3_worth_46 : decode cX3_worth 46 = .ok (.iload 5, 2) := dk_21 5 (dk_at dksX3_worth_1 22 rfl rfl)
theorem dX3_worth_48 : decode cX3_worth 48 = .ok (.aload_n 0, 1) := dk_42 (dk_at dksX3_worth_2 0 rfl rfl)
theorem dX3_worth_49 : decode cX3_worth 49 = .ok (.getfield 3, 3) := dk_180 0 3 (dk_at dksX3_worth_2 1 rfl rfl)
theorem dX3_worth_52 : decode cX3_worth 52 = .ok (.getfield 29, 3) := dk_180 0 29 (dk_at dksX3_worth_2 4 rfl rfl)
theorem dX3_worth_55 : decode cX3_worth 55 = .ok (.getfield 33, 3) := dk_180 0 33 (dk_at dksX3_worth_2 7 rfl rfl)
theorem dX3_worth_58 : decode cX3_worth 58 = .ok (.invokeinterface 39 1, 5) := by decide +kernel
theorem dX3_worth_63 : decode cX3_worth 63 = .ok (.if_icmp .ge 52, 3) := dk_162 0 52 (dk_at dksX3_worth_2 15 rfl rfl)
theorem dX3_worth_66 : decode cX3_worth 66 = .ok (.aload_n 0, 1) := dk_42 (dk_at dksX3_worth_2 18 rfl rfl)
theorem dX3_worth_67 : decode cX3_worth 67 = .ok (.getfield 15, 3) := dk_180 0 15 (dk_at dksX3_worth_2 19 rfl rfl)
theorem dX3_worth_70 : decode cX3_worth 70 = .ok (.iload 5, 2) := dk_21 5 (dk_at dksX3_worth_2 22 rfl rfl)
theorem dX3_worth_72 : decode cX3_worth 72 = .ok (.iaload, 1) := dk_46 (dk_at dksX3_worth_3 0 rfl rfl)
theorem dX3_worth_73 : decode cX3_worth 73 = .ok (.ifCond .ne 36, 3) := dk_154 0 36 (dk_at dksX3_worth_3 1 rfl rfl)
theorem dX3_worth_76 : decode cX3_worth 76 = .ok (.aload_n 0, 1) := dk_42 (dk_at dksX3_worth_3 4 rfl rfl)
theorem dX3_worth_77 : decode cX3_worth 77 = .ok (.getfield 3, 3) := dk_180 0 3 (dk_at dksX3_worth_3 5 rfl rfl)
theorem dX3_worth_80 : decode cX3_worth 80 = .ok (.getfield 29, 3) := dk_180 0 29 (dk_at dksX3_worth_3 8 rfl rfl)
theorem dX3_worth_83 : decode cX3_worth 83 = .ok (.getfield 33, 3) := dk_180 0 33 (dk_at dksX3_worth_3 11 rfl rfl)
theorem dX3_worth_86 : decode cX3_worth 86 = .ok (.iload 5, 2) := dk_21 5 (dk_at dksX3_worth_3 14 rfl rfl)
theorem dX3_worth_88 : decode cX3_worth 88 = .ok (.invokeinterface 81 2, 5) := by decide +kernel
theorem dX3_worth_93 : decode cX3_worth 93 = .ok (.checkcast 85, 3) := dk_192 0 85 (dk_at dksX3_worth_3 21 rfl rfl)
theorem dX3_worth_96 : decode cX3_worth 96 = .ok (.getfield 93, 3) := dk_180 0 93 (dk_at dksX3_worth_4 0 rfl rfl)
theorem dX3_worth_99 : decode cX3_worth 99 = .ok (.aload_n 3, 1) := dk_45 (dk_at dksX3_worth_4 3 rfl rfl)
theorem dX3_worth_100 : decode cX3_worth 100 = .ok (.getfield 93, 3) := dk_180 0 93 (dk_at dksX3_worth_4 4 rfl rfl)
theorem dX3_worth_103 : decode cX3_worth 103 = .ok (.if_icmp .ne 6, 3) := dk_160 0 6 (dk_at dksX3_worth_4 7 rfl rfl)
theorem dX3_worth_106 : decode cX3_worth 106 = .ok (.iinc 4 1, 3) := dk_132 4 1 (dk_at dksX3_worth_4 10 rfl rfl)
theorem dX3_worth_109 : decode cX3_worth 109 = .ok (.iinc 5 1, 3) := dk_132 5 1 (dk_at dksX3_worth_4 13 rfl rfl)
theorem dX3_worth_112 : decode cX3_worth 112 = .ok (.goto (-66), 3) := dk_167 255 190 (dk_at dksX3_worth_4 16 rfl rfl)
theorem dX3_worth_115 : decode cX3_worth 115 = .ok (.aload_n 0, 1) := dk_42 (dk_at dksX3_worth_4 19 rfl rfl)
theorem dX3_worth_116 : decode cX3_worth 116 = .ok (.getfield 3, 3) := dk_180 0 3 (dk_at dksX3_worth_4 20 rfl rfl)
theorem dX3_worth_119 : decode cX3_worth 119 = .ok (.getfield 62, 3) := dk_180 0 62 (dk_at dksX3_worth_5 0 rfl rfl)
theorem dX3_worth_122 : decode cX3_worth 122 = .ok (.iconst 0, 1) := dk_3 (dk_at dksX3_worth_5 3 rfl rfl)
theorem dX3_worth_123 : decode cX3_worth 123 = .ok (.aload_n 3, 1) := dk_45 (dk_at dksX3_worth_5 4 rfl rfl)
theorem dX3_worth_124 : decode cX3_worth 124 = .ok (.getfield 90, 3) := dk_180 0 90 (dk_at dksX3_worth_5 5 rfl rfl)
theorem dX3_worth_127 : decode cX3_worth 127 = .ok (.iastore, 1) := dk_79 (dk_at dksX3_worth_5 8 rfl rfl)
theorem dX3_worth_128 : decode cX3_worth 128 = .ok (.aload_n 0, 1) := dk_42 (dk_at dksX3_worth_5 9 rfl rfl)
theorem dX3_worth_129 : decode cX3_worth 129 = .ok (.getfield 3, 3) := dk_180 0 3 (dk_at dksX3_worth_5 10 rfl rfl)
theorem dX3_worth_132 : decode cX3_worth 132 = .ok (.getfield 62, 3) := dk_180 0 62 (dk_at dksX3_worth_5 13 rfl rfl)
theorem dX3_worth_135 : decode cX3_worth 135 = .ok (.iconst 1, 1) := dk_4 (dk_at dksX3_worth_5 16 rfl rfl)
theorem dX3_worth_136 : decode cX3_worth 136 = .ok (.aload_n 3, 1) := dk_45 (dk_at dksX3_worth_5 17 rfl rfl)
theorem dX3_worth_137 : decode cX3_worth 137 = .ok (.getfield 93, 3) := dk_180 0 93 (dk_at dksX3_worth_5 18 rfl rfl)
theorem dX3_worth_140 : decode cX3_worth 140 = .ok (.iastore, 1) := dk_79 (dk_at dksX3_worth_5 21 rfl rfl)
theorem dX3_worth_141 : decode cX3_worth 141 = .ok (.aload_n 0, 1) := dk_42 (dk_at dksX3_worth_5 22 rfl rfl)
theorem dX3_worth_142 : decode cX3_worth 142 = .ok (.getfield 3, 3) := dk_180 0 3 (dk_at dksX3_worth_6 0 rfl rfl)
theorem dX3_worth_145 : decode cX3_worth 145 = .ok (.getfield 62, 3) := dk_180 0 62 (dk_at dksX3_worth_6 3 rfl rfl)
theorem dX3_worth_148 : decode cX3_worth 148 = .ok (.iconst 2, 1) := dk_5 (dk_at dksX3_worth_6 6 rfl rfl)
theorem dX3_worth_149 : decode cX3_worth 149 = .ok (.iload_n 2, 1) := dk_28 (dk_at dksX3_worth_6 7 rfl rfl)
theorem dX3_worth_150 : decode cX3_worth 150 = .ok (.iastore, 1) := dk_79 (dk_at dksX3_worth_6 8 rfl rfl)
theorem dX3_worth_151 : decode cX3_worth 151 = .ok (.aload_n 0, 1) := dk_42 (dk_at dksX3_worth_6 9 rfl rfl)
theorem dX3_worth_152 : decode cX3_worth 152 = .ok (.getfield 3, 3) := dk_180 0 3 (dk_at dksX3_worth_6 10 rfl rfl)
theorem dX3_worth_155 : decode cX3_worth 155 = .ok (.getfield 62, 3) := dk_180 0 62 (dk_at dksX3_worth_6 13 rfl rfl)
theorem dX3_worth_158 : decode cX3_worth 158 = .ok (.iconst 3, 1) := dk_6 (dk_at dksX3_worth_6 16 rfl rfl)
theorem dX3_worth_159 : decode cX3_worth 159 = .ok (.iload 4, 2) := dk_21 4 (dk_at dksX3_worth_6 17 rfl rfl)
theorem dX3_worth_161 : decode cX3_worth 161 = .ok (.iastore, 1) := dk_79 (dk_at dksX3_worth_6 19 rfl rfl)
theorem dX3_worth_162 : decode cX3_worth 162 = .ok (.aload_n 0, 1) := dk_42 (dk_at dksX3_worth_6 20 rfl rfl)
theorem dX3_worth_163 : decode cX3_worth 163 = .ok (.getfield 3, 3) := dk_180 0 3 (dk_at dksX3_worth_6 21 rfl rfl)
theorem dX3_worth_166 : decode cX3_worth 166 = .ok (.getfield 29, 3) := dk_180 0 29 (dk_at dksX3_worth_7 0 rfl rfl)
theorem dX3_worth_169 : decode cX3_worth 169 = .ok (.getfield 87, 3) := dk_180 0 87 (dk_at dksX3_worth_7 3 rfl rfl)
theorem dX3_worth_172 : decode cX3_worth 172 = .ok (.iload_n 1, 1) := dk_27 (dk_at dksX3_worth_7 6 rfl rfl)
theorem dX3_worth_173 : decode cX3_worth 173 = .ok (.aaload, 1) := dk_50 (dk_at dksX3_worth_7 7 rfl rfl)
theorem dX3_worth_174 : decode cX3_worth 174 = .ok (.aload_n 0, 1) := dk_42 (dk_at dksX3_worth_7 8 rfl rfl)
theorem dX3_worth_175 : decode cX3_worth 175 = .ok (.getfield 3, 3) := dk_180 0 3 (dk_at dksX3_worth_7 9 rfl rfl)
theorem dX3_worth_178 : decode cX3_worth 178 = .ok (.getfield 62, 3) := dk_180 0 62 (dk_at dksX3_worth_7 12 rfl rfl)
theorem dX3_worth_181 : decode cX3_worth 181 = .ok (.invokeinterface 75 2, 5) := by decide +kernel
theorem dX3_worth_186 : decode cX3_worth 186 = .ok (.ireturn, 1) := dk_172 (dk_at dksX3_worth_7 20 rfl rfl)
theorem q105 : (Jvm.Cond.initialized "ValleyMass$State") ∈ lw_all := lw_g (lw_at lw_m1 6 rfl) rfl
theorem q178 : (Jvm.Cond.fieldLinkNest "ValleyMass$State" (33 : Nat) "ValleyMass$Valley" "singers" "Ljava/util/List;" "ValleyMass") ∈ lw_tbl := lw_at lw_m1 79 rfl
theorem q185 : (Jvm.Cond.fieldLinkNest "ValleyMass$State" (58 : Nat) "ValleyMass$Valley" "truce" "[LValleyMass$Form;" "ValleyMass") ∈ lw_tbl := lw_at lw_m1 86 rfl
theorem q188 : (Jvm.Cond.fieldLinkNest "ValleyMass$State" (87 : Nat) "ValleyMass$Valley" "aim" "[LValleyMass$Form;" "ValleyMass") ∈ lw_tbl := lw_at lw_m1 89 rfl
theorem q191 : (Jvm.Cond.fieldLinkNest "ValleyMass$State" (55 : Nat) "ValleyMass$Valley" "every" "I" "ValleyMass") ∈ lw_tbl := lw_at lw_m1 92 rfl
theorem q206 : (Jvm.Cond.instantiable "ValleyMass$State" (4 : Nat)) ∈ lw_all := lw_g (lw_at lw_m1 107 rfl) rfl
theorem q208 : (Jvm.Cond.instanceMethod ({ cls := "ValleyMass$State", name := "<init>", desc := "(LValleyMass;)V" } : Jvm.MethodName)) ∈ lw_all := lw_g (lw_at lw_m1 109 rfl) rfl
theorem q209 : (Jvm.Cond.code ({ cls := "ValleyMass$State", name := "<init>", desc := "(LValleyMass;)V" } : Jvm.MethodName) prog_9_method_1_code (2 : Nat) (Option.none : Option Jvm.ClassFile.FieldType)) ∈ lw_all := lw_g (lw_at lw_m1 110 rfl) rfl
theorem q210 : (Jvm.Cond.methodLink "ValleyMass$State" (9 : Nat) ({ cls := "java/lang/Object", name := "<init>", desc := "()V" } : Jvm.MethodName)) ∈ lw_all := lw_g (lw_at lw_m1 111 rfl) rfl
theorem q211 : (Jvm.Cond.fieldLink "ValleyMass$State" (15 : Nat) "ValleyMass$State" "how" "[I") ∈ lw_all := lw_g (lw_at lw_m1 112 rfl) rfl
theorem q213 : (Jvm.Cond.fieldLink "ValleyMass$State" (22 : Nat) "ValleyMass$State" "day" "I") ∈ lw_all := lw_g (lw_at lw_m1 114 rfl) rfl
theorem q215 : (Jvm.Cond.fieldLink "ValleyMass$State" (26 : Nat) "ValleyMass$State" "sung" "I") ∈ lw_all := lw_g (lw_at lw_m1 116 rfl) rfl
theorem q217 : (Jvm.Cond.fieldLink "ValleyMass$State" (3 : Nat) "ValleyMass$State" "this$0" "LValleyMass;") ∈ lw_all := lw_g (lw_at lw_m1 118 rfl) rfl
theorem q218 : (Jvm.Cond.laysFinal "ValleyMass$State" "ValleyMass$State" "how" "[I") ∈ lw_all := lw_g (lw_at lw_m1 119 rfl) rfl
theorem q219 : (Jvm.Cond.soleField "ValleyMass$State" "how") ∈ lw_all := lw_g (lw_at lw_m1 120 rfl) rfl
theorem q220 : (Jvm.Cond.lays "ValleyMass$State" "ValleyMass$State" "day" "I") ∈ lw_all := lw_g (lw_at lw_m1 121 rfl) rfl
theorem q221 : (Jvm.Cond.soleField "ValleyMass$State" "day") ∈ lw_all := lw_g (lw_at lw_m1 122 rfl) rfl
theorem q222 : (Jvm.Cond.lays "ValleyMass$State" "ValleyMass$State" "sung" "I") ∈ lw_all := lw_g (lw_at lw_m1 123 rfl) rfl
theorem q223 : (Jvm.Cond.soleField "ValleyMass$State" "sung") ∈ lw_all := lw_g (lw_at lw_m1 124 rfl) rfl
theorem q224 : (Jvm.Cond.laysFinal "ValleyMass$State" "ValleyMass$State" "this$0" "LValleyMass;") ∈ lw_all := lw_g (lw_at lw_m1 125 rfl) rfl
theorem q225 : (Jvm.Cond.soleField "ValleyMass$State" "this$0") ∈ lw_all := lw_g (lw_at lw_m1 126 rfl) rfl
theorem q226 : (Jvm.Cond.superclass "ValleyMass$State" "java/lang/Object") ∈ lw_all := lw_g (lw_at lw_m1 127 rfl) rfl
theorem q230 : (Jvm.Cond.fieldLinkNest "ValleyMass$State" (29 : Nat) "ValleyMass" "valley" "LValleyMass$Valley;" "ValleyMass") ∈ lw_tbl := lw_at lw_m1 131 rfl
theorem q234 : (Jvm.Cond.fieldLinkNest "ValleyMass$State" (62 : Nat) "ValleyMass" "values" "[I" "ValleyMass") ∈ lw_tbl := lw_at lw_m1 135 rfl
theorem q298 : (Jvm.Cond.instanceMethod ({ cls := "ValleyMass$State", name := "copy", desc := "()LValleyMass$State;" } : Jvm.MethodName)) ∈ lw_all := lw_g (lw_at lw_m1 199 rfl) rfl
theorem q299 : (Jvm.Cond.selects "ValleyMass$State" ({ cls := "ValleyMass$State", name := "copy", desc := "()LValleyMass$State;" } : Jvm.MethodName) ({ cls := "ValleyMass$State", name := "copy", desc := "()LValleyMass$State;" } : Jvm.MethodName)) ∈ lw_all := lw_g (lw_at lw_m1 200 rfl) rfl
theorem q300 : (Jvm.Cond.code ({ cls := "ValleyMass$State", name := "copy", desc := "()LValleyMass$State;" } : Jvm.MethodName) prog_9_method_2_code (3 : Nat) (Option.some (Jvm.ClassFile.FieldType.object "ValleyMass$State"))) ∈ lw_all := lw_g (lw_at lw_m1 201 rfl) rfl
theorem q301 : (Jvm.Cond.classLink "ValleyMass$State" (4 : Nat) "ValleyMass$State") ∈ lw_all := lw_g (lw_at lw_m1 202 rfl) rfl
theorem q302 : (Jvm.Cond.methodLink "ValleyMass$State" (19 : Nat) ({ cls := "ValleyMass$State", name := "<init>", desc := "(LValleyMass;)V" } : Jvm.MethodName)) ∈ lw_all := lw_g (lw_at lw_m1 203 rfl) rfl
theorem q348 : (Jvm.Cond.selects "ValleyMass$State" ({ cls := "java/lang/Object", name := "getClass", desc := "()Ljava/lang/Class;" } : Jvm.MethodName) ({ cls := "java/lang/Object", name := "getClass", desc := "()Ljava/lang/Class;" } : Jvm.MethodName)) ∈ lw_all := lw_g (lw_at lw_m2 9 rfl) rfl
theorem q403 : (Jvm.Cond.instanceMethod ({ cls := "ValleyMass$State", name := "pass", desc := "()I" } : Jvm.MethodName)) ∈ lw_all := lw_g (lw_at lw_m2 64 rfl) rfl
theorem q404 : (Jvm.Cond.selects "ValleyMass$State" ({ cls := "ValleyMass$State", name := "pass", desc := "()I" } : Jvm.MethodName) ({ cls := "ValleyMass$State", name := "pass", desc := "()I" } : Jvm.MethodName)) ∈ lw_all := lw_g (lw_at lw_m2 65 rfl) rfl
theorem q405 : (Jvm.Cond.code ({ cls := "ValleyMass$State", name := "pass", desc := "()I" } : Jvm.MethodName) prog_9_method_10_code (4 : Nat) (Option.some Jvm.ClassFile.FieldType.int)) ∈ lw_all := lw_g (lw_at lw_m2 66 rfl) rfl
theorem q406 : (Jvm.Cond.methodLink "ValleyMass$State" (103 : Nat) ({ cls := "ValleyMass$State", name := "isEvening", desc := "()Z" } : Jvm.MethodName)) ∈ lw_all := lw_g (lw_at lw_m2 67 rfl) rfl
theorem q407 : (Jvm.Cond.instanceMethod ({ cls := "ValleyMass$State", name := "isEvening", desc := "()Z" } : Jvm.MethodName)) ∈ lw_all := lw_g (lw_at lw_m2 68 rfl) rfl
theorem q408 : (Jvm.Cond.selects "ValleyMass$State" ({ cls := "ValleyMass$State", name := "isEvening", desc := "()Z" } : Jvm.MethodName) ({ cls := "ValleyMass$State", name := "isEvening", desc := "()Z" } : Jvm.MethodName)) ∈ lw_all := lw_g (lw_at lw_m2 69 rfl) rfl
theorem q409 : (Jvm.Cond.code ({ cls := "ValleyMass$State", name := "isEvening", desc := "()Z" } : Jvm.MethodName) prog_9_method_6_code (1 : Nat) (Option.some Jvm.ClassFile.FieldType.boolean)) ∈ lw_all := lw_g (lw_at lw_m2 70 rfl) rfl
theorem q410 : (Jvm.Cond.methodLink "ValleyMass$State" (49 : Nat) ({ cls := "ValleyMass$State", name := "free", desc := "()I" } : Jvm.MethodName)) ∈ lw_all := lw_g (lw_at lw_m2 71 rfl) rfl
theorem q411 : (Jvm.Cond.instanceMethod ({ cls := "ValleyMass$State", name := "free", desc := "()I" } : Jvm.MethodName)) ∈ lw_all := lw_g (lw_at lw_m2 72 rfl) rfl
theorem q412 : (Jvm.Cond.selects "ValleyMass$State" ({ cls := "ValleyMass$State", name := "free", desc := "()I" } : Jvm.MethodName) ({ cls := "ValleyMass$State", name := "free", desc := "()I" } : Jvm.MethodName)) ∈ lw_all := lw_g (lw_at lw_m2 73 rfl) rfl
theorem q413 : (Jvm.Cond.code ({ cls := "ValleyMass$State", name := "free", desc := "()I" } : Jvm.MethodName) prog_9_method_4_code (1 : Nat) (Option.some Jvm.ClassFile.FieldType.int)) ∈ lw_all := lw_g (lw_at lw_m2 74 rfl) rfl
theorem q414 : (Jvm.Cond.methodLink "ValleyMass$State" (45 : Nat) ({ cls := "ValleyMass$State", name := "those", desc := "(I)I" } : Jvm.MethodName)) ∈ lw_all := lw_g (lw_at lw_m2 75 rfl) rfl
theorem q415 : (Jvm.Cond.instanceMethod ({ cls := "ValleyMass$State", name := "those", desc := "(I)I" } : Jvm.MethodName)) ∈ lw_all := lw_g (lw_at lw_m2 76 rfl) rfl
theorem q416 : (Jvm.Cond.selects "ValleyMass$State" ({ cls := "ValleyMass$State", name := "those", desc := "(I)I" } : Jvm.MethodName) ({ cls := "ValleyMass$State", name := "those", desc := "(I)I" } : Jvm.MethodName)) ∈ lw_all := lw_g (lw_at lw_m2 77 rfl) rfl
theorem q417 : (Jvm.Cond.code ({ cls := "ValleyMass$State", name := "those", desc := "(I)I" } : Jvm.MethodName) prog_9_method_3_code (4 : Nat) (Option.some Jvm.ClassFile.FieldType.int)) ∈ lw_all := lw_g (lw_at lw_m2 78 rfl) rfl
theorem q418 : (Jvm.Cond.interfaceEntry "ValleyMass$State" (39 : Nat)) ∈ lw_tbl := lw_at lw_m2 79 rfl
theorem q419 : (Jvm.Cond.methodLink "ValleyMass$State" (39 : Nat) ({ cls := "java/util/List", name := "size", desc := "()I" } : Jvm.MethodName)) ∈ lw_all := lw_g (lw_at lw_m2 80 rfl) rfl
theorem q420 : (Jvm.Cond.methodLink "ValleyMass$State" (73 : Nat) ({ cls := "ValleyMass$Valley", name := "sung", desc := "(I)I" } : Jvm.MethodName)) ∈ lw_all := lw_g (lw_at lw_m2 81 rfl) rfl
theorem q480 : (Jvm.Cond.methodLink "ValleyMass$State" (107 : Nat) ({ cls := "ValleyMass$State", name := "holds", desc := "(I)Z" } : Jvm.MethodName)) ∈ lw_all := lw_g (lw_at lw_m2 141 rfl) rfl
theorem q481 : (Jvm.Cond.instanceMethod ({ cls := "ValleyMass$State", name := "holds", desc := "(I)Z" } : Jvm.MethodName)) ∈ lw_all := lw_g (lw_at lw_m2 142 rfl) rfl
theorem q482 : (Jvm.Cond.selects "ValleyMass$State" ({ cls := "ValleyMass$State", name := "holds", desc := "(I)Z" } : Jvm.MethodName) ({ cls := "ValleyMass$State", name := "holds", desc := "(I)Z" } : Jvm.MethodName)) ∈ lw_all := lw_g (lw_at lw_m2 143 rfl) rfl
theorem q483 : (Jvm.Cond.code ({ cls := "ValleyMass$State", name := "holds", desc := "(I)Z" } : Jvm.MethodName) prog_9_method_7_code (2 : Nat) (Option.some Jvm.ClassFile.FieldType.boolean)) ∈ lw_all := lw_g (lw_at lw_m2 144 rfl) rfl
theorem q484 : (Jvm.Cond.methodLink "ValleyMass$State" (65 : Nat) ({ cls := "ValleyMass$State", name := "freeOf", desc := "(I)I" } : Jvm.MethodName)) ∈ lw_all := lw_g (lw_at lw_m2 145 rfl) rfl
theorem q485 : (Jvm.Cond.instanceMethod ({ cls := "ValleyMass$State", name := "freeOf", desc := "(I)I" } : Jvm.MethodName)) ∈ lw_all := lw_g (lw_at lw_m2 146 rfl) rfl
theorem q486 : (Jvm.Cond.selects "ValleyMass$State" ({ cls := "ValleyMass$State", name := "freeOf", desc := "(I)I" } : Jvm.MethodName) ({ cls := "ValleyMass$State", name := "freeOf", desc := "(I)I" } : Jvm.MethodName)) ∈ lw_all := lw_g (lw_at lw_m2 147 rfl) rfl
theorem q487 : (Jvm.Cond.code ({ cls := "ValleyMass$State", name := "freeOf", desc := "(I)I" } : Jvm.MethodName) prog_9_method_5_code (2 : Nat) (Option.some Jvm.ClassFile.FieldType.int)) ∈ lw_all := lw_g (lw_at lw_m2 148 rfl) rfl
theorem q488 : (Jvm.Cond.methodLink "ValleyMass$State" (52 : Nat) ({ cls := "ValleyMass$Valley", name := "ofSide", desc := "(I)I" } : Jvm.MethodName)) ∈ lw_all := lw_g (lw_at lw_m2 149 rfl) rfl
theorem q492 : (Jvm.Cond.methodLink "ValleyMass$State" (68 : Nat) ({ cls := "java/lang/Integer", name := "bitCount", desc := "(I)I" } : Jvm.MethodName)) ∈ lw_all := lw_g (lw_at lw_m2 153 rfl) rfl
theorem q493 : (Jvm.Cond.interfaceEntry "ValleyMass$State" (75 : Nat)) ∈ lw_tbl := lw_at lw_m2 154 rfl
theorem q494 : (Jvm.Cond.methodLink "ValleyMass$State" (75 : Nat) ({ cls := "ValleyMass$Form", name := "of", desc := "([I)I" } : Jvm.MethodName)) ∈ lw_all := lw_g (lw_at lw_m2 155 rfl) rfl
theorem q560 : (Jvm.Cond.methodLink "ValleyMass$State" (111 : Nat) ({ cls := "ValleyMass$State", name := "aims", desc := "(I)I" } : Jvm.MethodName)) ∈ lw_all := lw_g (lw_at lw_m2 221 rfl) rfl
theorem q561 : (Jvm.Cond.instanceMethod ({ cls := "ValleyMass$State", name := "aims", desc := "(I)I" } : Jvm.MethodName)) ∈ lw_all := lw_g (lw_at lw_m2 222 rfl) rfl
theorem q562 : (Jvm.Cond.selects "ValleyMass$State" ({ cls := "ValleyMass$State", name := "aims", desc := "(I)I" } : Jvm.MethodName) ({ cls := "ValleyMass$State", name := "aims", desc := "(I)I" } : Jvm.MethodName)) ∈ lw_all := lw_g (lw_at lw_m2 223 rfl) rfl
theorem q563 : (Jvm.Cond.code ({ cls := "ValleyMass$State", name := "aims", desc := "(I)I" } : Jvm.MethodName) prog_9_method_9_code (6 : Nat) (Option.some Jvm.ClassFile.FieldType.int)) ∈ lw_all := lw_g (lw_at lw_m2 224 rfl) rfl
theorem q564 : (Jvm.Cond.interfaceEntry "ValleyMass$State" (81 : Nat)) ∈ lw_tbl := lw_at lw_m2 225 rfl
theorem q565 : (Jvm.Cond.methodLink "ValleyMass$State" (81 : Nat) ({ cls := "java/util/List", name := "get", desc := "(I)Ljava/lang/Object;" } : Jvm.MethodName)) ∈ lw_all := lw_g (lw_at lw_m2 226 rfl) rfl
theorem q566 : (Jvm.Cond.classLink "ValleyMass$State" (85 : Nat) "ValleyMass$Singer") ∈ lw_all := lw_g (lw_at lw_m2 227 rfl) rfl
theorem q567 : (Jvm.Cond.methodLink "ValleyMass$State" (99 : Nat) ({ cls := "ValleyMass$State", name := "worth", desc := "(II)I" } : Jvm.MethodName)) ∈ lw_all := lw_g (lw_at lw_m2 228 rfl) rfl
theorem q568 : (Jvm.Cond.privateMethod ({ cls := "ValleyMass$State", name := "worth", desc := "(II)I" } : Jvm.MethodName)) ∈ lw_tbl := lw_at lw_m2 229 rfl
theorem q569 : (Jvm.Cond.instanceMethod ({ cls := "ValleyMass$State", name := "worth", desc := "(II)I" } : Jvm.MethodName)) ∈ lw_all := lw_g (lw_at lw_m2 230 rfl) rfl
theorem q570 : (Jvm.Cond.code ({ cls := "ValleyMass$State", name := "worth", desc := "(II)I" } : Jvm.MethodName) prog_9_method_8_code (6 : Nat) (Option.some Jvm.ClassFile.FieldType.int)) ∈ lw_all := lw_g (lw_at lw_m2 231 rfl) rfl
theorem q981 : (Jvm.Cond.fieldLinkNest "ValleyMass$State" (96 : Nat) "ValleyMass$Singer" "side" "I" "ValleyMass") ∈ lw_tbl := lw_at lw_m4 162 rfl
theorem q985 : (Jvm.Cond.fieldLinkNest "ValleyMass$State" (93 : Nat) "ValleyMass$Singer" "part" "I" "ValleyMass") ∈ lw_tbl := lw_at lw_m4 166 rfl
theorem q992 : (Jvm.Cond.fieldLinkNest "ValleyMass$State" (90 : Nat) "ValleyMass$Singer" "skill" "I" "ValleyMass") ∈ lw_tbl := lw_at lw_m4 173 rfl
theorem q2224 : (Jvm.Cond.castable "ValleyMass$State" "java/lang/Object") ∈ lw_tbl := lw_at lw_m9 205 rfl
theorem in_X3 : ∀ w ∈ wsX30, w ∈ lw_all := lw_in wsX30 [218, 220, 222, 224] (by decide +kernel) (by decide +kernel)

/-! ValleyMass$Reader -/
def RX5 : String := "ValleyMass$Reader"
def TX5 : u_T := fun k => match k with
  | 0 => ("ValleyMass$Reader", "size", "I", true)
  | 1 => ("ValleyMass$Reader", "made", "LValleyMass$Valley;", true)
  | 2 => ("ValleyMass$Reader", "sides", "[Ljava/lang/String;", true)
  | 3 => ("ValleyMass$Reader", "parts", "[Ljava/lang/String;", true)
  | 4 => ("ValleyMass$Reader", "ofTruce", "[Ljava/lang/String;", true)
  | 5 => ("ValleyMass$Reader", "ofAim", "[Ljava/lang/String;", true)
  | 6 => ("ValleyMass$Reader", "names", "[Ljava/lang/String;", false)
  | 7 => ("ValleyMass$Reader", "at", "I", false)
  | 8 => ("ValleyMass$Reader", "token", "I", false)
  | 9 => ("ValleyMass$Reader", "begins", "I", false)
  | 10 => ("ValleyMass$Reader", "ends", "I", false)
  | 11 => ("ValleyMass$Reader", "number", "I", false)
  | 12 => ("ValleyMass$Reader", "isEvery", "Z", false)
  | _ => ("ValleyMass$Reader", "this$0", "LValleyMass;", true)
def tyX5 : Nat → FieldType := fun k => match k with
  | 0 => .int
  | 1 => .object "ValleyMass$Valley"
  | 2 => .array (.object "java/lang/String")
  | 3 => .array (.object "java/lang/String")
  | 4 => .array (.object "java/lang/String")
  | 5 => .array (.object "java/lang/String")
  | 6 => .array (.object "java/lang/String")
  | 7 => .int
  | 8 => .int
  | 9 => .int
  | 10 => .int
  | 11 => .int
  | 12 => .boolean
  | _ => .object "ValleyMass"
abbrev wsX50 : List Cond := u_ws RX5 TX5 14
theorem nmX5 : ∀ a, a < 14 → ∀ b, b < 14 → a ≠ b → (TX5 a).2.1 ≠ (TX5 b).2.1 := by decide +kernel
theorem tyX5_ok : ∀ k, k < 14 → parseFieldDescriptor (TX5 k).2.2.1 = some (tyX5 k) := by decide +kernel
abbrev cX5_init : ByteArray := prog_6_method_1_code
def yX5_init : MethodName := ⟨RX5, "<init>", "(LValleyMass;I)V"⟩
def dkwX5_init_6 : List UInt8 := [180, 0, 57, 181, 0, 71, 42, 28, 181, 0, 74, 177]
abbrev dktX5_init_6 : List UInt8 := dkwX5_init_6 ++ []
def dkwX5_init_5 : List UInt8 := [3, 18, 60, 83, 89, 4, 18, 62, 83, 89, 5, 18, 64, 83, 89, 6, 18, 66, 83, 181, 0, 68, 42, 42]
abbrev dktX5_init_5 : List UInt8 := dkwX5_init_5 ++ dktX5_init_6
def dkwX5_init_4 : List UInt8 := [89, 6, 18, 51, 83, 89, 7, 18, 53, 83, 89, 8, 18, 55, 83, 181, 0, 57, 42, 7, 189, 0, 22, 89]
abbrev dktX5_init_4 : List UInt8 := dkwX5_init_4 ++ dktX5_init_5
def dkwX5_init_3 : List UInt8 := [181, 0, 42, 42, 16, 6, 189, 0, 22, 89, 3, 18, 45, 83, 89, 4, 18, 47, 83, 89, 5, 18, 49, 83]
abbrev dktX5_init_3 : List UInt8 := dkwX5_init_3 ++ dktX5_init_4
def dkwX5_init_2 : List UInt8 := [189, 0, 22, 89, 3, 18, 34, 83, 89, 4, 18, 36, 83, 89, 5, 18, 38, 83, 89, 6, 18, 40, 83]
abbrev dktX5_init_2 : List UInt8 := dkwX5_init_2 ++ dktX5_init_3
def dkwX5_init_1 : List UInt8 := [189, 0, 22, 89, 3, 18, 24, 83, 89, 4, 18, 26, 83, 89, 5, 18, 28, 83, 181, 0, 30, 42, 7]
abbrev dktX5_init_1 : List UInt8 := dkwX5_init_1 ++ dktX5_init_2
def dkwX5_init_0 : List UInt8 := [42, 43, 181, 0, 3, 42, 183, 0, 9, 42, 187, 0, 15, 89, 183, 0, 17, 181, 0, 18, 42, 6]
abbrev dktX5_init_0 : List UInt8 := dkwX5_init_0 ++ dktX5_init_1
theorem dksX5_init_0 : cX5_init.data.toList.drop 0 = dktX5_init_0 := by decide +kernel
theorem dksX5_init_1 : cX5_init.data.toList.drop 22 = dktX5_init_1 := dk_seg dksX5_init_0 22 rfl rfl
theorem dksX5_init_2 : cX5_init.data.toList.drop 45 = dktX5_init_2 := dk_seg dksX5_init_1 23 rfl rfl
theorem dksX5_init_3 : cX5_init.data.toList.drop 68 = dktX5_init_3 := dk_seg dksX5_init_2 23 rfl rfl
theorem dksX5_init_4 : cX5_init.data.toList.drop 92 = dktX5_init_4 := dk_seg dksX5_init_3 24 rfl rfl
theorem dksX5_init_5 : cX5_init.data.toList.drop 116 = dktX5_init_5 := dk_seg dksX5_init_4 24 rfl rfl
theorem dksX5_init_6 : cX5_init.data.toList.drop 140 = dktX5_init_6 := dk_seg dksX5_init_5 24 rfl rfl
theorem dX5_init_0 : decode cX5_init 0 = .ok (.aload_n 0, 1) := dk_42 (dk_at dksX5_init_0 0 rfl rfl)
theorem dX5_init_1 : decode cX5_init 1 = .ok (.aload_n 1, 1) := dk_43 (dk_at dksX5_init_0 1 rfl rfl)
theorem dX5_init_2 : decode cX5_init 2 = .ok (.putfield 3, 3) := dk_181 0 3 (dk_at dksX5_init_0 2 rfl rfl)
theorem dX5_init_5 : decode cX5_init 5 = .ok (.aload_n 0, 1) := dk_42 (dk_at dksX5_init_0 5 rfl rfl)
theorem dX5_init_6 : decode cX5_init 6 = .ok (.invokespecial 9, 3) := dk_183 0 9 (dk_at dksX5_init_0 6 rfl rfl)
theorem dX5_init_9 : decode cX5_init 9 = .ok (.aload_n 0, 1) := dk_42 (dk_at dksX5_init_0 9 rfl rfl)
theorem dX5_init_10 : decode cX5_init 10 = .ok (.new 15, 3) := dk_187 0 15 (dk_at dksX5_init_0 10 rfl rfl)
theorem dX5_init_13 : decode cX5_init 13 = .ok (.dup, 1) := dk_89 (dk_at dksX5_init_0 13 rfl rfl)
theorem dX5_init_14 : decode cX5_init 14 = .ok (.invokespecial 17, 3) := dk_183 0 17 (dk_at dksX5_init_0 14 rfl rfl)
theorem dX5_init_17 : decode cX5_init 17 = .ok (.putfield 18, 3) := dk_181 0 18 (dk_at dksX5_init_0 17 rfl rfl)
theorem dX5_init_20 : decode cX5_init 20 = .ok (.aload_n 0, 1) := dk_42 (dk_at dksX5_init_0 20 rfl rfl)
theorem dX5_init_21 : decode cX5_init 21 = .ok (.iconst 3, 1) := dk_6 (dk_at dksX5_init_0 21 rfl rfl)
theorem dX5_init_22 : decode cX5_init 22 = .ok (.anewarray 22, 3) := dk_189 0 22 (dk_at dksX5_init_1 0 rfl rfl)
theorem dX5_init_25 : decode cX5_init 25 = .ok (.dup, 1) := dk_89 (dk_at dksX5_init_1 3 rfl rfl)
theorem dX5_init_26 : decode cX5_init 26 = .ok (.iconst 0, 1) := dk_3 (dk_at dksX5_init_1 4 rfl rfl)
theorem dX5_init_27 : decode cX5_init 27 = .ok (.ldc 24, 2) := dk_18 24 (dk_at dksX5_init_1 5 rfl rfl)
theorem dX5_init_29 : decode cX5_init 29 = .ok (.aastore, 1) := dk_83 (dk_at dksX5_init_1 7 rfl rfl)
theorem dX5_init_30 : decode cX5_init 30 = .ok (.dup, 1) := dk_89 (dk_at dksX5_init_1 8 rfl rfl)
theorem dX5_init_31 : decode cX5_init 31 = .ok (.iconst 1, 1) := dk_4 (dk_at dksX5_init_1 9 rfl rfl)
theorem dX5_init_32 : decode cX5_init 32 = .ok (.ldc 26, 2) := dk_18 26 (dk_at dksX5_init_1 10 rfl rfl)
theorem dX5_init_34 : decode cX5_init 34 = .ok (.aastore, 1) := dk_83 (dk_at dksX5_init_1 12 rfl rfl)
theorem dX5_init_35 : decode cX5_init 35 = .ok (.dup, 1) := dk_89 (dk_at dksX5_init_1 13 rfl rfl)
theorem dX5_init_36 : decode cX5_init 36 = .ok (.iconst 2, 1) := dk_5 (dk_at dksX5_init_1 14 rfl rfl)
theorem dX5_init_37 : decode cX5_init 37 = .ok (.ldc 28, 2) := dk_18 28 (dk_at dksX5_init_1 15 rfl rfl)
theorem dX5_init_39 : decode cX5_init 39 = .ok (.aastore, 1) := dk_83 (dk_at dksX5_init_1 17 rfl rfl)
theorem dX5_init_40 : decode cX5_init 40 = .ok (.putfield 30, 3) := dk_181 0 30 (dk_at dksX5_init_1 18 rfl rfl)
theorem dX5_init_43 : decode cX5_init 43 = .ok (.aload_n 0, 1) := dk_42 (dk_at dksX5_init_1 21 rfl rfl)
theorem dX5_init_44 : decode cX5_init 44 = .ok (.iconst 4, 1) := dk_7 (dk_at dksX5_init_1 22 rfl rfl)
theorem dX5_init_45 : decode cX5_init 45 = .ok (.anewarray 22, 3) := dk_189 0 22 (dk_at dksX5_init_2 0 rfl rfl)
theorem dX5_init_48 : decode cX5_init 48 = .ok (.dup, 1) := dk_89 (dk_at dksX5_init_2 3 rfl rfl)
theorem dX5_init_49 : decode cX5_init 49 = .ok (.iconst 0, 1) := dk_3 (dk_at dksX5_init_2 4 rfl rfl)
theorem dX5_init_50 : decode cX5_init 50 = .ok (.ldc 34, 2) := dk_18 34 (dk_at dksX5_init_2 5 rfl rfl)
theorem dX5_init_52 : decode cX5_init 52 = .ok (.aastore, 1) := dk_83 (dk_at dksX5_init_2 7 rfl rfl)
theorem dX5_init_53 : decode cX5_init 53 = .ok (.dup, 1) := dk_89 (dk_at dksX5_init_2 8 rfl rfl)
theorem dX5_init_54 : decode cX5_init 54 = .ok (.iconst 1, 1) := dk_4 (dk_at dksX5_init_2 9 rfl rfl)
theorem dX5_init_55 : decode cX5_init 55 = .ok (.ldc 36, 2) := dk_18 36 (dk_at dksX5_init_2 10 rfl rfl)
theorem dX5_init_57 : decode cX5_init 57 = .ok (.aastore, 1) := dk_83 (dk_at dksX5_init_2 12 rfl rfl)
theorem dX5_init_58 : decode cX5_init 58 = .ok (.dup, 1) := dk_89 (dk_at dksX5_init_2 13 rfl rfl)
theorem dX5_init_59 : decode cX5_init 59 = .ok (.iconst 2, 1) := dk_5 (dk_at dksX5_init_2 14 rfl rfl)
theorem dX5_init_60 : decode cX5_init 60 = .ok (.ldc 38, 2) := dk_18 38 (dk_at dksX5_init_2 15 rfl rfl)
theorem dX5_init_62 : decode cX5_init 62 = .ok (.aastore, 1) := dk_83 (dk_at dksX5_init_2 17 rfl rfl)
theorem dX5_init_63 : decode cX5_init 63 = .ok (.dup, 1) := dk_89 (dk_at dksX5_init_2 18 rfl rfl)
theorem dX5_init_64 : decode cX5_init 64 = .ok (.iconst 3, 1) := dk_6 (dk_at dksX5_init_2 19 rfl rfl)
theorem dX5_init_65 : decode cX5_init 65 = .ok (.ldc 40, 2) := dk_18 40 (dk_at dksX5_init_2 20 rfl rfl)
theorem dX5_init_67 : decode cX5_init 67 = .ok (.aastore, 1) := dk_83 (dk_at dksX5_init_2 22 rfl rfl)
theorem dX5_init_68 : decode cX5_init 68 = .ok (.putfield 42, 3) := dk_181 0 42 (dk_at dksX5_init_3 0 rfl rfl)
theorem dX5_init_71 : decode cX5_init 71 = .ok (.aload_n 0, 1) := dk_42 (dk_at dksX5_init_3 3 rfl rfl)
theorem dX5_init_72 : decode cX5_init 72 = .ok (.bipush 6, 2) := dk_16 6 (dk_at dksX5_init_3 4 rfl rfl)
theorem dX5_init_74 : decode cX5_init 74 = .ok (.anewarray 22, 3) := dk_189 0 22 (dk_at dksX5_init_3 6 rfl rfl)
theorem dX5_init_77 : decode cX5_init 77 = .ok (.dup, 1) := dk_89 (dk_at dksX5_init_3 9 rfl rfl)
theorem dX5_init_78 : decode cX5_init 78 = .ok (.iconst 0, 1) := dk_3 (dk_at dksX5_init_3 10 rfl rfl)
theorem dX5_init_79 : decode cX5_init 79 = .ok (.ldc 45, 2) := dk_18 45 (dk_at dksX5_init_3 11 rfl rfl)
theorem dX5_init_81 : decode cX5_init 81 = .ok (.aastore, 1) := dk_83 (dk_at dksX5_init_3 13 rfl rfl)
theorem dX5_init_82 : decode cX5_init 82 = .ok (.dup, 1) := dk_89 (dk_at dksX5_init_3 14 rfl rfl)
theorem dX5_init_83 : decode cX5_init 83 = .ok (.iconst 1, 1) := dk_4 (dk_at dksX5_init_3 15 rfl rfl)
theorem dX5_init_84 : decode cX5_init 84 = .ok (.ldc 47, 2) := dk_18 47 (dk_at dksX5_init_3 16 rfl rfl)
theorem dX5_init_86 : decode cX5_init 86 = .ok (.aastore, 1) := dk_83 (dk_at dksX5_init_3 18 rfl rfl)
theorem dX5_init_87 : decode cX5_init 87 = .ok (.dup, 1) := dk_89 (dk_at dksX5_init_3 19 rfl rfl)
theorem dX5_init_88 : decode cX5_init 88 = .ok (.iconst 2, 1) := dk_5 (dk_at dksX5_init_3 20 rfl rfl)
theorem dX5_init_89 : decode cX5_init 89 = .ok (.ldc 49, 2) := dk_18 49 (dk_at dksX5_init_3 21 rfl rfl)
theorem dX5_init_91 : decode cX5_init 91 = .ok (.aastore, 1) := dk_83 (dk_at dksX5_init_3 23 rfl rfl)
theorem dX5_init_92 : decode cX5_init 92 = .ok (.dup, 1) := dk_89 (dk_at dksX5_init_4 0 rfl rfl)
theorem dX5_init_93 : decode cX5_init 93 = .ok (.iconst 3, 1) := dk_6 (dk_at dksX5_init_4 1 rfl rfl)
theorem dX5_init_94 : decode cX5_init 94 = .ok (.ldc 51, 2) := dk_18 51 (dk_at dksX5_init_4 2 rfl rfl)
theorem dX5_init_96 : decode cX5_init 96 = .ok (.aastore, 1) := dk_83 (dk_at dksX5_init_4 4 rfl rfl)
theorem dX5_init_97 : decode cX5_init 97 = .ok (.dup, 1) := dk_89 (dk_at dksX5_init_4 5 rfl rfl)
theorem dX5_init_98 : decode cX5_init 98 = .ok (.iconst 4, 1) := dk_7 (dk_at dksX5_init_4 6 rfl rfl)
theorem dX5_init_99 : decode cX5_init 99 = .ok (.ldc 53, 2) := dk_18 53 (dk_at dksX5_init_4 7 rfl rfl)
theorem dX5_init_101 : decode cX5_init 101 = .ok (.aastore, 1) := dk_83 (dk_at dksX5_init_4 9 rfl rfl)
theorem dX5_init_102 : decode cX5_init 102 = .ok (.dup, 1) := dk_89 (dk_at dksX5_init_4 10 rfl rfl)
theorem dX5_init_103 : decode cX5_init 103 = .ok (.iconst 5, 1) := dk_8 (dk_at dksX5_init_4 11 rfl rfl)
theorem dX5_init_104 : decode cX5_init 104 = .ok (.ldc 55, 2) := dk_18 55 (dk_at dksX5_init_4 12 rfl rfl)
theorem dX5_init_106 : decode cX5_init 106 = .ok (.aastore, 1) := dk_83 (dk_at dksX5_init_4 14 rfl rfl)
theorem dX5_init_107 : decode cX5_init 107 = .ok (.putfield 57, 3) := dk_181 0 57 (dk_at dksX5_init_4 15 rfl rfl)
theorem dX5_init_110 : decode cX5_init 110 = .ok (.aload_n 0, 1) := dk_42 (dk_at dksX5_init_4 18 rfl rfl)
theorem dX5_init_111 : decode cX5_init 111 = .ok (.iconst 4, 1) := dk_7 (dk_at dksX5_init_4 19 rfl rfl)
theorem dX5_init_112 : decode cX5_init 112 = .ok (.anewarray 22, 3) := dk_189 0 22 (dk_at dksX5_init_4 20 rfl rfl)
theorem dX5_init_115 : decode cX5_init 115 = .ok (.dup, 1) := dk_89 (dk_at dksX5_init_4 23 rfl rfl)
theorem dX5_init_116 : decode cX5_init 116 = .ok (.iconst 0, 1) := dk_3 (dk_at dksX5_init_5 0 rfl rfl)
theorem dX5_init_117 : decode cX5_init 117 = .ok (.ldc 60, 2) := dk_18 60 (dk_at dksX5_init_5 1 rfl rfl)
theorem dX5_init_119 : decode cX5_init 119 = .ok (.aastore, 1) := dk_83 (dk_at dksX5_init_5 3 rfl rfl)
theorem dX5_init_120 : decode cX5_init 120 = .ok (.dup, 1) := dk_89 (dk_at dksX5_init_5 4 rfl rfl)
theorem dX5_init_121 : decode cX5_init 121 = .ok (.iconst 1, 1) := dk_4 (dk_at dksX5_init_5 5 rfl rfl)
theorem dX5_init_122 : decode cX5_init 122 = .ok (.ldc 62, 2) := dk_18 62 (dk_at dksX5_init_5 6 rfl rfl)
theorem dX5_init_124 : decode cX5_init 124 = .ok (.aastore, 1) := dk_83 (dk_at dksX5_init_5 8 rfl rfl)
theorem dX5_init_125 : decode cX5_init 125 = .ok (.dup, 1) := dk_89 (dk_at dksX5_init_5 9 rfl rfl)
theorem dX5_init_126 : decode cX5_init 126 = .ok (.iconst 2, 1) := dk_5 (dk_at dksX5_init_5 10 rfl rfl)
theorem dX5_init_127 : decode cX5_init 127 = .ok (.ldc 64, 2) := dk_18 64 (dk_at dksX5_init_5 11 rfl rfl)
theorem dX5_init_129 : decode cX5_init 129 = .ok (.aastore, 1) := dk_83 (dk_at dksX5_init_5 13 rfl rfl)
theorem dX5_init_130 : decode cX5_init 130 = .ok (.dup, 1) := dk_89 (dk_at dksX5_init_5 14 rfl rfl)
theorem dX5_init_131 : decode cX5_init 131 = .ok (.iconst 3, 1) := dk_6 (dk_at dksX5_init_5 15 rfl rfl)
theorem dX5_init_132 : decode cX5_init 132 = .ok (.ldc 66, 2) := dk_18 66 (dk_at dksX5_init_5 16 rfl rfl)
theorem dX5_init_134 : decode cX5_init 134 = .ok (.aastore, 1) := dk_83 (dk_at dksX5_init_5 18 rfl rfl)
theorem dX5_init_135 : decode cX5_init 135 = .ok (.putfield 68, 3) := dk_181 0 68 (dk_at dksX5_init_5 19 rfl rfl)
theorem dX5_init_138 : decode cX5_init 138 = .ok (.aload_n 0, 1) := dk_42 (dk_at dksX5_init_5 22 rfl rfl)
theorem dX5_init_139 : decode cX5_init 139 = .ok (.aload_n 0, 1) := dk_42 (dk_at dksX5_init_5 23 rfl rfl)
theorem dX5_init_140 : decode cX5_init 140 = .ok (.getfield 57, 3) := dk_180 0 57 (dk_at dksX5_init_6 0 rfl rfl)
theorem dX5_init_143 : decode cX5_init 143 = .ok (.putfield 71, 3) := dk_181 0 71 (dk_at dksX5_init_6 3 rfl rfl)
theorem dX5_init_146 : decode cX5_init 146 = .ok (.aload_n 0, 1) := dk_42 (dk_at dksX5_init_6 6 rfl rfl)
theorem dX5_init_147 : decode cX5_init 147 = .ok (.iload_n 2, 1) := dk_28 (dk_at dksX5_init_6 7 rfl rfl)
theorem dX5_init_148 : decode cX5_init 148 = .ok (.putfield 74, 3) := dk_181 0 74 (dk_at dksX5_init_6 8 rfl rfl)
theorem dX5_init_151 : decode cX5_init 151 = .ok (.return_, 1) := dk_177 (dk_at dksX5_init_6 11 rfl rfl)
abbrev cX5_read : ByteArray := prog_6_method_24_code
def yX5_read : MethodName := ⟨RX5, "read", "()LValleyMass$Valley;"⟩
def dkwX5_read_0 : List UInt8 := [42, 182, 0, 136, 42, 180, 0, 96, 153, 0, 10, 42, 182, 1, 24, 167, 255, 245, 42, 180, 0, 18, 176]
abbrev dktX5_read_0 : List UInt8 := dkwX5_read_0 ++ []
theorem dksX5_read_0 : cX5_read.data.toList.drop 0 = dktX5_read_0 := by decide +kernel
theorem dX5_read_0 : decode cX5_read 0 = .ok (.aload_n 0, 1) := dk_42 (dk_at dksX5_read_0 0 rfl rfl)
theorem dX5_read_1 : decode cX5_read 1 = .ok (.invokevirtual 136, 3) := dk_182 0 136 (dk_at dksX5_read_0 1 rfl rfl)
theorem dX5_read_4 : decode cX5_read 4 = .ok (.aload_n 0, 1) := dk_42 (dk_at dksX5_read_0 4 rfl rfl)
theorem dX5_read_5 : decode cX5_read 5 = .ok (.getfield 96, 3) := dk_180 0 96 (dk_at dksX5_read_0 5 rfl rfl)
theorem dX5_read_8 : decode cX5_read 8 = .ok (.ifCond .eq 10, 3) := dk_153 0 10 (dk_at dksX5_read_0 8 rfl rfl)
theorem dX5_read_11 : decode cX5_read 11 = .ok (.aload_n 0, 1) := dk_42 (dk_at dksX5_read_0 11 rfl rfl)
theorem dX5_read_12 : decode cX5_read 12 = .ok (.invokevirtual 280, 3) := dk_182 1 24 (dk_at dksX5_read_0 12 rfl rfl)
theorem dX5_read_15 : decode cX5_read 15 = .ok (.goto (-11), 3) := dk_167 255 245 (dk_at dksX5_read_0 15 rfl rfl)
theorem dX5_read_18 : decode cX5_read 18 = .ok (.aload_n 0, 1) := dk_42 (dk_at dksX5_read_0 18 rfl rfl)
theorem dX5_read_19 : decode cX5_read 19 = .ok (.getfield 18, 3) := dk_180 0 18 (dk_at dksX5_read_0 19 rfl rfl)
theorem dX5_read_22 : decode cX5_read 22 = .ok (.areturn, 1) := dk_176 (dk_at dksX5_read_0 22 rfl rfl)
abbrev cX5_next : ByteArray := prog_6_method_5_code
def yX5_next : MethodName := ⟨RX5, "next", "()V"⟩
def dkwX5_next_8 : List UInt8 := [180, 0, 78, 181, 0, 122, 177]
abbrev dktX5_next_8 : List UInt8 := dkwX5_next_8 ++ []
def dkwX5_next_7 : List UInt8 := [155, 0, 7, 6, 167, 0, 4, 7, 181, 0, 96, 42, 89, 180, 0, 78, 4, 96, 181, 0, 78, 42, 42]
abbrev dktX5_next_7 : List UInt8 := dkwX5_next_7 ++ dktX5_next_8
def dkwX5_next_6 : List UInt8 := [181, 0, 78, 167, 255, 215, 42, 5, 181, 0, 96, 167, 0, 34, 42, 18, 116, 42, 182, 0, 85, 182, 0, 118]
abbrev dktX5_next_6 : List UInt8 := dkwX5_next_6 ++ dktX5_next_7
def dkwX5_next_5 : List UInt8 := [104, 42, 182, 0, 85, 96, 16, 48, 100, 184, 0, 110, 181, 0, 106, 42, 89, 180, 0, 78, 4, 96]
abbrev dktX5_next_5 : List UInt8 := dkwX5_next_5 ++ dktX5_next_6
def dkwX5_next_4 : List UInt8 := [153, 0, 60, 42, 3, 181, 0, 106, 42, 182, 0, 103, 153, 0, 40, 42, 18, 109, 16, 10, 42, 180, 0, 106]
abbrev dktX5_next_4 : List UInt8 := dkwX5_next_4 ++ dktX5_next_5
def dkwX5_next_3 : List UInt8 := [180, 0, 78, 4, 96, 181, 0, 78, 167, 255, 239, 42, 4, 181, 0, 96, 167, 0, 98, 42, 182, 0, 103]
abbrev dktX5_next_3 : List UInt8 := dkwX5_next_3 ++ dktX5_next_4
def dkwX5_next_2 : List UInt8 := [3, 181, 0, 96, 167, 0, 133, 42, 182, 0, 99, 153, 0, 31, 42, 182, 0, 99, 153, 0, 16, 42, 89]
abbrev dktX5_next_2 : List UInt8 := dkwX5_next_2 ++ dktX5_next_3
def dkwX5_next_1 : List UInt8 := [96, 181, 0, 78, 167, 255, 228, 42, 42, 180, 0, 78, 181, 0, 93, 42, 182, 0, 85, 2, 160, 0, 11, 42]
abbrev dktX5_next_1 : List UInt8 := dkwX5_next_1 ++ dktX5_next_2
def dkwX5_next_0 : List UInt8 := [42, 182, 0, 85, 16, 32, 159, 0, 12, 42, 182, 0, 85, 16, 10, 160, 0, 16, 42, 89, 180, 0, 78, 4]
abbrev dktX5_next_0 : List UInt8 := dkwX5_next_0 ++ dktX5_next_1
theorem dksX5_next_0 : cX5_next.data.toList.drop 0 = dktX5_next_0 := by decide +kernel
theorem dksX5_next_1 : cX5_next.data.toList.drop 24 = dktX5_next_1 := dk_seg dksX5_next_0 24 rfl rfl
theorem dksX5_next_2 : cX5_next.data.toList.drop 48 = dktX5_next_2 := dk_seg dksX5_next_1 24 rfl rfl
theorem dksX5_next_3 : cX5_next.data.toList.drop 71 = dktX5_next_3 := dk_seg dksX5_next_2 23 rfl rfl
theorem dksX5_next_4 : cX5_next.data.toList.drop 94 = dktX5_next_4 := dk_seg dksX5_next_3 23 rfl rfl
theorem dksX5_next_5 : cX5_next.data.toList.drop 118 = dktX5_next_5 := dk_seg dksX5_next_4 24 rfl rfl
theorem dksX5_next_6 : cX5_next.data.toList.drop 140 = dktX5_next_6 := dk_seg dksX5_next_5 22 rfl rfl
theorem dksX5_next_7 : cX5_next.data.toList.drop 164 = dktX5_next_7 := dk_seg dksX5_next_6 24 rfl rfl
theorem dksX5_next_8 : cX5_next.data.toList.drop 187 = dktX5_next_8 := dk_seg dksX5_next_7 23 rfl rfl
theorem dX5_next_0 : decode cX5_next 0 = .ok (.aload_n 0, 1) := dk_42 (dk_at dksX5_next_0 0 rfl rfl)
theorem dX5_next_1 : decode cX5_next 1 = .ok (.invokevirtual 85, 3) := dk_182 0 85 (dk_at dksX5_next_0 1 rfl rfl)
theorem dX5_next_4 : decode cX5_next 4 = .ok (.bipush 32, 2) := dk_16 32 (dk_at dksX5_next_0 4 rfl rfl)
theorem dX5_next_6 : decode cX5_next 6 = .ok (.if_icmp .eq 12, 3) := dk_159 0 12 (dk_at dksX5_next_0 6 rfl rfl)
theorem dX5_next_9 : decode cX5_next 9 = .ok (.aload_n 0, 1) := dk_42 (dk_at dksX5_next_0 9 rfl rfl)
theorem dX5_next_10 : decode cX5_next 10 = .ok (.invokevirtual 85, 3) := dk_182 0 85 (dk_at dksX5_next_0 10 rfl rfl)
theorem dX5_next_13 : decode cX5_next 13 = .ok (.bipush 10, 2) := dk_16 10 (dk_at dksX5_next_0 13 rfl rfl)
theorem dX5_next_15 : decode cX5_next 15 = .ok (.if_icmp .ne 16, 3) := dk_160 0 16 (dk_at dksX5_next_0 15 rfl rfl)
theorem dX5_next_18 : decode cX5_next 18 = .ok (.aload_n 0, 1) := dk_42 (dk_at dksX5_next_0 18 rfl rfl)
theorem dX5_next_19 : decode cX5_next 19 = .ok (.dup, 1) := dk_89 (dk_at dksX5_next_0 19 rfl rfl)
theorem dX5_next_20 : decode cX5_next 20 = .ok (.getfield 78, 3) := dk_180 0 78 (dk_at dksX5_next_0 20 rfl rfl)
theorem dX5_next_23 : decode cX5_next 23 = .ok (.iconst 1, 1) := dk_4 (dk_at dksX5_next_0 23 rfl rfl)
theorem dX5_next_24 : decode cX5_next 24 = .ok (.iadd, 1) := dk_96 (dk_at dksX5_next_1 0 rfl rfl)
theorem dX5_next_25 : decode cX5_next 25 = .ok (.putfield 78, 3) := dk_181 0 78 (dk_at dksX5_next_1 1 rfl rfl)
theorem dX5_next_28 : decode cX5_next 28 = .ok (.goto (-28), 3) := dk_167 255 228 (dk_at dksX5_next_1 4 rfl rfl)
theorem dX5_next_31 : decode cX5_next 31 = .ok (.aload_n 0, 1) := dk_42 (dk_at dksX5_next_1 7 rfl rfl)
theorem dX5_next_32 : decode cX5_next 32 = .ok (.aload_n 0, 1) := dk_42 (dk_at dksX5_next_1 8 rfl rfl)
theorem dX5_next_33 : decode cX5_next 33 = .ok (.getfield 78, 3) := dk_180 0 78 (dk_at dksX5_next_1 9 rfl rfl)
theorem dX5_next_36 : decode cX5_next 36 = .ok (.putfield 93, 3) := dk_181 0 93 (dk_at dksX5_next_1 12 rfl rfl)
theorem dX5_next_39 : decode cX5_next 39 = .ok (.aload_n 0, 1) := dk_42 (dk_at dksX5_next_1 15 rfl rfl)
theorem dX5_next_40 : decode cX5_next 40 = .ok (.invokevirtual 85, 3) := dk_182 0 85 (dk_at dksX5_next_1 16 rfl rfl)
theorem dX5_next_43 : decode cX5_next 43 = .ok (.iconst (-1), 1) := dk_2 (dk_at dksX5_next_1 19 rfl rfl)
theorem dX5_next_44 : decode cX5_next 44 = .ok (.if_icmp .ne 11, 3) := dk_160 0 11 (dk_at dksX5_next_1 20 rfl rfl)
theorem dX5_next_47 : decode cX5_next 47 = .ok (.aload_n 0, 1) := dk_42 (dk_at dksX5_next_1 23 rfl rfl)
theorem dX5_next_48 : decode cX5_next 48 = .ok (.iconst 0, 1) := dk_3 (dk_at dksX5_next_2 0 rfl rfl)
theorem dX5_next_49 : decode cX5_next 49 = .ok (.putfield 96, 3) := dk_181 0 96 (dk_at dksX5_next_2 1 rfl rfl)
theorem dX5_next_52 : decode cX5_next 52 = .ok (.goto 133, 3) := dk_167 0 133 (dk_at dksX5_next_2 4 rfl rfl)
theorem dX5_next_55 : decode cX5_next 55 = .ok (.aload_n 0, 1) := dk_42 (dk_at dksX5_next_2 7 rfl rfl)
theorem dX5_next_56 : decode cX5_next 56 = .ok (.invokevirtual 99, 3) := dk_182 0 99 (dk_at dksX5_next_2 8 rfl rfl)
theorem dX5_next_59 : decode cX5_next 59 = .ok (.ifCond .eq 31, 3) := dk_153 0 31 (dk_at dksX5_next_2 11 rfl rfl)
theorem dX5_next_62 : decode cX5_next 62 = .ok (.aload_n 0, 1) := dk_42 (dk_at dksX5_next_2 14 rfl rfl)
theorem dX5_next_63 : decode cX5_next 63 = .ok (.invokevirtual 99, 3) := dk_182 0 99 (dk_at dksX5_next_2 15 rfl rfl)
theorem dX5_next_66 : decode cX5_next 66 = .ok (.ifCond .eq 16, 3) := dk_153 0 16 (dk_at dksX5_next_2 18 rfl rfl)
theorem dX5_next_69 : decode cX5_next 69 = .ok (.aload_n 0, 1) := dk_42 (dk_at dksX5_next_2 21 rfl rfl)
theorem dX5_next_70 : decode cX5_next 70 = .ok (.dup, 1) := dk_89 (dk_at dksX5_next_2 22 rfl rfl)
theorem dX5_next_71 : decode cX5_next 71 = .ok (.getfield 78, 3) := dk_180 0 78 (dk_at dksX5_next_3 0 rfl rfl)
theorem dX5_next_74 : decode cX5_next 74 = .ok (.iconst 1, 1) := dk_4 (dk_at dksX5_next_3 3 rfl rfl)
theorem dX5_next_75 : decode cX5_next 75 = .ok (.iadd, 1) := dk_96 (dk_at dksX5_next_3 4 rfl rfl)
theorem dX5_next_76 : decode cX5_next 76 = .ok (.putfield 78, 3) := dk_181 0 78 (dk_at dksX5_next_3 5 rfl rfl)
theorem dX5_next_79 : decode cX5_next 79 = .ok (.goto (-17), 3) := dk_167 255 239 (dk_at dksX5_next_3 8 rfl rfl)
theorem dX5_next_82 : decode cX5_next 82 = .ok (.aload_n 0, 1) := dk_42 (dk_at dksX5_next_3 11 rfl rfl)
theorem dX5_next_83 : decode cX5_next 83 = .ok (.iconst 1, 1) := dk_4 (dk_at dksX5_next_3 12 rfl rfl)
theorem dX5_next_84 : decode cX5_next 84 = .ok (.putfield 96, 3) := dk_181 0 96 (dk_at dksX5_next_3 13 rfl rfl)
theorem dX5_next_87 : decode cX5_next 87 = .ok (.goto 98, 3) := dk_167 0 98 (dk_at dksX5_next_3 16 rfl rfl)
theorem dX5_next_90 : decode cX5_next 90 = .ok (.aload_n 0, 1) := dk_42 (dk_at dksX5_next_3 19 rfl rfl)
theorem dX5_next_91 : decode cX5_next 91 = .ok (.invokevirtual 103, 3) := dk_182 0 103 (dk_at dksX5_next_3 20 rfl rfl)
theorem dX5_next_94 : decode cX5_next 94 = .ok (.ifCond .eq 60, 3) := dk_153 0 60 (dk_at dksX5_next_4 0 rfl rfl)
theorem dX5_next_97 : decode cX5_next 97 = .ok (.aload_n 0, 1) := dk_42 (dk_at dksX5_next_4 3 rfl rfl)
theorem dX5_next_98 : decode cX5_next 98 = .ok (.iconst 0, 1) := dk_3 (dk_at dksX5_next_4 4 rfl rfl)
theorem dX5_next_99 : decode cX5_next 99 = .ok (.putfield 106, 3) := dk_181 0 106 (dk_at dksX5_next_4 5 rfl rfl)
theorem dX5_next_102 : decode cX5_next 102 = .ok (.aload_n 0, 1) := dk_42 (dk_at dksX5_next_4 8 rfl rfl)
theorem dX5_next_103 : decode cX5_next 103 = .ok (.invokevirtual 103, 3) := dk_182 0 103 (dk_at dksX5_next_4 9 rfl rfl)
theorem dX5_next_106 : decode cX5_next 106 = .ok (.ifCond .eq 40, 3) := dk_153 0 40 (dk_at dksX5_next_4 12 rfl rfl)
theorem dX5_next_109 : decode cX5_next 109 = .ok (.aload_n 0, 1) := dk_42 (dk_at dksX5_next_4 15 rfl rfl)
theorem dX5_next_110 : decode cX5_next 110 = .ok (.ldc 109, 2) := dk_18 109 (dk_at dksX5_next_4 16 rfl rfl)
theorem dX5_next_112 : decode cX5_next 112 = .ok (.bipush 10, 2) := dk_16 10 (dk_at dksX5_next_4 18 rfl rfl)
theorem dX5_next_114 : decode cX5_next 114 = .ok (.aload_n 0, 1) := dk_42 (dk_at dksX5_next_4 20 rfl rfl)
theorem dX5_next_115 : decode cX5_next 115 = .ok (.getfield 106, 3) := dk_180 0 106 (dk_at dksX5_next_4 21 rfl rfl)
theorem dX5_next_118 : decode cX5_next 118 = .ok (.imul, 1) := dk_104 (dk_at dksX5_next_5 0 rfl rfl)
theorem dX5_next_119 : decode cX5_next 119 = .ok (.aload_n 0, 1) := dk_42 (dk_at dksX5_next_5 1 rfl rfl)
theorem dX5_next_120 : decode cX5_next 120 = .ok (.invokevirtual 85, 3) := dk_182 0 85 (dk_at dksX5_next_5 2 rfl rfl)
theorem dX5_next_123 : decode cX5_next 123 = .ok (.iadd, 1) := dk_96 (dk_at dksX5_next_5 5 rfl rfl)
theorem dX5_next_124 : decode cX5_next 124 = .ok (.bipush 48, 2) := dk_16 48 (dk_at dksX5_next_5 6 rfl rfl)
theorem dX5_next_126 : decode cX5_next 126 = .ok (.isub, 1) := dk_100 (dk_at dksX5_next_5 8 rfl rfl)
theorem dX5_next_127 : decode cX5_next 127 = .ok (.invokestatic 110, 3) := dk_184 0 110 (dk_at dksX5_next_5 9 rfl rfl)
theorem dX5_next_130 : decode cX5_next 130 = .ok (.putfield 106, 3) := dk_181 0 106 (dk_at dksX5_next_5 12 rfl rfl)
theorem dX5_next_133 : decode cX5_next 133 = .ok (.aload_n 0, 1) := dk_42 (dk_at dksX5_next_5 15 rfl rfl)
theorem dX5_next_134 : decode cX5_next 134 = .ok (.dup, 1) := dk_89 (dk_at dksX5_next_5 16 rfl rfl)
theorem dX5_next_135 : decode cX5_next 135 = .ok (.getfield 78, 3) := dk_180 0 78 (dk_at dksX5_next_5 17 rfl rfl)
theorem dX5_next_138 : decode cX5_next 138 = .ok (.iconst 1, 1) := dk_4 (dk_at dksX5_next_5 20 rfl rfl)
theorem dX5_next_139 : decode cX5_next 139 = .ok (.iadd, 1) := dk_96 (dk_at dksX5_next_5 21 rfl rfl)
theorem dX5_next_140 : decode cX5_next 140 = .ok (.putfield 78, 3) := dk_181 0 78 (dk_at dksX5_next_6 0 rfl rfl)
theorem dX5_next_143 : decode cX5_next 143 = .ok (.goto (-41), 3) := dk_167 255 215 (dk_at dksX5_next_6 3 rfl rfl)
theorem dX5_next_146 : decode cX5_next 146 = .ok (.aload_n 0, 1) := dk_42 (dk_at dksX5_next_6 6 rfl rfl)
theorem dX5_next_147 : decode cX5_next 147 = .ok (.iconst 2, 1) := dk_5 (dk_at dksX5_next_6 7 rfl rfl)
theorem dX5_next_148 : decode cX5_next 148 = .ok (.putfield 96, 3) := dk_181 0 96 (dk_at dksX5_next_6 8 rfl rfl)
theorem dX5_next_151 : decode cX5_next 151 = .ok (.goto 34, 3) := dk_167 0 34 (dk_at dksX5_next_6 11 rfl rfl)
theorem dX5_next_154 : decode cX5_next 154 = .ok (.aload_n 0, 1) := dk_42 (dk_at dksX5_next_6 14 rfl rfl)
theorem dX5_next_155 : decode cX5_next 155 = .ok (.ldc 116, 2) := dk_18 116 (dk_at dksX5_next_6 15 rfl rfl)
theorem dX5_next_157 : decode cX5_next 157 = .ok (.aload_n 0, 1) := dk_42 (dk_at dksX5_next_6 17 rfl rfl)
theorem dX5_next_158 : decode cX5_next 158 = .ok (.invokevirtual 85, 3) := dk_182 0 85 (dk_at dksX5_next_6 18 rfl rfl)
theorem dX5_next_161 : decode cX5_next 161 = .ok (.invokevirtual 118, 3) := dk_182 0 118 (dk_at dksX5_next_6 21 rfl rfl)
theorem dX5_next_164 : decode cX5_next 164 = .ok (.ifCond .lt 7, 3) := dk_155 0 7 (dk_at dksX5_next_7 0 rfl rfl)
theorem dX5_next_167 : decode cX5_next 167 = .ok (.iconst 3, 1) := dk_6 (dk_at dksX5_next_7 3 rfl rfl)
theorem dX5_next_168 : decode cX5_next 168 = .ok (.goto 4, 3) := dk_167 0 4 (dk_at dksX5_next_7 4 rfl rfl)
theorem dX5_next_171 : decode cX5_next 171 = .ok (.iconst 4, 1) := dk_7 (dk_at dksX5_next_7 7 rfl rfl)
theorem dX5_next_172 : decode cX5_next 172 = .ok (.putfield 96, 3) := dk_181 0 96 (dk_at dksX5_next_7 8 rfl rfl)
theorem dX5_next_175 : decode cX5_next 175 = .ok (.aload_n 0, 1) := dk_42 (dk_at dksX5_next_7 11 rfl rfl)
theorem dX5_next_176 : decode cX5_next 176 = .ok (.dup, 1) := dk_89 (dk_at dksX5_next_7 12 rfl rfl)
theorem dX5_next_177 : decode cX5_next 177 = .ok (.getfield 78, 3) := dk_180 0 78 (dk_at dksX5_next_7 13 rfl rfl)
theorem dX5_next_180 : decode cX5_next 180 = .ok (.iconst 1, 1) := dk_4 (dk_at dksX5_next_7 16 rfl rfl)
theorem dX5_next_181 : decode cX5_next 181 = .ok (.iadd, 1) := dk_96 (dk_at dksX5_next_7 17 rfl rfl)
theorem dX5_next_182 : decode cX5_next 182 = .ok (.putfield 78, 3) := dk_181 0 78 (dk_at dksX5_next_7 18 rfl rfl)
theorem dX5_next_185 : decode cX5_next 185 = .ok (.aload_n 0, 1) := dk_42 (dk_at dksX5_next_7 21 rfl rfl)
theorem dX5_next_186 : decode cX5_next 186 = .ok (.aload_n 0, 1) := dk_42 (dk_at dksX5_next_7 22 rfl rfl)
theorem dX5_next_187 : decode cX5_next 187 = .ok (.getfield 78, 3) := dk_180 0 78 (dk_at dksX5_next_8 0 rfl rfl)
theorem dX5_next_190 : decode cX5_next 190 = .ok (.putfield 122, 3) := dk_181 0 122 (dk_at dksX5_next_8 3 rfl rfl)
theorem dX5_next_193 : decode cX5_next 193 = .ok (.return_, 1) := dk_177 (dk_at dksX5_next_8 6 rfl rfl)
abbrev cX5_here : ByteArray := prog_6_method_2_code
def yX5_here : MethodName := ⟨RX5, "here", "()I"⟩
def dkwX5_here_1 : List UInt8 := [17, 0, 255, 126, 167, 0, 4, 2, 172]
abbrev dktX5_here_1 : List UInt8 := dkwX5_here_1 ++ []
def dkwX5_here_0 : List UInt8 := [42, 180, 0, 78, 42, 180, 0, 74, 162, 0, 22, 42, 180, 0, 3, 180, 0, 81, 42, 180, 0, 78, 51]
abbrev dktX5_here_0 : List UInt8 := dkwX5_here_0 ++ dktX5_here_1
theorem dksX5_here_0 : cX5_here.data.toList.drop 0 = dktX5_here_0 := by decide +kernel
theorem dksX5_here_1 : cX5_here.data.toList.drop 23 = dktX5_here_1 := dk_seg dksX5_here_0 23 rfl rfl
theorem dX5_here_0 : decode cX5_here 0 = .ok (.aload_n 0, 1) := dk_42 (dk_at dksX5_here_0 0 rfl rfl)
theorem dX5_here_1 : decode cX5_here 1 = .ok (.getfield 78, 3) := dk_180 0 78 (dk_at dksX5_here_0 1 rfl rfl)
theorem dX5_here_4 : decode cX5_here 4 = .ok (.aload_n 0, 1) := dk_42 (dk_at dksX5_here_0 4 rfl rfl)
theorem dX5_here_5 : decode cX5_here 5 = .ok (.getfield 74, 3) := dk_180 0 74 (dk_at dksX5_here_0 5 rfl rfl)
theorem dX5_here_8 : decode cX5_here 8 = .ok (.if_icmp .ge 22, 3) := dk_162 0 22 (dk_at dksX5_here_0 8 rfl rfl)
theorem dX5_here_11 : decode cX5_here 11 = .ok (.aload_n 0, 1) := dk_42 (dk_at dksX5_here_0 11 rfl rfl)
theorem dX5_here_12 : decode cX5_here 12 = .ok (.getfield 3, 3) := dk_180 0 3 (dk_at dksX5_here_0 12 rfl rfl)
theorem dX5_here_15 : decode cX5_here 15 = .ok (.getfield 81, 3) := dk_180 0 81 (dk_at dksX5_here_0 15 rfl rfl)
theorem dX5_here_18 : decode cX5_here 18 = .ok (.aload_n 0, 1) := dk_42 (dk_at dksX5_here_0 18 rfl rfl)
theorem dX5_here_19 : decode cX5_here 19 = .ok (.getfield 78, 3) := dk_180 0 78 (dk_at dksX5_here_0 19 rfl rfl)
theorem dX5_here_22 : decode cX5_here 22 = .ok (.baload, 1) := dk_51 (dk_at dksX5_here_0 22 rfl rfl)
theorem dX5_here_23 : decode cX5_here 23 = .ok (.sipush 255, 3) := dk_17 0 255 (dk_at dksX5_here_1 0 rfl rfl)
theorem dX5_here_26 : decode cX5_here 26 = .ok (.iand, 1) := dk_126 (dk_at dksX5_here_1 3 rfl rfl)
theorem dX5_here_27 : decode cX5_here 27 = .ok (.goto 4, 3) := dk_167 0 4 (dk_at dksX5_here_1 4 rfl rfl)
theorem dX5_here_30 : decode cX5_here 30 = .ok (.iconst (-1), 1) := dk_2 (dk_at dksX5_here_1 7 rfl rfl)
theorem dX5_here_31 : decode cX5_here 31 = .ok (.ireturn, 1) := dk_172 (dk_at dksX5_here_1 8 rfl rfl)
abbrev cX5_isLetter : ByteArray := prog_6_method_3_code
def yX5_isLetter : MethodName := ⟨RX5, "isLetter", "()Z"⟩
def dkwX5_isLetter_0 : List UInt8 := [42, 182, 0, 85, 16, 97, 16, 122, 184, 0, 89, 172]
abbrev dktX5_isLetter_0 : List UInt8 := dkwX5_isLetter_0 ++ []
theorem dksX5_isLetter_0 : cX5_isLetter.data.toList.drop 0 = dktX5_isLetter_0 := by decide +kernel
theorem dX5_isLetter_0 : decode cX5_isLetter 0 = .ok (.aload_n 0, 1) := dk_42 (dk_at dksX5_isLetter_0 0 rfl rfl)
theorem dX5_isLetter_1 : decode cX5_isLetter 1 = .ok (.invokevirtual 85, 3) := dk_182 0 85 (dk_at dksX5_isLetter_0 1 rfl rfl)
theorem dX5_isLetter_4 : decode cX5_isLetter 4 = .ok (.bipush 97, 2) := dk_16 97 (dk_at dksX5_isLetter_0 4 rfl rfl)
theorem dX5_isLetter_6 : decode cX5_isLetter 6 = .ok (.bipush 122, 2) := dk_16 122 (dk_at dksX5_isLetter_0 6 rfl rfl)
theorem dX5_isLetter_8 : decode cX5_isLetter 8 = .ok (.invokestatic 89, 3) := dk_184 0 89 (dk_at dksX5_isLetter_0 8 rfl rfl)
theorem dX5_isLetter_11 : decode cX5_isLetter 11 = .ok (.ireturn, 1) := dk_172 (dk_at dksX5_isLetter_0 11 rfl rfl)
abbrev cX5_isDigit : ByteArray := prog_6_method_4_code
def yX5_isDigit : MethodName := ⟨RX5, "isDigit", "()Z"⟩
def dkwX5_isDigit_0 : List UInt8 := [42, 182, 0, 85, 16, 48, 16, 57, 184, 0, 89, 172]
abbrev dktX5_isDigit_0 : List UInt8 := dkwX5_isDigit_0 ++ []
theorem dksX5_isDigit_0 : cX5_isDigit.data.toList.drop 0 = dktX5_isDigit_0 := by decide +kernel
theorem dX5_isDigit_0 : decode cX5_isDigit 0 = .ok (.aload_n 0, 1) := dk_42 (dk_at dksX5_isDigit_0 0 rfl rfl)
theorem dX5_isDigit_1 : decode cX5_isDigit 1 = .ok (.invokevirtual 85, 3) := dk_182 0 85 (dk_at dksX5_isDigit_0 1 rfl rfl)
theorem dX5_isDigit_4 : decode cX5_isDigit 4 = .ok (.bipush 48, 2) := dk_16 48 (dk_at dksX5_isDigit_0 4 rfl rfl)
theorem dX5_isDigit_6 : decode cX5_isDigit 6 = .ok (.bipush 57, 2) := dk_16 57 (dk_at dksX5_isDigit_0 6 rfl rfl)
theorem dX5_isDigit_8 : decode cX5_isDigit 8 = .ok (.invokestatic 89, 3) := dk_184 0 89 (dk_at dksX5_isDigit_0 8 rfl rfl)
theorem dX5_isDigit_11 : decode cX5_isDigit 11 = .ok (.ireturn, 1) := dk_172 (dk_at dksX5_isDigit_0 11 rfl rfl)
abbrev cX5_line : ByteArray := prog_6_method_23_code
def yX5_line : MethodName := ⟨RX5, "line", "()V"⟩
def dkwX5_line_9 : List UInt8 := [177]
abbrev dktX5_line_9 : List UInt8 := dkwX5_line_9 ++ []
def dkwX5_line_8 : List UInt8 := [19, 1, 19, 182, 0, 132, 182, 1, 20, 42, 42, 16, 59, 182, 0, 156, 4, 182, 0, 144, 42, 182, 0, 136]
abbrev dktX5_line_8 : List UInt8 := dkwX5_line_8 ++ dktX5_line_9
def dkwX5_line_7 : List UInt8 := [154, 0, 13, 42, 19, 1, 19, 182, 0, 132, 153, 0, 7, 4, 167, 0, 4, 3, 4, 182, 0, 144, 42, 42]
abbrev dktX5_line_7 : List UInt8 := dkwX5_line_7 ++ dktX5_line_8
def dkwX5_line_6 : List UInt8 := [180, 0, 18, 42, 4, 16, 9, 182, 0, 153, 181, 1, 16, 167, 0, 44, 42, 42, 19, 1, 18, 182, 0, 132]
abbrev dktX5_line_6 : List UInt8 := dkwX5_line_6 ++ dktX5_line_7
def dkwX5_line_5 : List UInt8 := [154, 0, 7, 4, 167, 0, 4, 3, 8, 182, 0, 144, 42, 4, 181, 1, 12, 42, 182, 0, 136, 42]
abbrev dktX5_line_5 : List UInt8 := dkwX5_line_5 ++ dktX5_line_6
def dkwX5_line_4 : List UInt8 := [185, 0, 225, 2, 0, 87, 167, 0, 97, 42, 19, 1, 10, 182, 0, 132, 153, 0, 46, 42, 42, 180, 1, 12]
abbrev dktX5_line_4 : List UInt8 := dkwX5_line_4 ++ dktX5_line_5
def dkwX5_line_3 : List UInt8 := [167, 0, 4, 3, 5, 182, 0, 144, 42, 182, 0, 136, 42, 180, 0, 18, 180, 0, 228, 7, 189, 0, 240]
abbrev dktX5_line_3 : List UInt8 := dkwX5_line_3 ++ dktX5_line_4
def dkwX5_line_2 : List UInt8 := [182, 0, 132, 153, 0, 53, 42, 42, 180, 0, 18, 180, 0, 228, 185, 0, 216, 1, 0, 8, 162, 0, 7, 4]
abbrev dktX5_line_2 : List UInt8 := dkwX5_line_2 ++ dktX5_line_3
def dkwX5_line_1 : List UInt8 := [27, 182, 1, 3, 167, 0, 170, 28, 2, 159, 0, 11, 42, 28, 182, 1, 5, 167, 0, 157, 42, 19, 1, 8]
abbrev dktX5_line_1 : List UInt8 := dkwX5_line_1 ++ dktX5_line_2
def dkwX5_line_0 : List UInt8 := [42, 42, 180, 0, 30, 182, 0, 164, 60, 42, 42, 180, 0, 42, 182, 0, 164, 61, 27, 2, 159, 0, 11, 42]
abbrev dktX5_line_0 : List UInt8 := dkwX5_line_0 ++ dktX5_line_1
theorem dksX5_line_0 : cX5_line.data.toList.drop 0 = dktX5_line_0 := by decide +kernel
theorem dksX5_line_1 : cX5_line.data.toList.drop 24 = dktX5_line_1 := dk_seg dksX5_line_0 24 rfl rfl
theorem dksX5_line_2 : cX5_line.data.toList.drop 48 = dktX5_line_2 := dk_seg dksX5_line_1 24 rfl rfl
theorem dksX5_line_3 : cX5_line.data.toList.drop 72 = dktX5_line_3 := dk_seg dksX5_line_2 24 rfl rfl
theorem dksX5_line_4 : cX5_line.data.toList.drop 95 = dktX5_line_4 := dk_seg dksX5_line_3 23 rfl rfl
theorem dksX5_line_5 : cX5_line.data.toList.drop 119 = dktX5_line_5 := dk_seg dksX5_line_4 24 rfl rfl
theorem dksX5_line_6 : cX5_line.data.toList.drop 141 = dktX5_line_6 := dk_seg dksX5_line_5 22 rfl rfl
theorem dksX5_line_7 : cX5_line.data.toList.drop 165 = dktX5_line_7 := dk_seg dksX5_line_6 24 rfl rfl
theorem dksX5_line_8 : cX5_line.data.toList.drop 189 = dktX5_line_8 := dk_seg dksX5_line_7 24 rfl rfl
theorem dksX5_line_9 : cX5_line.data.toList.drop 213 = dktX5_line_9 := dk_seg dksX5_line_8 24 rfl rfl
theorem dX5_line_0 : decode cX5_line 0 = .ok (.aload_n 0, 1) := dk_42 (dk_at dksX5_line_0 0 rfl rfl)
theorem dX5_line_1 : decode cX5_line 1 = .ok (.aload_n 0, 1) := dk_42 (dk_at dksX5_line_0 1 rfl rfl)
theorem dX5_line_2 : decode cX5_line 2 = .ok (.getfield 30, 3) := dk_180 0 30 (dk_at dksX5_line_0 2 rfl rfl)
theorem dX5_line_5 : decode cX5_line 5 = .ok (.invokevirtual 164, 3) := dk_182 0 164 (dk_at dksX5_line_0 5 rfl rfl)
theorem dX5_line_8 : decode cX5_line 8 = .ok (.istore_n 1, 1) := dk_60 (dk_at dksX5_line_0 8 rfl rfl)
theorem dX5_line_9 : decode cX5_line 9 = .ok (.aload_n 0, 1) := dk_42 (dk_at dksX5_line_0 9 rfl rfl)
theorem dX5_line_10 : decode cX5_line 10 = .ok (.aload_n 0, 1) := dk_42 (dk_at dksX5_line_0 10 rfl rfl)
theorem dX5_line_11 : decode cX5_line 11 = .ok (.getfield 42, 3) := dk_180 0 42 (dk_at dksX5_line_0 11 rfl rfl)
theorem dX5_line_14 : decode cX5_line 14 = .ok (.invokevirtual 164, 3) := dk_182 0 164 (dk_at dksX5_line_0 14 rfl rfl)
theorem dX5_line_17 : decode cX5_line 17 = .ok (.istore_n 2, 1) := dk_61 (dk_at dksX5_line_0 17 rfl rfl)
theorem dX5_line_18 : decode cX5_line 18 = .ok (.iload_n 1, 1) := dk_27 (dk_at dksX5_line_0 18 rfl rfl)
theorem dX5_line_19 : decode cX5_line 19 = .ok (.iconst (-1), 1) := dk_2 (dk_at dksX5_line_0 19 rfl rfl)
theorem dX5_line_20 : decode cX5_line 20 = .ok (.if_icmp .eq 11, 3) := dk_159 0 11 (dk_at dksX5_line_0 20 rfl rfl)
theorem dX5_line_23 : decode cX5_line 23 = .ok (.aload_n 0, 1) := dk_42 (dk_at dksX5_line_0 23 rfl rfl)
theorem dX5_line_24 : decode cX5_line 24 = .ok (.iload_n 1, 1) := dk_27 (dk_at dksX5_line_1 0 rfl rfl)
theorem dX5_line_25 : decode cX5_line 25 = .ok (.invokevirtual 259, 3) := dk_182 1 3 (dk_at dksX5_line_1 1 rfl rfl)
theorem dX5_line_28 : decode cX5_line 28 = .ok (.goto 170, 3) := dk_167 0 170 (dk_at dksX5_line_1 4 rfl rfl)
theorem dX5_line_31 : decode cX5_line 31 = .ok (.iload_n 2, 1) := dk_28 (dk_at dksX5_line_1 7 rfl rfl)
theorem dX5_line_32 : decode cX5_line 32 = .ok (.iconst (-1), 1) := dk_2 (dk_at dksX5_line_1 8 rfl rfl)
theorem dX5_line_33 : decode cX5_line 33 = .ok (.if_icmp .eq 11, 3) := dk_159 0 11 (dk_at dksX5_line_1 9 rfl rfl)
theorem dX5_line_36 : decode cX5_line 36 = .ok (.aload_n 0, 1) := dk_42 (dk_at dksX5_line_1 12 rfl rfl)
theorem dX5_line_37 : decode cX5_line 37 = .ok (.iload_n 2, 1) := dk_28 (dk_at dksX5_line_1 13 rfl rfl)
theorem dX5_line_38 : decode cX5_line 38 = .ok (.invokevirtual 261, 3) := dk_182 1 5 (dk_at dksX5_line_1 14 rfl rfl)
theorem dX5_line_41 : decode cX5_line 41 = .ok (.goto 157, 3) := dk_167 0 157 (dk_at dksX5_line_1 17 rfl rfl)
theorem dX5_line_44 : decode cX5_line 44 = .ok (.aload_n 0, 1) := dk_42 (dk_at dksX5_line_1 20 rfl rfl)
theorem dX5_line_45 : decode cX5_line 45 = .ok (.ldc_w 264, 3) := dk_19 1 8 (dk_at dksX5_line_1 21 rfl rfl)
theorem dX5_line_48 : decode cX5_line 48 = .ok (.invokevirtual 132, 3) := dk_182 0 132 (dk_at dksX5_line_2 0 rfl rfl)
theorem dX5_line_51 : decode cX5_line 51 = .ok (.ifCond .eq 53, 3) := dk_153 0 53 (dk_at dksX5_line_2 3 rfl rfl)
theorem dX5_line_54 : decode cX5_line 54 = .ok (.aload_n 0, 1) := dk_42 (dk_at dksX5_line_2 6 rfl rfl)
theorem dX5_line_55 : decode cX5_line 55 = .ok (.aload_n 0, 1) := dk_42 (dk_at dksX5_line_2 7 rfl rfl)
theorem dX5_line_56 : decode cX5_line 56 = .ok (.getfield 18, 3) := dk_180 0 18 (dk_at dksX5_line_2 8 rfl rfl)
theorem dX5_line_59 : decode cX5_line 59 = .ok (.getfield 228, 3) := dk_180 0 228 (dk_at dksX5_line_2 11 rfl rfl)
theorem dX5_line_62 : decode cX5_line 62 = .ok (.invokeinterface 216 1, 5) := by decide +kernel
theorem dX5_line_67 : decode cX5_line 67 = .ok (.iconst 5, 1) := dk_8 (dk_at dksX5_line_2 19 rfl rfl)
theorem dX5_line_68 : decode cX5_line 68 = .ok (.if_icmp .ge 7, 3) := dk_162 0 7 (dk_at dksX5_line_2 20 rfl rfl)
theorem dX5_line_71 : decode cX5_line 71 = .ok (.iconst 1, 1) := dk_4 (dk_at dksX5_line_2 23 rfl rfl)
theorem dX5_line_72 : decode cX5_line 72 = .ok (.goto 4, 3) := dk_167 0 4 (dk_at dksX5_line_3 0 rfl rfl)
theorem dX5_line_75 : decode cX5_line 75 = .ok (.iconst 0, 1) := dk_3 (dk_at dksX5_line_3 3 rfl rfl)
theorem dX5_line_76 : decode cX5_line 76 = .ok (.iconst 2, 1) := dk_5 (dk_at dksX5_line_3 4 rfl rfl)
theorem dX5_line_77 : decode cX5_line 77 = .ok (.invokevirtual 144, 3) := dk_182 0 144 (dk_at dksX5_line_3 5 rfl rfl)
theorem dX5_line_80 : decode cX5_line 80 = .ok (.aload_n 0, 1) := dk_42 (dk_at dksX5_line_3 8 rfl rfl)
theorem dX5_line_81 : decode cX5_line 81 = .ok (.invokevirtual 136, 3) := dk_182 0 136 (dk_at dksX5_line_3 9 rfl rfl)
theorem dX5_line_84 : decode cX5_line 84 = .ok (.aload_n 0, 1) := dk_42 (dk_at dksX5_line_3 12 rfl rfl)
theorem dX5_line_85 : decode cX5_line 85 = .ok (.getfield 18, 3) := dk_180 0 18 (dk_at dksX5_line_3 13 rfl rfl)
theorem dX5_line_88 : decode cX5_line 88 = .ok (.getfield 228, 3) := dk_180 0 228 (dk_at dksX5_line_3 16 rfl rfl)
theorem dX5_line_91 : decode cX5_line 91 = .ok (.iconst 4, 1) := dk_7 (dk_at dksX5_line_3 19 rfl rfl)
theorem dX5_line_92 : decode cX5_line 92 = .ok (.anewarray 240, 3) := dk_189 0 240 (dk_at dksX5_line_3 20 rfl rfl)
theorem dX5_line_95 : decode cX5_line 95 = .ok (.invokeinterface 225 2, 5) := by decide +kernel
theorem dX5_line_100 : decode cX5_line 100 = .ok (.pop, 1) := dk_87 (dk_at dksX5_line_4 5 rfl rfl)
theorem dX5_line_101 : decode cX5_line 101 = .ok (.goto 97, 3) := dk_167 0 97 (dk_at dksX5_line_4 6 rfl rfl)
theorem dX5_line_104 : decode cX5_line 104 = .ok (.aload_n 0, 1) := dk_42 (dk_at dksX5_line_4 9 rfl rfl)
theorem dX5_line_105 : decode cX5_line 105 = .ok (.ldc_w 266, 3) := dk_19 1 10 (dk_at dksX5_line_4 10 rfl rfl)
theorem dX5_line_108 : decode cX5_line 108 = .ok (.invokevirtual 132, 3) := dk_182 0 132 (dk_at dksX5_line_4 13 rfl rfl)
theorem dX5_line_111 : decode cX5_line 111 = .ok (.ifCond .eq 46, 3) := dk_153 0 46 (dk_at dksX5_line_4 16 rfl rfl)
theorem dX5_line_114 : decode cX5_line 114 = .ok (.aload_n 0, 1) := dk_42 (dk_at dksX5_line_4 19 rfl rfl)
theorem dX5_line_115 : decode cX5_line 115 = .ok (.aload_n 0, 1) := dk_42 (dk_at dksX5_line_4 20 rfl rfl)
theorem dX5_line_116 : decode cX5_line 116 = .ok (.getfield 268, 3) := dk_180 1 12 (dk_at dksX5_line_4 21 rfl rfl)
theorem dX5_line_119 : decode cX5_line 119 = .ok (.ifCond .ne 7, 3) := dk_154 0 7 (dk_at dksX5_line_5 0 rfl rfl)
theorem dX5_line_122 : decode cX5_line 122 = .ok (.iconst 1, 1) := dk_4 (dk_at dksX5_line_5 3 rfl rfl)
theorem dX5_line_123 : decode cX5_line 123 = .ok (.goto 4, 3) := dk_167 0 4 (dk_at dksX5_line_5 4 rfl rfl)
theorem dX5_line_126 : decode cX5_line 126 = .ok (.iconst 0, 1) := dk_3 (dk_at dksX5_line_5 7 rfl rfl)
theorem dX5_line_127 : decode cX5_line 127 = .ok (.iconst 5, 1) := dk_8 (dk_at dksX5_line_5 8 rfl rfl)
theorem dX5_line_128 : decode cX5_line 128 = .ok (.invokevirtual 144, 3) := dk_182 0 144 (dk_at dksX5_line_5 9 rfl rfl)
theorem dX5_line_131 : decode cX5_line 131 = .ok (.aload_n 0, 1) := dk_42 (dk_at dksX5_line_5 12 rfl rfl)
theorem dX5_line_132 : decode cX5_line 132 = .ok (.iconst 1, 1) := dk_4 (dk_at dksX5_line_5 13 rfl rfl)
theorem dX5_line_133 : decode cX5_line 133 = .ok (.putfield 268, 3) := dk_181 1 12 (dk_at dksX5_line_5 14 rfl rfl)
theorem dX5_line_136 : decode cX5_line 136 = .ok (.aload_n 0, 1) := dk_42 (dk_at dksX5_line_5 17 rfl rfl)
theorem dX5_line_137 : decode cX5_line 137 = .ok (.invokevirtual 136, 3) := dk_182 0 136 (dk_at dksX5_line_5 18 rfl rfl)
theorem dX5_line_140 : decode cX5_line 140 = .ok (.aload_n 0, 1) := dk_42 (dk_at dksX5_line_5 21 rfl rfl)
theorem dX5_line_141 : decode cX5_line 141 = .ok (.getfield 18, 3) := dk_180 0 18 (dk_at dksX5_line_6 0 rfl rfl)
theorem dX5_line_144 : decode cX5_line 144 = .ok (.aload_n 0, 1) := dk_42 (dk_at dksX5_line_6 3 rfl rfl)
theorem dX5_line_145 : decode cX5_line 145 = .ok (.iconst 1, 1) := dk_4 (dk_at dksX5_line_6 4 rfl rfl)
theorem dX5_line_146 : decode cX5_line 146 = .ok (.bipush 9, 2) := dk_16 9 (dk_at dksX5_line_6 5 rfl rfl)
theorem dX5_line_148 : decode cX5_line 148 = .ok (.invokevirtual 153, 3) := dk_182 0 153 (dk_at dksX5_line_6 7 rfl rfl)
theorem dX5_line_151 : decode cX5_line 151 = .ok (.putfield 272, 3) := dk_181 1 16 (dk_at dksX5_line_6 10 rfl rfl)
theorem dX5_line_154 : decode cX5_line 154 = .ok (.goto 44, 3) := dk_167 0 44 (dk_at dksX5_line_6 13 rfl rfl)
theorem dX5_line_157 : decode cX5_line 157 = .ok (.aload_n 0, 1) := dk_42 (dk_at dksX5_line_6 16 rfl rfl)
theorem dX5_line_158 : decode cX5_line 158 = .ok (.aload_n 0, 1) := dk_42 (dk_at dksX5_line_6 17 rfl rfl)
theorem dX5_line_159 : decode cX5_line 159 = .ok (.ldc_w 274, 3) := dk_19 1 18 (dk_at dksX5_line_6 18 rfl rfl)
theorem dX5_line_162 : decode cX5_line 162 = .ok (.invokevirtual 132, 3) := dk_182 0 132 (dk_at dksX5_line_6 21 rfl rfl)
theorem dX5_line_165 : decode cX5_line 165 = .ok (.ifCond .ne 13, 3) := dk_154 0 13 (dk_at dksX5_line_7 0 rfl rfl)
theorem dX5_line_168 : decode cX5_line 168 = .ok (.aload_n 0, 1) := dk_42 (dk_at dksX5_line_7 3 rfl rfl)
theorem dX5_line_169 : decode cX5_line 169 = .ok (.ldc_w 275, 3) := dk_19 1 19 (dk_at dksX5_line_7 4 rfl rfl)
theorem dX5_line_172 : decode cX5_line 172 = .ok (.invokevirtual 132, 3) := dk_182 0 132 (dk_at dksX5_line_7 7 rfl rfl)
theorem dX5_line_175 : decode cX5_line 175 = .ok (.ifCond .eq 7, 3) := dk_153 0 7 (dk_at dksX5_line_7 10 rfl rfl)
theorem dX5_line_178 : decode cX5_line 178 = .ok (.iconst 1, 1) := dk_4 (dk_at dksX5_line_7 13 rfl rfl)
theorem dX5_line_179 : decode cX5_line 179 = .ok (.goto 4, 3) := dk_167 0 4 (dk_at dksX5_line_7 14 rfl rfl)
theorem dX5_line_182 : decode cX5_line 182 = .ok (.iconst 0, 1) := dk_3 (dk_at dksX5_line_7 17 rfl rfl)
theorem dX5_line_183 : decode cX5_line 183 = .ok (.iconst 1, 1) := dk_4 (dk_at dksX5_line_7 18 rfl rfl)
theorem dX5_line_184 : decode cX5_line 184 = .ok (.invokevirtual 144, 3) := dk_182 0 144 (dk_at dksX5_line_7 19 rfl rfl)
theorem dX5_line_187 : decode cX5_line 187 = .ok (.aload_n 0, 1) := dk_42 (dk_at dksX5_line_7 22 rfl rfl)
theorem dX5_line_188 : decode cX5_line 188 = .ok (.aload_n 0, 1) := dk_42 (dk_at dksX5_line_7 23 rfl rfl)
theorem dX5_line_189 : decode cX5_line 189 = .ok (.ldc_w 275, 3) := dk_19 1 19 (dk_at dksX5_line_8 0 rfl rfl)
theorem dX5_line_192 : decode cX5_line 192 = .ok (.invokevirtual 132, 3) := dk_182 0 132 (dk_at dksX5_line_8 3 rfl rfl)
theorem dX5_line_195 : decode cX5_line 195 = .ok (.invokevirtual 276, 3) := dk_182 1 20 (dk_at dksX5_line_8 6 rfl rfl)
theorem dX5_line_198 : decode cX5_line 198 = .ok (.aload_n 0, 1) := dk_42 (dk_at dksX5_line_8 9 rfl rfl)
theorem dX5_line_199 : decode cX5_line 199 = .ok (.aload_n 0, 1) := dk_42 (dk_at dksX5_line_8 10 rfl rfl)
theorem dX5_line_200 : decode cX5_line 200 = .ok (.bipush 59, 2) := dk_16 59 (dk_at dksX5_line_8 11 rfl rfl)
theorem dX5_line_202 : decode cX5_line 202 = .ok (.invokevirtual 156, 3) := dk_182 0 156 (dk_at dksX5_line_8 13 rfl rfl)
theorem dX5_line_205 : decode cX5_line 205 = .ok (.iconst 1, 1) := dk_4 (dk_at dksX5_line_8 16 rfl rfl)
theorem dX5_line_206 : decode cX5_line 206 = .ok (.invokevirtual 144, 3) := dk_182 0 144 (dk_at dksX5_line_8 17 rfl rfl)
theorem dX5_line_209 : decode cX5_line 209 = .ok (.aload_n 0, 1) := dk_42 (dk_at dksX5_line_8 20 rfl rfl)
theorem dX5_line_210 : decode cX5_line 210 = .ok (.invokevirtual 136, 3) := dk_182 0 136 (dk_at dksX5_line_8 21 rfl rfl)
theorem dX5_line_213 : decode cX5_line 213 = .ok (.return_, 1) := dk_177 (dk_at dksX5_line_9 0 rfl rfl)
abbrev cX5_which : ByteArray := prog_6_method_7_code
def yX5_which : MethodName := ⟨RX5, "which", "([Ljava/lang/String;)I"⟩
def dkwX5_which_1 : List UInt8 := [167, 255, 235, 2, 172]
abbrev dktX5_which_1 : List UInt8 := dkwX5_which_1 ++ []
def dkwX5_which_0 : List UInt8 := [3, 61, 28, 43, 190, 162, 0, 21, 42, 43, 28, 50, 182, 0, 132, 153, 0, 5, 28, 172, 132, 2, 1]
abbrev dktX5_which_0 : List UInt8 := dkwX5_which_0 ++ dktX5_which_1
theorem dksX5_which_0 : cX5_which.data.toList.drop 0 = dktX5_which_0 := by decide +kernel
theorem dksX5_which_1 : cX5_which.data.toList.drop 23 = dktX5_which_1 := dk_seg dksX5_which_0 23 rfl rfl
theorem dX5_which_0 : decode cX5_which 0 = .ok (.iconst 0, 1) := dk_3 (dk_at dksX5_which_0 0 rfl rfl)
theorem dX5_which_1 : decode cX5_which 1 = .ok (.istore_n 2, 1) := dk_61 (dk_at dksX5_which_0 1 rfl rfl)
theorem dX5_which_2 : decode cX5_which 2 = .ok (.iload_n 2, 1) := dk_28 (dk_at dksX5_which_0 2 rfl rfl)
theorem dX5_which_3 : decode cX5_which 3 = .ok (.aload_n 1, 1) := dk_43 (dk_at dksX5_which_0 3 rfl rfl)
theorem dX5_which_4 : decode cX5_which 4 = .ok (.arraylength, 1) := dk_190 (dk_at dksX5_which_0 4 rfl rfl)
theorem dX5_which_5 : decode cX5_which 5 = .ok (.if_icmp .ge 21, 3) := dk_162 0 21 (dk_at dksX5_which_0 5 rfl rfl)
theorem dX5_which_8 : decode cX5_which 8 = .ok (.aload_n 0, 1) := dk_42 (dk_at dksX5_which_0 8 rfl rfl)
theorem dX5_which_9 : decode cX5_which 9 = .ok (.aload_n 1, 1) := dk_43 (dk_at dksX5_which_0 9 rfl rfl)
theorem dX5_which_10 : decode cX5_which 10 = .ok (.iload_n 2, 1) := dk_28 (dk_at dksX5_which_0 10 rfl rfl)
theorem dX5_which_11 : decode cX5_which 11 = .ok (.aaload, 1) := dk_50 (dk_at dksX5_which_0 11 rfl rfl)
theorem dX5_which_12 : decode cX5_which 12 = .ok (.invokevirtual 132, 3) := dk_182 0 132 (dk_at dksX5_which_0 12 rfl rfl)
theorem dX5_which_15 : decode cX5_which 15 = .ok (.ifCond .eq 5, 3) := dk_153 0 5 (dk_at dksX5_which_0 15 rfl rfl)
theorem dX5_which_18 : decode cX5_which 18 = .ok (.iload_n 2, 1) := dk_28 (dk_at dksX5_which_0 18 rfl rfl)
theorem dX5_which_19 : decode cX5_which 19 = .ok (.ireturn, 1) := dk_172 (dk_at dksX5_which_0 19 rfl rfl)
theorem dX5_which_20 : decode cX5_which 20 = .ok (.iinc 2 1, 3) := dk_132 2 1 (dk_at dksX5_which_0 20 rfl rfl)
theorem dX5_which_23 : decode cX5_which 23 = .ok (.goto (-21), 3) := dk_167 255 235 (dk_at dksX5_which_1 0 rfl rfl)
theorem dX5_which_26 : decode cX5_which 26 = .ok (.iconst (-1), 1) := dk_2 (dk_at dksX5_which_1 3 rfl rfl)
theorem dX5_which_27 : decode cX5_which 27 = .ok (.ireturn, 1) := dk_172 (dk_at dksX5_which_1 4 rfl rfl)
abbrev cX5_is : ByteArray := prog_6_method_6_code
def yX5_is : MethodName := ⟨RX5, "is", "(Ljava/lang/String;)Z"⟩
def dkwX5_is_2 : List UInt8 := [42, 180, 0, 93, 28, 96, 51, 17, 0, 255, 126, 159, 0, 5, 3, 172, 132, 2, 1, 167, 255, 217, 4, 172]
abbrev dktX5_is_2 : List UInt8 := dkwX5_is_2 ++ []
def dkwX5_is_1 : List UInt8 := [3, 172, 3, 61, 28, 43, 182, 0, 125, 162, 0, 37, 43, 28, 182, 0, 128, 42, 180, 0, 3, 180, 0, 81]
abbrev dktX5_is_1 : List UInt8 := dkwX5_is_1 ++ dktX5_is_2
def dkwX5_is_0 : List UInt8 := [42, 180, 0, 96, 4, 160, 0, 19, 43, 182, 0, 125, 42, 180, 0, 122, 42, 180, 0, 93, 100, 159, 0, 5]
abbrev dktX5_is_0 : List UInt8 := dkwX5_is_0 ++ dktX5_is_1
theorem dksX5_is_0 : cX5_is.data.toList.drop 0 = dktX5_is_0 := by decide +kernel
theorem dksX5_is_1 : cX5_is.data.toList.drop 24 = dktX5_is_1 := dk_seg dksX5_is_0 24 rfl rfl
theorem dksX5_is_2 : cX5_is.data.toList.drop 48 = dktX5_is_2 := dk_seg dksX5_is_1 24 rfl rfl
theorem dX5_is_0 : decode cX5_is 0 = .ok (.aload_n 0, 1) := dk_42 (dk_at dksX5_is_0 0 rfl rfl)
theorem dX5_is_1 : decode cX5_is 1 = .ok (.getfield 96, 3) := dk_180 0 96 (dk_at dksX5_is_0 1 rfl rfl)
theorem dX5_is_4 : decode cX5_is 4 = .ok (.iconst 1, 1) := dk_4 (dk_at dksX5_is_0 4 rfl rfl)
theorem dX5_is_5 : decode cX5_is 5 = .ok (.if_icmp .ne 19, 3) := dk_160 0 19 (dk_at dksX5_is_0 5 rfl rfl)
theorem dX5_is_8 : decode cX5_is 8 = .ok (.aload_n 1, 1) := dk_43 (dk_at dksX5_is_0 8 rfl rfl)
theorem dX5_is_9 : decode cX5_is 9 = .ok (.invokevirtual 125, 3) := dk_182 0 125 (dk_at dksX5_is_0 9 rfl rfl)
theorem dX5_is_12 : decode cX5_is 12 = .ok (.aload_n 0, 1) := dk_42 (dk_at dksX5_is_0 12 rfl rfl)
theorem dX5_is_13 : decode cX5_is 13 = .ok (.getfield 122, 3) := dk_180 0 122 (dk_at dksX5_is_0 13 rfl rfl)
theorem dX5_is_16 : decode cX5_is 16 = .ok (.aload_n 0, 1) := dk_42 (dk_at dksX5_is_0 16 rfl rfl)
theorem dX5_is_17 : decode cX5_is 17 = .ok (.getfield 93, 3) := dk_180 0 93 (dk_at dksX5_is_0 17 rfl rfl)
theorem dX5_is_20 : decode cX5_is 20 = .ok (.isub, 1) := dk_100 (dk_at dksX5_is_0 20 rfl rfl)
theorem dX5_is_21 : decode cX5_is 21 = .ok (.if_icmp .eq 5, 3) := dk_159 0 5 (dk_at dksX5_is_0 21 rfl rfl)
theorem dX5_is_24 : decode cX5_is 24 = .ok (.iconst 0, 1) := dk_3 (dk_at dksX5_is_1 0 rfl rfl)
theorem dX5_is_25 : decode cX5_is 25 = .ok (.ireturn, 1) := dk_172 (dk_at dksX5_is_1 1 rfl rfl)
theorem dX5_is_26 : decode cX5_is 26 = .ok (.iconst 0, 1) := dk_3 (dk_at dksX5_is_1 2 rfl rfl)
theorem dX5_is_27 : decode cX5_is 27 = .ok (.istore_n 2, 1) := dk_61 (dk_at dksX5_is_1 3 rfl rfl)
theorem dX5_is_28 : decode cX5_is 28 = .ok (.iload_n 2, 1) := dk_28 (dk_at dksX5_is_1 4 rfl rfl)
theorem dX5_is_29 : decode cX5_is 29 = .ok (.aload_n 1, 1) := dk_43 (dk_at dksX5_is_1 5 rfl rfl)
theorem dX5_is_30 : decode cX5_is 30 = .ok (.invokevirtual 125, 3) := dk_182 0 125 (dk_at dksX5_is_1 6 rfl rfl)
theorem dX5_is_33 : decode cX5_is 33 = .ok (.if_icmp .ge 37, 3) := dk_162 0 37 (dk_at dksX5_is_1 9 rfl rfl)
theorem dX5_is_36 : decode cX5_is 36 = .ok (.aload_n 1, 1) := dk_43 (dk_at dksX5_is_1 12 rfl rfl)
theorem dX5_is_37 : decode cX5_is 37 = .ok (.iload_n 2, 1) := dk_28 (dk_at dksX5_is_1 13 rfl rfl)
theorem dX5_is_38 : decode cX5_is 38 = .ok (.invokevirtual 128, 3) := dk_182 0 128 (dk_at dksX5_is_1 14 rfl rfl)
theorem dX5_is_41 : decode cX5_is 41 = .ok (.aload_n 0, 1) := dk_42 (dk_at dksX5_is_1 17 rfl rfl)
theorem dX5_is_42 : decode cX5_is 42 = .ok (.getfield 3, 3) := dk_180 0 3 (dk_at dksX5_is_1 18 rfl rfl)
theorem dX5_is_45 : decode cX5_is 45 = .ok (.getfield 81, 3) := dk_180 0 81 (dk_at dksX5_is_1 21 rfl rfl)
theorem dX5_is_48 : decode cX5_is 48 = .ok (.aload_n 0, 1) := dk_42 (dk_at dksX5_is_2 0 rfl rfl)
theorem dX5_is_49 : decode cX5_is 49 = .ok (.getfield 93, 3) := dk_180 0 93 (dk_at dksX5_is_2 1 rfl rfl)
theorem dX5_is_52 : decode cX5_is 52 = .ok (.iload_n 2, 1) := dk_28 (dk_at dksX5_is_2 4 rfl rfl)
theorem dX5_is_53 : decode cX5_is 53 = .ok (.iadd, 1) := dk_96 (dk_at dksX5_is_2 5 rfl rfl)
theorem dX5_is_54 : decode cX5_is 54 = .ok (.baload, 1) := dk_51 (dk_at dksX5_is_2 6 rfl rfl)
theorem dX5_is_55 : decode cX5_is 55 = .ok (.sipush 255, 3) := dk_17 0 255 (dk_at dksX5_is_2 7 rfl rfl)
theorem dX5_is_58 : decode cX5_is 58 = .ok (.iand, 1) := dk_126 (dk_at dksX5_is_2 10 rfl rfl)
theorem dX5_is_59 : decode cX5_is 59 = .ok (.if_icmp .eq 5, 3) := dk_159 0 5 (dk_at dksX5_is_2 11 rfl rfl)
theorem dX5_is_62 : decode cX5_is 62 = .ok (.iconst 0, 1) := dk_3 (dk_at dksX5_is_2 14 rfl rfl)
theorem dX5_is_63 : decode cX5_is 63 = .ok (.ireturn, 1) := dk_172 (dk_at dksX5_is_2 15 rfl rfl)
theorem dX5_is_64 : decode cX5_is 64 = .ok (.iinc 2 1, 3) := dk_132 2 1 (dk_at dksX5_is_2 16 rfl rfl)
theorem dX5_is_67 : decode cX5_is 67 = .ok (.goto (-39), 3) := dk_167 255 217 (dk_at dksX5_is_2 19 rfl rfl)
theorem dX5_is_70 : decode cX5_is 70 = .ok (.iconst 1, 1) := dk_4 (dk_at dksX5_is_2 22 rfl rfl)
theorem dX5_is_71 : decode cX5_is 71 = .ok (.ireturn, 1) := dk_172 (dk_at dksX5_is_2 23 rfl rfl)
abbrev cX5_singer : ByteArray := prog_6_method_20_code
def yX5_singer : MethodName := ⟨RX5, "singer", "(I)V"⟩
def dkwX5_singer_4 : List UInt8 := [16, 9, 182, 0, 153, 183, 0, 222, 185, 0, 225, 2, 0, 87, 177]
abbrev dktX5_singer_4 : List UInt8 := dkwX5_singer_4 ++ []
def dkwX5_singer_3 : List UInt8 := [182, 0, 153, 54, 4, 42, 180, 0, 18, 180, 0, 212, 187, 0, 220, 89, 27, 28, 29, 21, 4, 42, 3]
abbrev dktX5_singer_3 : List UInt8 := dkwX5_singer_3 ++ dktX5_singer_4
def dkwX5_singer_2 : List UInt8 := [167, 0, 4, 3, 4, 182, 0, 144, 42, 182, 0, 136, 42, 3, 16, 48, 182, 0, 153, 62, 42, 29, 16, 48]
abbrev dktX5_singer_2 : List UInt8 := dkwX5_singer_2 ++ dktX5_singer_3
def dkwX5_singer_1 : List UInt8 := [182, 0, 144, 42, 182, 0, 136, 42, 42, 180, 0, 42, 182, 0, 164, 61, 42, 28, 2, 159, 0, 7, 4]
abbrev dktX5_singer_1 : List UInt8 := dkwX5_singer_1 ++ dktX5_singer_2
def dkwX5_singer_0 : List UInt8 := [42, 42, 180, 0, 18, 180, 0, 212, 185, 0, 216, 1, 0, 16, 14, 162, 0, 7, 4, 167, 0, 4, 3, 5]
abbrev dktX5_singer_0 : List UInt8 := dkwX5_singer_0 ++ dktX5_singer_1
theorem dksX5_singer_0 : cX5_singer.data.toList.drop 0 = dktX5_singer_0 := by decide +kernel
theorem dksX5_singer_1 : cX5_singer.data.toList.drop 24 = dktX5_singer_1 := dk_seg dksX5_singer_0 24 rfl rfl
theorem dksX5_singer_2 : cX5_singer.data.toList.drop 47 = dktX5_singer_2 := dk_seg dksX5_singer_1 23 rfl rfl
theorem dksX5_singer_3 : cX5_singer.data.toList.drop 71 = dktX5_singer_3 := dk_seg dksX5_singer_2 24 rfl rfl
theorem dksX5_singer_4 : cX5_singer.data.toList.drop 94 = dktX5_singer_4 := dk_seg dksX5_singer_3 23 rfl rfl
theorem dX5_singer_0 : decode cX5_singer 0 = .ok (.aload_n 0, 1) := dk_42 (dk_at dksX5_singer_0 0 rfl rfl)
theorem dX5_singer_1 : decode cX5_singer 1 = .ok (.aload_n 0, 1) := dk_42 (dk_at dksX5_singer_0 1 rfl rfl)
theorem dX5_singer_2 : decode cX5_singer 2 = .ok (.getfield 18, 3) := dk_180 0 18 (dk_at dksX5_singer_0 2 rfl rfl)
theorem dX5_singer_5 : decode cX5_singer 5 = .ok (.getfield 212, 3) := dk_180 0 212 (dk_at dksX5_singer_0 5 rfl rfl)
theorem dX5_singer_8 : decode cX5_singer 8 = .ok (.invokeinterface 216 1, 5) := by decide +kernel
theorem dX5_singer_13 : decode cX5_singer 13 = .ok (.bipush 14, 2) := dk_16 14 (dk_at dksX5_singer_0 13 rfl rfl)
theorem dX5_singer_15 : decode cX5_singer 15 = .ok (.if_icmp .ge 7, 3) := dk_162 0 7 (dk_at dksX5_singer_0 15 rfl rfl)
theorem dX5_singer_18 : decode cX5_singer 18 = .ok (.iconst 1, 1) := dk_4 (dk_at dksX5_singer_0 18 rfl rfl)
theorem dX5_singer_19 : decode cX5_singer 19 = .ok (.goto 4, 3) := dk_167 0 4 (dk_at dksX5_singer_0 19 rfl rfl)
theorem dX5_singer_22 : decode cX5_singer 22 = .ok (.iconst 0, 1) := dk_3 (dk_at dksX5_singer_0 22 rfl rfl)
theorem dX5_singer_23 : decode cX5_singer 23 = .ok (.iconst 2, 1) := dk_5 (dk_at dksX5_singer_0 23 rfl rfl)
theorem dX5_singer_24 : decode cX5_singer 24 = .ok (.invokevirtual 144, 3) := dk_182 0 144 (dk_at dksX5_singer_1 0 rfl rfl)
theorem dX5_singer_27 : decode cX5_singer 27 = .ok (.aload_n 0, 1) := dk_42 (dk_at dksX5_singer_1 3 rfl rfl)
theorem dX5_singer_28 : decode cX5_singer 28 = .ok (.invokevirtual 136, 3) := dk_182 0 136 (dk_at dksX5_singer_1 4 rfl rfl)
theorem dX5_singer_31 : decode cX5_singer 31 = .ok (.aload_n 0, 1) := dk_42 (dk_at dksX5_singer_1 7 rfl rfl)
theorem dX5_singer_32 : decode cX5_singer 32 = .ok (.aload_n 0, 1) := dk_42 (dk_at dksX5_singer_1 8 rfl rfl)
theorem dX5_singer_33 : decode cX5_singer 33 = .ok (.getfield 42, 3) := dk_180 0 42 (dk_at dksX5_singer_1 9 rfl rfl)
theorem dX5_singer_36 : decode cX5_singer 36 = .ok (.invokevirtual 164, 3) := dk_182 0 164 (dk_at dksX5_singer_1 12 rfl rfl)
theorem dX5_singer_39 : decode cX5_singer 39 = .ok (.istore_n 2, 1) := dk_61 (dk_at dksX5_singer_1 15 rfl rfl)
theorem dX5_singer_40 : decode cX5_singer 40 = .ok (.aload_n 0, 1) := dk_42 (dk_at dksX5_singer_1 16 rfl rfl)
theorem dX5_singer_41 : decode cX5_singer 41 = .ok (.iload_n 2, 1) := dk_28 (dk_at dksX5_singer_1 17 rfl rfl)
theorem dX5_singer_42 : decode cX5_singer 42 = .ok (.iconst (-1), 1) := dk_2 (dk_at dksX5_singer_1 18 rfl rfl)
theorem dX5_singer_43 : decode cX5_singer 43 = .ok (.if_icmp .eq 7, 3) := dk_159 0 7 (dk_at dksX5_singer_1 19 rfl rfl)
theorem dX5_singer_46 : decode cX5_singer 46 = .ok (.iconst 1, 1) := dk_4 (dk_at dksX5_singer_1 22 rfl rfl)
theorem dX5_singer_47 : decode cX5_singer 47 = .ok (.goto 4, 3) := dk_167 0 4 (dk_at dksX5_singer_2 0 rfl rfl)
theorem dX5_singer_50 : decode cX5_singer 50 = .ok (.iconst 0, 1) := dk_3 (dk_at dksX5_singer_2 3 rfl rfl)
theorem dX5_singer_51 : decode cX5_singer 51 = .ok (.iconst 1, 1) := dk_4 (dk_at dksX5_singer_2 4 rfl rfl)
theorem dX5_singer_52 : decode cX5_singer 52 = .ok (.invokevirtual 144, 3) := dk_182 0 144 (dk_at dksX5_singer_2 5 rfl rfl)
theorem dX5_singer_55 : decode cX5_singer 55 = .ok (.aload_n 0, 1) := dk_42 (dk_at dksX5_singer_2 8 rfl rfl)
theorem dX5_singer_56 : decode cX5_singer 56 = .ok (.invokevirtual 136, 3) := dk_182 0 136 (dk_at dksX5_singer_2 9 rfl rfl)
theorem dX5_singer_59 : decode cX5_singer 59 = .ok (.aload_n 0, 1) := dk_42 (dk_at dksX5_singer_2 12 rfl rfl)
theorem dX5_singer_60 : decode cX5_singer 60 = .ok (.iconst 0, 1) := dk_3 (dk_at dksX5_singer_2 13 rfl rfl)
theorem dX5_singer_61 : decode cX5_singer 61 = .ok (.bipush 48, 2) := dk_16 48 (dk_at dksX5_singer_2 14 rfl rfl)
theorem dX5_singer_63 : decode cX5_singer 63 = .ok (.invokevirtual 153, 3) := dk_182 0 153 (dk_at dksX5_singer_2 16 rfl rfl)
theorem dX5_singer_66 : decode cX5_singer 66 = .ok (.istore_n 3, 1) := dk_62 (dk_at dksX5_singer_2 19 rfl rfl)
theorem dX5_singer_67 : decode cX5_singer 67 = .ok (.aload_n 0, 1) := dk_42 (dk_at dksX5_singer_2 20 rfl rfl)
theorem dX5_singer_68 : decode cX5_singer 68 = .ok (.iload_n 3, 1) := dk_29 (dk_at dksX5_singer_2 21 rfl rfl)
theorem dX5_singer_69 : decode cX5_singer 69 = .ok (.bipush 48, 2) := dk_16 48 (dk_at dksX5_singer_2 22 rfl rfl)
theorem dX5_singer_71 : decode cX5_singer 71 = .ok (.invokevirtual 153, 3) := dk_182 0 153 (dk_at dksX5_singer_3 0 rfl rfl)
theorem dX5_singer_74 : decode cX5_singer 74 = .ok (.istore 4, 2) := dk_54 4 (dk_at dksX5_singer_3 3 rfl rfl)
theorem dX5_singer_76 : decode cX5_singer 76 = .ok (.aload_n 0, 1) := dk_42 (dk_at dksX5_singer_3 5 rfl rfl)
theorem dX5_singer_77 : decode cX5_singer 77 = .ok (.getfield 18, 3) := dk_180 0 18 (dk_at dksX5_singer_3 6 rfl rfl)
theorem dX5_singer_80 : decode cX5_singer 80 = .ok (.getfield 212, 3) := dk_180 0 212 (dk_at dksX5_singer_3 9 rfl rfl)
theorem dX5_singer_83 : decode cX5_singer 83 = .ok (.new 220, 3) := dk_187 0 220 (dk_at dksX5_singer_3 12 rfl rfl)
theorem dX5_singer_86 : decode cX5_singer 86 = .ok (.dup, 1) := dk_89 (dk_at dksX5_singer_3 15 rfl rfl)
theorem dX5_singer_87 : decode cX5_singer 87 = .ok (.iload_n 1, 1) := dk_27 (dk_at dksX5_singer_3 16 rfl rfl)
theorem dX5_singer_88 : decode cX5_singer 88 = .ok (.iload_n 2, 1) := dk_28 (dk_at dksX5_singer_3 17 rfl rfl)
theorem dX5_singer_89 : decode cX5_singer 89 = .ok (.iload_n 3, 1) := dk_29 (dk_at dksX5_singer_3 18 rfl rfl)
theorem dX5_singer_90 : decode cX5_singer 90 = .ok (.iload 4, 2) := dk_21 4 (dk_at dksX5_singer_3 19 rfl rfl)
theorem dX5_singer_92 : decode cX5_singer 92 = .ok (.aload_n 0, 1) := dk_42 (dk_at dksX5_singer_3 21 rfl rfl)
theorem dX5_singer_93 : decode cX5_singer 93 = .ok (.iconst 0, 1) := dk_3 (dk_at dksX5_singer_3 22 rfl rfl)
theorem dX5_singer_94 : decode cX5_singer 94 = .ok (.bipush 9, 2) := dk_16 9 (dk_at dksX5_singer_4 0 rfl rfl)
theorem dX5_singer_96 : decode cX5_singer 96 = .ok (.invokevirtual 153, 3) := dk_182 0 153 (dk_at dksX5_singer_4 2 rfl rfl)
theorem dX5_singer_99 : decode cX5_singer 99 = .ok (.invokespecial 222, 3) := dk_183 0 222 (dk_at dksX5_singer_4 5 rfl rfl)
theorem dX5_singer_102 : decode cX5_singer 102 = .ok (.invokeinterface 225 2, 5) := by decide +kernel
theorem dX5_singer_107 : decode cX5_singer 107 = .ok (.pop, 1) := dk_87 (dk_at dksX5_singer_4 13 rfl rfl)
theorem dX5_singer_108 : decode cX5_singer 108 = .ok (.return_, 1) := dk_177 (dk_at dksX5_singer_4 14 rfl rfl)
abbrev cX5_want : ByteArray := prog_6_method_10_code
def yX5_want : MethodName := ⟨RX5, "want", "(ZI)V"⟩
def dkwX5_want_0 : List UInt8 := [27, 154, 0, 12, 187, 0, 139, 89, 28, 183, 0, 141, 191, 177]
abbrev dktX5_want_0 : List UInt8 := dkwX5_want_0 ++ []
theorem dksX5_want_0 : cX5_want.data.toList.drop 0 = dktX5_want_0 := by decide +kernel
theorem dX5_want_0 : decode cX5_want 0 = .ok (.iload_n 1, 1) := dk_27 (dk_at dksX5_want_0 0 rfl rfl)
theorem dX5_want_1 : decode cX5_want 1 = .ok (.ifCond .ne 12, 3) := dk_154 0 12 (dk_at dksX5_want_0 1 rfl rfl)
theorem dX5_want_4 : decode cX5_want 4 = .ok (.new 139, 3) := dk_187 0 139 (dk_at dksX5_want_0 4 rfl rfl)
theorem dX5_want_7 : decode cX5_want 7 = .ok (.dup, 1) := dk_89 (dk_at dksX5_want_0 7 rfl rfl)
theorem dX5_want_8 : decode cX5_want 8 = .ok (.iload_n 2, 1) := dk_28 (dk_at dksX5_want_0 8 rfl rfl)
theorem dX5_want_9 : decode cX5_want 9 = .ok (.invokespecial 141, 3) := dk_183 0 141 (dk_at dksX5_want_0 9 rfl rfl)
theorem dX5_want_12 : decode cX5_want 12 = .ok (.athrow, 1) := dk_191 (dk_at dksX5_want_0 12 rfl rfl)
theorem dX5_want_13 : decode cX5_want 13 = .ok (.return_, 1) := dk_177 (dk_at dksX5_want_0 13 rfl rfl)
abbrev cX5_number : ByteArray := prog_6_method_12_code
def yX5_number : MethodName := ⟨RX5, "number", "(II)I"⟩
def dkwX5_number_0 : List UInt8 := [42, 27, 28, 182, 0, 148, 62, 42, 182, 0, 136, 29, 172]
abbrev dktX5_number_0 : List UInt8 := dkwX5_number_0 ++ []
theorem dksX5_number_0 : cX5_number.data.toList.drop 0 = dktX5_number_0 := by decide +kernel
theorem dX5_number_0 : decode cX5_number 0 = .ok (.aload_n 0, 1) := dk_42 (dk_at dksX5_number_0 0 rfl rfl)
theorem dX5_number_1 : decode cX5_number 1 = .ok (.iload_n 1, 1) := dk_27 (dk_at dksX5_number_0 1 rfl rfl)
theorem dX5_number_2 : decode cX5_number 2 = .ok (.iload_n 2, 1) := dk_28 (dk_at dksX5_number_0 2 rfl rfl)
theorem dX5_number_3 : decode cX5_number 3 = .ok (.invokevirtual 148, 3) := dk_182 0 148 (dk_at dksX5_number_0 3 rfl rfl)
theorem dX5_number_6 : decode cX5_number 6 = .ok (.istore_n 3, 1) := dk_62 (dk_at dksX5_number_0 6 rfl rfl)
theorem dX5_number_7 : decode cX5_number 7 = .ok (.aload_n 0, 1) := dk_42 (dk_at dksX5_number_0 7 rfl rfl)
theorem dX5_number_8 : decode cX5_number 8 = .ok (.invokevirtual 136, 3) := dk_182 0 136 (dk_at dksX5_number_0 8 rfl rfl)
theorem dX5_number_11 : decode cX5_number 11 = .ok (.iload_n 3, 1) := dk_29 (dk_at dksX5_number_0 11 rfl rfl)
theorem dX5_number_12 : decode cX5_number 12 = .ok (.ireturn, 1) := dk_172 (dk_at dksX5_number_0 12 rfl rfl)
abbrev cX5_numberNow : ByteArray := prog_6_method_11_code
def yX5_numberNow : MethodName := ⟨RX5, "numberNow", "(II)I"⟩
def dkwX5_numberNow_2 : List UInt8 := [4, 167, 0, 4, 3, 5, 182, 0, 144, 42, 180, 0, 106, 172]
abbrev dktX5_numberNow_2 : List UInt8 := dkwX5_numberNow_2 ++ []
def dkwX5_numberNow_1 : List UInt8 := [180, 0, 93, 100, 7, 163, 0, 23, 42, 180, 0, 106, 27, 161, 0, 15, 42, 180, 0, 106, 28, 163, 0, 7]
abbrev dktX5_numberNow_1 : List UInt8 := dkwX5_numberNow_1 ++ dktX5_numberNow_2
def dkwX5_numberNow_0 : List UInt8 := [42, 42, 180, 0, 96, 5, 160, 0, 7, 4, 167, 0, 4, 3, 4, 182, 0, 144, 42, 42, 180, 0, 122, 42]
abbrev dktX5_numberNow_0 : List UInt8 := dkwX5_numberNow_0 ++ dktX5_numberNow_1
theorem dksX5_numberNow_0 : cX5_numberNow.data.toList.drop 0 = dktX5_numberNow_0 := by decide +kernel
theorem dksX5_numberNow_1 : cX5_numberNow.data.toList.drop 24 = dktX5_numberNow_1 := dk_seg dksX5_numberNow_0 24 rfl rfl
theorem dksX5_numberNow_2 : cX5_numberNow.data.toList.drop 48 = dktX5_numberNow_2 := dk_seg dksX5_numberNow_1 24 rfl rfl
theorem dX5_numberNow_0 : decode cX5_numberNow 0 = .ok (.aload_n 0, 1) := dk_42 (dk_at dksX5_numberNow_0 0 rfl rfl)
theorem dX5_numberNow_1 : decode cX5_numberNow 1 = .ok (.aload_n 0, 1) := dk_42 (dk_at dksX5_numberNow_0 1 rfl rfl)
theorem dX5_numberNow_2 : decode cX5_numberNow 2 = .ok (.getfield 96, 3) := dk_180 0 96 (dk_at dksX5_numberNow_0 2 rfl rfl)
theorem dX5_numberNow_5 : decode cX5_numberNow 5 = .ok (.iconst 2, 1) := dk_5 (dk_at dksX5_numberNow_0 5 rfl rfl)
theorem dX5_numberNow_6 : decode cX5_numberNow 6 = .ok (.if_icmp .ne 7, 3) := dk_160 0 7 (dk_at dksX5_numberNow_0 6 rfl rfl)
theorem dX5_numberNow_9 : decode cX5_numberNow 9 = .ok (.iconst 1, 1) := dk_4 (dk_at dksX5_numberNow_0 9 rfl rfl)
theorem dX5_numberNow_10 : decode cX5_numberNow 10 = .ok (.goto 4, 3) := dk_167 0 4 (dk_at dksX5_numberNow_0 10 rfl rfl)
theorem dX5_numberNow_13 : decode cX5_numberNow 13 = .ok (.iconst 0, 1) := dk_3 (dk_at dksX5_numberNow_0 13 rfl rfl)
theorem dX5_numberNow_14 : decode cX5_numberNow 14 = .ok (.iconst 1, 1) := dk_4 (dk_at dksX5_numberNow_0 14 rfl rfl)
theorem dX5_numberNow_15 : decode cX5_numberNow 15 = .ok (.invokevirtual 144, 3) := dk_182 0 144 (dk_at dksX5_numberNow_0 15 rfl rfl)
theorem dX5_numberNow_18 : decode cX5_numberNow 18 = .ok (.aload_n 0, 1) := dk_42 (dk_at dksX5_numberNow_0 18 rfl rfl)
theorem dX5_numberNow_19 : decode cX5_numberNow 19 = .ok (.aload_n 0, 1) := dk_42 (dk_at dksX5_numberNow_0 19 rfl rfl)
theorem dX5_numberNow_20 : decode cX5_numberNow 20 = .ok (.getfield 122, 3) := dk_180 0 122 (dk_at dksX5_numberNow_0 20 rfl rfl)
theorem dX5_numberNow_23 : decode cX5_numberNow 23 = .ok (.aload_n 0, 1) := dk_42 (dk_at dksX5_numberNow_0 23 rfl rfl)
theorem dX5_numberNow_24 : decode cX5_numberNow 24 = .ok (.getfield 93, 3) := dk_180 0 93 (dk_at dksX5_numberNow_1 0 rfl rfl)
theorem dX5_numberNow_27 : decode cX5_numberNow 27 = .ok (.isub, 1) := dk_100 (dk_at dksX5_numberNow_1 3 rfl rfl)
theorem dX5_numberNow_28 : decode cX5_numberNow 28 = .ok (.iconst 4, 1) := dk_7 (dk_at dksX5_numberNow_1 4 rfl rfl)
theorem dX5_numberNow_29 : decode cX5_numberNow 29 = .ok (.if_icmp .gt 23, 3) := dk_163 0 23 (dk_at dksX5_numberNow_1 5 rfl rfl)
theorem dX5_numberNow_32 : decode cX5_numberNow 32 = .ok (.aload_n 0, 1) := dk_42 (dk_at dksX5_numberNow_1 8 rfl rfl)
theorem dX5_numberNow_33 : decode cX5_numberNow 33 = .ok (.getfield 106, 3) := dk_180 0 106 (dk_at dksX5_numberNow_1 9 rfl rfl)
theorem dX5_numberNow_36 : decode cX5_numberNow 36 = .ok (.iload_n 1, 1) := dk_27 (dk_at dksX5_numberNow_1 12 rfl rfl)
theorem dX5_numberNow_37 : decode cX5_numberNow 37 = .ok (.if_icmp .lt 15, 3) := dk_161 0 15 (dk_at dksX5_numberNow_1 13 rfl rfl)
theorem dX5_numberNow_40 : decode cX5_numberNow 40 = .ok (.aload_n 0, 1) := dk_42 (dk_at dksX5_numberNow_1 16 rfl rfl)
theorem dX5_numberNow_41 : decode cX5_numberNow 41 = .ok (.getfield 106, 3) := dk_180 0 106 (dk_at dksX5_numberNow_1 17 rfl rfl)
theorem dX5_numberNow_44 : decode cX5_numberNow 44 = .ok (.iload_n 2, 1) := dk_28 (dk_at dksX5_numberNow_1 20 rfl rfl)
theorem dX5_numberNow_45 : decode cX5_numberNow 45 = .ok (.if_icmp .gt 7, 3) := dk_163 0 7 (dk_at dksX5_numberNow_1 21 rfl rfl)
theorem dX5_numberNow_48 : decode cX5_numberNow 48 = .ok (.iconst 1, 1) := dk_4 (dk_at dksX5_numberNow_2 0 rfl rfl)
theorem dX5_numberNow_49 : decode cX5_numberNow 49 = .ok (.goto 4, 3) := dk_167 0 4 (dk_at dksX5_numberNow_2 1 rfl rfl)
theorem dX5_numberNow_52 : decode cX5_numberNow 52 = .ok (.iconst 0, 1) := dk_3 (dk_at dksX5_numberNow_2 4 rfl rfl)
theorem dX5_numberNow_53 : decode cX5_numberNow 53 = .ok (.iconst 2, 1) := dk_5 (dk_at dksX5_numberNow_2 5 rfl rfl)
theorem dX5_numberNow_54 : decode cX5_numberNow 54 = .ok (.invokevirtual 144, 3) := dk_182 0 144 (dk_at dksX5_numberNow_2 6 rfl rfl)
theorem dX5_numberNow_57 : decode cX5_numberNow 57 = .ok (.aload_n 0, 1) := dk_42 (dk_at dksX5_numberNow_2 9 rfl rfl)
theorem dX5_numberNow_58 : decode cX5_numberNow 58 = .ok (.getfield 106, 3) := dk_180 0 106 (dk_at dksX5_numberNow_2 10 rfl rfl)
theorem dX5_numberNow_61 : decode cX5_numberNow 61 = .ok (.ireturn, 1) := dk_172 (dk_at dksX5_numberNow_2 13 rfl rfl)
abbrev cX5_row : ByteArray := prog_6_method_21_code
def yX5_row : MethodName := ⟨RX5, "row", "(I)V"⟩
def dkwX5_row_7 : List UInt8 := [27, 45, 83, 177]
abbrev dktX5_row_7 : List UInt8 := dkwX5_row_7 ++ []
def dkwX5_row_6 : List UInt8 := [45, 180, 0, 243, 42, 3, 16, 48, 182, 0, 153, 184, 0, 246, 185, 0, 225, 2, 0, 87, 167, 255, 204, 44]
abbrev dktX5_row_6 : List UInt8 := dkwX5_row_6 ++ dktX5_row_7
def dkwX5_row_5 : List UInt8 := [42, 45, 180, 0, 243, 185, 0, 216, 1, 0, 16, 12, 162, 0, 7, 4, 167, 0, 4, 3, 5, 182, 0, 144]
abbrev dktX5_row_5 : List UInt8 := dkwX5_row_5 ++ dktX5_row_6
def dkwX5_row_4 : List UInt8 := [180, 0, 96, 5, 160, 0, 7, 4, 167, 0, 4, 3, 4, 182, 0, 144, 42, 180, 0, 96, 5, 160, 0, 50]
abbrev dktX5_row_4 : List UInt8 := dkwX5_row_4 ++ dktX5_row_5
def dkwX5_row_3 : List UInt8 := [182, 0, 144, 42, 182, 0, 136, 187, 0, 240, 89, 42, 4, 7, 182, 0, 153, 183, 0, 242, 78, 42, 42]
abbrev dktX5_row_3 : List UInt8 := dkwX5_row_3 ++ dktX5_row_4
def dkwX5_row_2 : List UInt8 := [185, 0, 234, 2, 0, 192, 0, 238, 77, 42, 44, 27, 50, 199, 0, 7, 4, 167, 0, 4, 3, 7]
abbrev dktX5_row_2 : List UInt8 := dkwX5_row_2 ++ dktX5_row_3
def dkwX5_row_1 : List UInt8 := [182, 0, 144, 42, 180, 0, 18, 180, 0, 228, 42, 180, 0, 18, 180, 0, 228, 185, 0, 216, 1, 0, 4, 100]
abbrev dktX5_row_1 : List UInt8 := dkwX5_row_1 ++ dktX5_row_2
def dkwX5_row_0 : List UInt8 := [42, 42, 180, 0, 18, 180, 0, 228, 185, 0, 231, 1, 0, 154, 0, 7, 4, 167, 0, 4, 3, 4]
abbrev dktX5_row_0 : List UInt8 := dkwX5_row_0 ++ dktX5_row_1
theorem dksX5_row_0 : cX5_row.data.toList.drop 0 = dktX5_row_0 := by decide +kernel
theorem dksX5_row_1 : cX5_row.data.toList.drop 22 = dktX5_row_1 := dk_seg dksX5_row_0 22 rfl rfl
theorem dksX5_row_2 : cX5_row.data.toList.drop 46 = dktX5_row_2 := dk_seg dksX5_row_1 24 rfl rfl
theorem dksX5_row_3 : cX5_row.data.toList.drop 68 = dktX5_row_3 := dk_seg dksX5_row_2 22 rfl rfl
theorem dksX5_row_4 : cX5_row.data.toList.drop 91 = dktX5_row_4 := dk_seg dksX5_row_3 23 rfl rfl
theorem dksX5_row_5 : cX5_row.data.toList.drop 115 = dktX5_row_5 := dk_seg dksX5_row_4 24 rfl rfl
theorem dksX5_row_6 : cX5_row.data.toList.drop 139 = dktX5_row_6 := dk_seg dksX5_row_5 24 rfl rfl
theorem dksX5_row_7 : cX5_row.data.toList.drop 163 = dktX5_row_7 := dk_seg dksX5_row_6 24 rfl rfl
theorem dX5_row_0 : decode cX5_row 0 = .ok (.aload_n 0, 1) := dk_42 (dk_at dksX5_row_0 0 rfl rfl)
theorem dX5_row_1 : decode cX5_row 1 = .ok (.aload_n 0, 1) := dk_42 (dk_at dksX5_row_0 1 rfl rfl)
theorem dX5_row_2 : decode cX5_row 2 = .ok (.getfield 18, 3) := dk_180 0 18 (dk_at dksX5_row_0 2 rfl rfl)
theorem dX5_row_5 : decode cX5_row 5 = .ok (.getfield 228, 3) := dk_180 0 228 (dk_at dksX5_row_0 5 rfl rfl)
theorem dX5_row_8 : decode cX5_row 8 = .ok (.invokeinterface 231 1, 5) := by decide +kernel
theorem dX5_row_13 : decode cX5_row 13 = .ok (.ifCond .ne 7, 3) := dk_154 0 7 (dk_at dksX5_row_0 13 rfl rfl)
theorem dX5_row_16 : decode cX5_row 16 = .ok (.iconst 1, 1) := dk_4 (dk_at dksX5_row_0 16 rfl rfl)
theorem dX5_row_17 : decode cX5_row 17 = .ok (.goto 4, 3) := dk_167 0 4 (dk_at dksX5_row_0 17 rfl rfl)
theorem dX5_row_20 : decode cX5_row 20 = .ok (.iconst 0, 1) := dk_3 (dk_at dksX5_row_0 20 rfl rfl)
theorem dX5_row_21 : decode cX5_row 21 = .ok (.iconst 1, 1) := dk_4 (dk_at dksX5_row_0 21 rfl rfl)
theorem dX5_row_22 : decode cX5_row 22 = .ok (.invokevirtual 144, 3) := dk_182 0 144 (dk_at dksX5_row_1 0 rfl rfl)
theorem dX5_row_25 : decode cX5_row 25 = .ok (.aload_n 0, 1) := dk_42 (dk_at dksX5_row_1 3 rfl rfl)
theorem dX5_row_26 : decode cX5_row 26 = .ok (.getfield 18, 3) := dk_180 0 18 (dk_at dksX5_row_1 4 rfl rfl)
theorem dX5_row_29 : decode cX5_row 29 = .ok (.getfield 228, 3) := dk_180 0 228 (dk_at dksX5_row_1 7 rfl rfl)
theorem dX5_row_32 : decode cX5_row 32 = .ok (.aload_n 0, 1) := dk_42 (dk_at dksX5_row_1 10 rfl rfl)
theorem dX5_row_33 : decode cX5_row 33 = .ok (.getfield 18, 3) := dk_180 0 18 (dk_at dksX5_row_1 11 rfl rfl)
theorem dX5_row_36 : decode cX5_row 36 = .ok (.getfield 228, 3) := dk_180 0 228 (dk_at dksX5_row_1 14 rfl rfl)
theorem dX5_row_39 : decode cX5_row 39 = .ok (.invokeinterface 216 1, 5) := by decide +kernel
theorem dX5_row_44 : decode cX5_row 44 = .ok (.iconst 1, 1) := dk_4 (dk_at dksX5_row_1 22 rfl rfl)
theorem dX5_row_45 : decode cX5_row 45 = .ok (.isub, 1) := dk_100 (dk_at dksX5_row_1 23 rfl rfl)
theorem dX5_row_46 : decode cX5_row 46 = .ok (.invokeinterface 234 2, 5) := by decide +kernel
theorem dX5_row_51 : decode cX5_row 51 = .ok (.checkcast 238, 3) := dk_192 0 238 (dk_at dksX5_row_2 5 rfl rfl)
theorem dX5_row_54 : decode cX5_row 54 = .ok (.astore_n 2, 1) := dk_77 (dk_at dksX5_row_2 8 rfl rfl)
theorem dX5_row_55 : decode cX5_row 55 = .ok (.aload_n 0, 1) := dk_42 (dk_at dksX5_row_2 9 rfl rfl)
theorem dX5_row_56 : decode cX5_row 56 = .ok (.aload_n 2, 1) := dk_44 (dk_at dksX5_row_2 10 rfl rfl)
theorem dX5_row_57 : decode cX5_row 57 = .ok (.iload_n 1, 1) := dk_27 (dk_at dksX5_row_2 11 rfl rfl)
theorem dX5_row_58 : decode cX5_row 58 = .ok (.aaload, 1) := dk_50 (dk_at dksX5_row_2 12 rfl rfl)
theorem dX5_row_59 : decode cX5_row 59 = .ok (.ifnonnull 7, 3) := dk_199 0 7 (dk_at dksX5_row_2 13 rfl rfl)
theorem dX5_row_62 : decode cX5_row 62 = .ok (.iconst 1, 1) := dk_4 (dk_at dksX5_row_2 16 rfl rfl)
theorem dX5_row_63 : decode cX5_row 63 = .ok (.goto 4, 3) := dk_167 0 4 (dk_at dksX5_row_2 17 rfl rfl)
theorem dX5_row_66 : decode cX5_row 66 = .ok (.iconst 0, 1) := dk_3 (dk_at dksX5_row_2 20 rfl rfl)
theorem dX5_row_67 : decode cX5_row 67 = .ok (.iconst 4, 1) := dk_7 (dk_at dksX5_row_2 21 rfl rfl)
theorem dX5_row_68 : decode cX5_row 68 = .ok (.invokevirtual 144, 3) := dk_182 0 144 (dk_at dksX5_row_3 0 rfl rfl)
theorem dX5_row_71 : decode cX5_row 71 = .ok (.aload_n 0, 1) := dk_42 (dk_at dksX5_row_3 3 rfl rfl)
theorem dX5_row_72 : decode cX5_row 72 = .ok (.invokevirtual 136, 3) := dk_182 0 136 (dk_at dksX5_row_3 4 rfl rfl)
theorem dX5_row_75 : decode cX5_row 75 = .ok (.new 240, 3) := dk_187 0 240 (dk_at dksX5_row_3 7 rfl rfl)
theorem dX5_row_78 : decode cX5_row 78 = .ok (.dup, 1) := dk_89 (dk_at dksX5_row_3 10 rfl rfl)
theorem dX5_row_79 : decode cX5_row 79 = .ok (.aload_n 0, 1) := dk_42 (dk_at dksX5_row_3 11 rfl rfl)
theorem dX5_row_80 : decode cX5_row 80 = .ok (.iconst 1, 1) := dk_4 (dk_at dksX5_row_3 12 rfl rfl)
theorem dX5_row_81 : decode cX5_row 81 = .ok (.iconst 4, 1) := dk_7 (dk_at dksX5_row_3 13 rfl rfl)
theorem dX5_row_82 : decode cX5_row 82 = .ok (.invokevirtual 153, 3) := dk_182 0 153 (dk_at dksX5_row_3 14 rfl rfl)
theorem dX5_row_85 : decode cX5_row 85 = .ok (.invokespecial 242, 3) := dk_183 0 242 (dk_at dksX5_row_3 17 rfl rfl)
theorem dX5_row_88 : decode cX5_row 88 = .ok (.astore_n 3, 1) := dk_78 (dk_at dksX5_row_3 20 rfl rfl)
theorem dX5_row_89 : decode cX5_row 89 = .ok (.aload_n 0, 1) := dk_42 (dk_at dksX5_row_3 21 rfl rfl)
theorem dX5_row_90 : decode cX5_row 90 = .ok (.aload_n 0, 1) := dk_42 (dk_at dksX5_row_3 22 rfl rfl)
theorem dX5_row_91 : decode cX5_row 91 = .ok (.getfield 96, 3) := dk_180 0 96 (dk_at dksX5_row_4 0 rfl rfl)
theorem dX5_row_94 : decode cX5_row 94 = .ok (.iconst 2, 1) := dk_5 (dk_at dksX5_row_4 3 rfl rfl)
theorem dX5_row_95 : decode cX5_row 95 = .ok (.if_icmp .ne 7, 3) := dk_160 0 7 (dk_at dksX5_row_4 4 rfl rfl)
theorem dX5_row_98 : decode cX5_row 98 = .ok (.iconst 1, 1) := dk_4 (dk_at dksX5_row_4 7 rfl rfl)
theorem dX5_row_99 : decode cX5_row 99 = .ok (.goto 4, 3) := dk_167 0 4 (dk_at dksX5_row_4 8 rfl rfl)
theorem dX5_row_102 : decode cX5_row 102 = .ok (.iconst 0, 1) := dk_3 (dk_at dksX5_row_4 11 rfl rfl)
theorem dX5_row_103 : decode cX5_row 103 = .ok (.iconst 1, 1) := dk_4 (dk_at dksX5_row_4 12 rfl rfl)
theorem dX5_row_104 : decode cX5_row 104 = .ok (.invokevirtual 144, 3) := dk_182 0 144 (dk_at dksX5_row_4 13 rfl rfl)
theorem dX5_row_107 : decode cX5_row 107 = .ok (.aload_n 0, 1) := dk_42 (dk_at dksX5_row_4 16 rfl rfl)
theorem dX5_row_108 : decode cX5_row 108 = .ok (.getfield 96, 3) := dk_180 0 96 (dk_at dksX5_row_4 17 rfl rfl)
theorem dX5_row_111 : decode cX5_row 111 = .ok (.iconst 2, 1) := dk_5 (dk_at dksX5_row_4 20 rfl rfl)
theorem dX5_row_112 : decode cX5_row 112 = .ok (.if_icmp .ne 50, 3) := dk_160 0 50 (dk_at dksX5_row_4 21 rfl rfl)
theorem dX5_row_115 : decode cX5_row 115 = .ok (.aload_n 0, 1) := dk_42 (dk_at dksX5_row_5 0 rfl rfl)
theorem dX5_row_116 : decode cX5_row 116 = .ok (.aload_n 3, 1) := dk_45 (dk_at dksX5_row_5 1 rfl rfl)
theorem dX5_row_117 : decode cX5_row 117 = .ok (.getfield 243, 3) := dk_180 0 243 (dk_at dksX5_row_5 2 rfl rfl)
theorem dX5_row_120 : decode cX5_row 120 = .ok (.invokeinterface 216 1, 5) := by decide +kernel
theorem dX5_row_125 : decode cX5_row 125 = .ok (.bipush 12, 2) := dk_16 12 (dk_at dksX5_row_5 10 rfl rfl)
theorem dX5_row_127 : decode cX5_row 127 = .ok (.if_icmp .ge 7, 3) := dk_162 0 7 (dk_at dksX5_row_5 12 rfl rfl)
theorem dX5_row_130 : decode cX5_row 130 = .ok (.iconst 1, 1) := dk_4 (dk_at dksX5_row_5 15 rfl rfl)
theorem dX5_row_131 : decode cX5_row 131 = .ok (.goto 4, 3) := dk_167 0 4 (dk_at dksX5_row_5 16 rfl rfl)
theorem dX5_row_134 : decode cX5_row 134 = .ok (.iconst 0, 1) := dk_3 (dk_at dksX5_row_5 19 rfl rfl)
theorem dX5_row_135 : decode cX5_row 135 = .ok (.iconst 2, 1) := dk_5 (dk_at dksX5_row_5 20 rfl rfl)
theorem dX5_row_136 : decode cX5_row 136 = .ok (.invokevirtual 144, 3) := dk_182 0 144 (dk_at dksX5_row_5 21 rfl rfl)
theorem dX5_row_139 : decode cX5_row 139 = .ok (.aload_n 3, 1) := dk_45 (dk_at dksX5_row_6 0 rfl rfl)
theorem dX5_row_140 : decode cX5_row 140 = .ok (.getfield 243, 3) := dk_180 0 243 (dk_at dksX5_row_6 1 rfl rfl)
theorem dX5_row_143 : decode cX5_row 143 = .ok (.aload_n 0, 1) := dk_42 (dk_at dksX5_row_6 4 rfl rfl)
theorem dX5_row_144 : decode cX5_row 144 = .ok (.iconst 0, 1) := dk_3 (dk_at dksX5_row_6 5 rfl rfl)
theorem dX5_row_145 : decode cX5_row 145 = .ok (.bipush 48, 2) := dk_16 48 (dk_at dksX5_row_6 6 rfl rfl)
theorem dX5_row_147 : decode cX5_row 147 = .ok (.invokevirtual 153, 3) := dk_182 0 153 (dk_at dksX5_row_6 8 rfl rfl)
theorem dX5_row_150 : decode cX5_row 150 = .ok (.invokestatic 246, 3) := dk_184 0 246 (dk_at dksX5_row_6 11 rfl rfl)
theorem dX5_row_153 : decode cX5_row 153 = .ok (.invokeinterface 225 2, 5) := by decide +kernel
theorem dX5_row_158 : decode cX5_row 158 = .ok (.pop, 1) := dk_87 (dk_at dksX5_row_6 19 rfl rfl)
theorem dX5_row_159 : decode cX5_row 159 = .ok (.goto (-52), 3) := dk_167 255 204 (dk_at dksX5_row_6 20 rfl rfl)
theorem dX5_row_162 : decode cX5_row 162 = .ok (.aload_n 2, 1) := dk_44 (dk_at dksX5_row_6 23 rfl rfl)
theorem dX5_row_163 : decode cX5_row 163 = .ok (.iload_n 1, 1) := dk_27 (dk_at dksX5_row_7 0 rfl rfl)
theorem dX5_row_164 : decode cX5_row 164 = .ok (.aload_n 3, 1) := dk_45 (dk_at dksX5_row_7 1 rfl rfl)
theorem dX5_row_165 : decode cX5_row 165 = .ok (.aastore, 1) := dk_83 (dk_at dksX5_row_7 2 rfl rfl)
theorem dX5_row_166 : decode cX5_row 166 = .ok (.return_, 1) := dk_177 (dk_at dksX5_row_7 3 rfl rfl)
abbrev cX5_rule : ByteArray := prog_6_method_22_code
def yX5_rule : MethodName := ⟨RX5, "rule", "(Z)V"⟩
def dkwX5_rule_4 : List UInt8 := [42, 3, 182, 0, 160, 83, 177]
abbrev dktX5_rule_4 : List UInt8 := dkwX5_rule_4 ++ []
def dkwX5_rule_3 : List UInt8 := [182, 0, 136, 42, 27, 153, 0, 10, 42, 180, 0, 68, 167, 0, 7, 42, 180, 0, 57, 181, 0, 71, 45, 28]
abbrev dktX5_rule_3 : List UInt8 := dkwX5_rule_3 ++ dktX5_rule_4
def dkwX5_rule_2 : List UInt8 := [180, 0, 18, 180, 1, 0, 78, 42, 45, 28, 50, 199, 0, 7, 4, 167, 0, 4, 3, 8, 182, 0, 144, 42]
abbrev dktX5_rule_2 : List UInt8 := dkwX5_rule_2 ++ dktX5_rule_3
def dkwX5_rule_1 : List UInt8 := [167, 0, 4, 3, 4, 182, 0, 144, 27, 153, 0, 13, 42, 180, 0, 18, 180, 0, 252, 167, 0, 10, 42]
abbrev dktX5_rule_1 : List UInt8 := dkwX5_rule_1 ++ dktX5_rule_2
def dkwX5_rule_0 : List UInt8 := [42, 182, 0, 136, 42, 42, 180, 0, 30, 182, 0, 164, 61, 42, 28, 153, 0, 8, 28, 4, 160, 0, 7, 4]
abbrev dktX5_rule_0 : List UInt8 := dkwX5_rule_0 ++ dktX5_rule_1
theorem dksX5_rule_0 : cX5_rule.data.toList.drop 0 = dktX5_rule_0 := by decide +kernel
theorem dksX5_rule_1 : cX5_rule.data.toList.drop 24 = dktX5_rule_1 := dk_seg dksX5_rule_0 24 rfl rfl
theorem dksX5_rule_2 : cX5_rule.data.toList.drop 47 = dktX5_rule_2 := dk_seg dksX5_rule_1 23 rfl rfl
theorem dksX5_rule_3 : cX5_rule.data.toList.drop 71 = dktX5_rule_3 := dk_seg dksX5_rule_2 24 rfl rfl
theorem dksX5_rule_4 : cX5_rule.data.toList.drop 95 = dktX5_rule_4 := dk_seg dksX5_rule_3 24 rfl rfl
theorem dX5_rule_0 : decode cX5_rule 0 = .ok (.aload_n 0, 1) := dk_42 (dk_at dksX5_rule_0 0 rfl rfl)
theorem dX5_rule_1 : decode cX5_rule 1 = .ok (.invokevirtual 136, 3) := dk_182 0 136 (dk_at dksX5_rule_0 1 rfl rfl)
theorem dX5_rule_4 : decode cX5_rule 4 = .ok (.aload_n 0, 1) := dk_42 (dk_at dksX5_rule_0 4 rfl rfl)
theorem dX5_rule_5 : decode cX5_rule 5 = .ok (.aload_n 0, 1) := dk_42 (dk_at dksX5_rule_0 5 rfl rfl)
theorem dX5_rule_6 : decode cX5_rule 6 = .ok (.getfield 30, 3) := dk_180 0 30 (dk_at dksX5_rule_0 6 rfl rfl)
theorem dX5_rule_9 : decode cX5_rule 9 = .ok (.invokevirtual 164, 3) := dk_182 0 164 (dk_at dksX5_rule_0 9 rfl rfl)
theorem dX5_rule_12 : decode cX5_rule 12 = .ok (.istore_n 2, 1) := dk_61 (dk_at dksX5_rule_0 12 rfl rfl)
theorem dX5_rule_13 : decode cX5_rule 13 = .ok (.aload_n 0, 1) := dk_42 (dk_at dksX5_rule_0 13 rfl rfl)
theorem dX5_rule_14 : decode cX5_rule 14 = .ok (.iload_n 2, 1) := dk_28 (dk_at dksX5_rule_0 14 rfl rfl)
theorem dX5_rule_15 : decode cX5_rule 15 = .ok (.ifCond .eq 8, 3) := dk_153 0 8 (dk_at dksX5_rule_0 15 rfl rfl)
theorem dX5_rule_18 : decode cX5_rule 18 = .ok (.iload_n 2, 1) := dk_28 (dk_at dksX5_rule_0 18 rfl rfl)
theorem dX5_rule_19 : decode cX5_rule 19 = .ok (.iconst 1, 1) := dk_4 (dk_at dksX5_rule_0 19 rfl rfl)
theorem dX5_rule_20 : decode cX5_rule 20 = .ok (.if_icmp .ne 7, 3) := dk_160 0 7 (dk_at dksX5_rule_0 20 rfl rfl)
theorem dX5_rule_23 : decode cX5_rule 23 = .ok (.iconst 1, 1) := dk_4 (dk_at dksX5_rule_0 23 rfl rfl)
theorem dX5_rule_24 : decode cX5_rule 24 = .ok (.goto 4, 3) := dk_167 0 4 (dk_at dksX5_rule_1 0 rfl rfl)
theorem dX5_rule_27 : decode cX5_rule 27 = .ok (.iconst 0, 1) := dk_3 (dk_at dksX5_rule_1 3 rfl rfl)
theorem dX5_rule_28 : decode cX5_rule 28 = .ok (.iconst 1, 1) := dk_4 (dk_at dksX5_rule_1 4 rfl rfl)
theorem dX5_rule_29 : decode cX5_rule 29 = .ok (.invokevirtual 144, 3) := dk_182 0 144 (dk_at dksX5_rule_1 5 rfl rfl)
theorem dX5_rule_32 : decode cX5_rule 32 = .ok (.iload_n 1, 1) := dk_27 (dk_at dksX5_rule_1 8 rfl rfl)
theorem dX5_rule_33 : decode cX5_rule 33 = .ok (.ifCond .eq 13, 3) := dk_153 0 13 (dk_at dksX5_rule_1 9 rfl rfl)
theorem dX5_rule_36 : decode cX5_rule 36 = .ok (.aload_n 0, 1) := dk_42 (dk_at dksX5_rule_1 12 rfl rfl)
theorem dX5_rule_37 : decode cX5_rule 37 = .ok (.getfield 18, 3) := dk_180 0 18 (dk_at dksX5_rule_1 13 rfl rfl)
theorem dX5_rule_40 : decode cX5_rule 40 = .ok (.getfield 252, 3) := dk_180 0 252 (dk_at dksX5_rule_1 16 rfl rfl)
theorem dX5_rule_43 : decode cX5_rule 43 = .ok (.goto 10, 3) := dk_167 0 10 (dk_at dksX5_rule_1 19 rfl rfl)
theorem dX5_rule_46 : decode cX5_rule 46 = .ok (.aload_n 0, 1) := dk_42 (dk_at dksX5_rule_1 22 rfl rfl)
theorem dX5_rule_47 : decode cX5_rule 47 = .ok (.getfield 18, 3) := dk_180 0 18 (dk_at dksX5_rule_2 0 rfl rfl)
theorem dX5_rule_50 : decode cX5_rule 50 = .ok (.getfield 256, 3) := dk_180 1 0 (dk_at dksX5_rule_2 3 rfl rfl)
theorem dX5_rule_53 : decode cX5_rule 53 = .ok (.astore_n 3, 1) := dk_78 (dk_at dksX5_rule_2 6 rfl rfl)
theorem dX5_rule_54 : decode cX5_rule 54 = .ok (.aload_n 0, 1) := dk_42 (dk_at dksX5_rule_2 7 rfl rfl)
theorem dX5_rule_55 : decode cX5_rule 55 = .ok (.aload_n 3, 1) := dk_45 (dk_at dksX5_rule_2 8 rfl rfl)
theorem dX5_rule_56 : decode cX5_rule 56 = .ok (.iload_n 2, 1) := dk_28 (dk_at dksX5_rule_2 9 rfl rfl)
theorem dX5_rule_57 : decode cX5_rule 57 = .ok (.aaload, 1) := dk_50 (dk_at dksX5_rule_2 10 rfl rfl)
theorem dX5_rule_58 : decode cX5_rule 58 = .ok (.ifnonnull 7, 3) := dk_199 0 7 (dk_at dksX5_rule_2 11 rfl rfl)
theorem dX5_rule_61 : decode cX5_rule 61 = .ok (.iconst 1, 1) := dk_4 (dk_at dksX5_rule_2 14 rfl rfl)
theorem dX5_rule_62 : decode cX5_rule 62 = .ok (.goto 4, 3) := dk_167 0 4 (dk_at dksX5_rule_2 15 rfl rfl)
theorem dX5_rule_65 : decode cX5_rule 65 = .ok (.iconst 0, 1) := dk_3 (dk_at dksX5_rule_2 18 rfl rfl)
theorem dX5_rule_66 : decode cX5_rule 66 = .ok (.iconst 5, 1) := dk_8 (dk_at dksX5_rule_2 19 rfl rfl)
theorem dX5_rule_67 : decode cX5_rule 67 = .ok (.invokevirtual 144, 3) := dk_182 0 144 (dk_at dksX5_rule_2 20 rfl rfl)
theorem dX5_rule_70 : decode cX5_rule 70 = .ok (.aload_n 0, 1) := dk_42 (dk_at dksX5_rule_2 23 rfl rfl)
theorem dX5_rule_71 : decode cX5_rule 71 = .ok (.invokevirtual 136, 3) := dk_182 0 136 (dk_at dksX5_rule_3 0 rfl rfl)
theorem dX5_rule_74 : decode cX5_rule 74 = .ok (.aload_n 0, 1) := dk_42 (dk_at dksX5_rule_3 3 rfl rfl)
theorem dX5_rule_75 : decode cX5_rule 75 = .ok (.iload_n 1, 1) := dk_27 (dk_at dksX5_rule_3 4 rfl rfl)
theorem dX5_rule_76 : decode cX5_rule 76 = .ok (.ifCond .eq 10, 3) := dk_153 0 10 (dk_at dksX5_rule_3 5 rfl rfl)
theorem dX5_rule_79 : decode cX5_rule 79 = .ok (.aload_n 0, 1) := dk_42 (dk_at dksX5_rule_3 8 rfl rfl)
theorem dX5_rule_80 : decode cX5_rule 80 = .ok (.getfield 68, 3) := dk_180 0 68 (dk_at dksX5_rule_3 9 rfl rfl)
theorem dX5_rule_83 : decode cX5_rule 83 = .ok (.goto 7, 3) := dk_167 0 7 (dk_at dksX5_rule_3 12 rfl rfl)
theorem dX5_rule_86 : decode cX5_rule 86 = .ok (.aload_n 0, 1) := dk_42 (dk_at dksX5_rule_3 15 rfl rfl)
theorem dX5_rule_87 : decode cX5_rule 87 = .ok (.getfield 57, 3) := dk_180 0 57 (dk_at dksX5_rule_3 16 rfl rfl)
theorem dX5_rule_90 : decode cX5_rule 90 = .ok (.putfield 71, 3) := dk_181 0 71 (dk_at dksX5_rule_3 19 rfl rfl)
theorem dX5_rule_93 : decode cX5_rule 93 = .ok (.aload_n 3, 1) := dk_45 (dk_at dksX5_rule_3 22 rfl rfl)
theorem dX5_rule_94 : decode cX5_rule 94 = .ok (.iload_n 2, 1) := dk_28 (dk_at dksX5_rule_3 23 rfl rfl)
theorem dX5_rule_95 : decode cX5_rule 95 = .ok (.aload_n 0, 1) := dk_42 (dk_at dksX5_rule_4 0 rfl rfl)
theorem dX5_rule_96 : decode cX5_rule 96 = .ok (.iconst 0, 1) := dk_3 (dk_at dksX5_rule_4 1 rfl rfl)
theorem dX5_rule_97 : decode cX5_rule 97 = .ok (.invokevirtual 160, 3) := dk_182 0 160 (dk_at dksX5_rule_4 2 rfl rfl)
theorem dX5_rule_100 : decode cX5_rule 100 = .ok (.aastore, 1) := dk_83 (dk_at dksX5_rule_4 5 rfl rfl)
theorem dX5_rule_101 : decode cX5_rule 101 = .ok (.return_, 1) := dk_177 (dk_at dksX5_rule_4 6 rfl rfl)
abbrev cX5_expression : ByteArray := prog_6_method_19_code
def yX5_expression : MethodName := ⟨RX5, "expression", "(I)LValleyMass$Form;"⟩
def dkwX5_expression_3 : List UInt8 := [153, 0, 17, 44, 16, 124, 42, 27, 182, 0, 208, 182, 0, 182, 167, 255, 236, 44, 182, 0, 186, 176]
abbrev dktX5_expression_3 : List UInt8 := dkwX5_expression_3 ++ []
def dkwX5_expression_2 : List UInt8 := [5, 182, 0, 144, 187, 0, 171, 89, 42, 27, 182, 0, 208, 183, 0, 175, 77, 42, 18, 210, 182, 0, 205]
abbrev dktX5_expression_2 : List UInt8 := dkwX5_expression_2 ++ dktX5_expression_3
def dkwX5_expression_1 : List UInt8 := [153, 0, 7, 4, 167, 0, 4, 3, 4, 182, 0, 144, 42, 27, 16, 6, 162, 0, 7, 4, 167, 0, 4, 3]
abbrev dktX5_expression_1 : List UInt8 := dkwX5_expression_1 ++ dktX5_expression_2
def dkwX5_expression_0 : List UInt8 := [42, 42, 180, 0, 96, 5, 159, 0, 20, 42, 180, 0, 96, 4, 159, 0, 12, 42, 16, 40, 182, 0, 156]
abbrev dktX5_expression_0 : List UInt8 := dkwX5_expression_0 ++ dktX5_expression_1
theorem dksX5_expression_0 : cX5_expression.data.toList.drop 0 = dktX5_expression_0 := by decide +kernel
theorem dksX5_expression_1 : cX5_expression.data.toList.drop 23 = dktX5_expression_1 := dk_seg dksX5_expression_0 23 rfl rfl
theorem dksX5_expression_2 : cX5_expression.data.toList.drop 47 = dktX5_expression_2 := dk_seg dksX5_expression_1 24 rfl rfl
theorem dksX5_expression_3 : cX5_expression.data.toList.drop 70 = dktX5_expression_3 := dk_seg dksX5_expression_2 23 rfl rfl
theorem dX5_expression_0 : decode cX5_expression 0 = .ok (.aload_n 0, 1) := dk_42 (dk_at dksX5_expression_0 0 rfl rfl)
theorem dX5_expression_1 : decode cX5_expression 1 = .ok (.aload_n 0, 1) := dk_42 (dk_at dksX5_expression_0 1 rfl rfl)
theorem dX5_expression_2 : decode cX5_expression 2 = .ok (.getfield 96, 3) := dk_180 0 96 (dk_at dksX5_expression_0 2 rfl rfl)
theorem dX5_expression_5 : decode cX5_expression 5 = .ok (.iconst 2, 1) := dk_5 (dk_at dksX5_expression_0 5 rfl rfl)
theorem dX5_expression_6 : decode cX5_expression 6 = .ok (.if_icmp .eq 20, 3) := dk_159 0 20 (dk_at dksX5_expression_0 6 rfl rfl)
theorem dX5_expression_9 : decode cX5_expression 9 = .ok (.aload_n 0, 1) := dk_42 (dk_at dksX5_expression_0 9 rfl rfl)
theorem dX5_expression_10 : decode cX5_expression 10 = .ok (.getfield 96, 3) := dk_180 0 96 (dk_at dksX5_expression_0 10 rfl rfl)
theorem dX5_expression_13 : decode cX5_expression 13 = .ok (.iconst 1, 1) := dk_4 (dk_at dksX5_expression_0 13 rfl rfl)
theorem dX5_expression_14 : decode cX5_expression 14 = .ok (.if_icmp .eq 12, 3) := dk_159 0 12 (dk_at dksX5_expression_0 14 rfl rfl)
theorem dX5_expression_17 : decode cX5_expression 17 = .ok (.aload_n 0, 1) := dk_42 (dk_at dksX5_expression_0 17 rfl rfl)
theorem dX5_expression_18 : decode cX5_expression 18 = .ok (.bipush 40, 2) := dk_16 40 (dk_at dksX5_expression_0 18 rfl rfl)
theorem dX5_expression_20 : decode cX5_expression 20 = .ok (.invokevirtual 156, 3) := dk_182 0 156 (dk_at dksX5_expression_0 20 rfl rfl)
theorem dX5_expression_23 : decode cX5_expression 23 = .ok (.ifCond .eq 7, 3) := dk_153 0 7 (dk_at dksX5_expression_1 0 rfl rfl)
theorem dX5_expression_26 : decode cX5_expression 26 = .ok (.iconst 1, 1) := dk_4 (dk_at dksX5_expression_1 3 rfl rfl)
theorem dX5_expression_27 : decode cX5_expression 27 = .ok (.goto 4, 3) := dk_167 0 4 (dk_at dksX5_expression_1 4 rfl rfl)
theorem dX5_expression_30 : decode cX5_expression 30 = .ok (.iconst 0, 1) := dk_3 (dk_at dksX5_expression_1 7 rfl rfl)
theorem dX5_expression_31 : decode cX5_expression 31 = .ok (.iconst 1, 1) := dk_4 (dk_at dksX5_expression_1 8 rfl rfl)
theorem dX5_expression_32 : decode cX5_expression 32 = .ok (.invokevirtual 144, 3) := dk_182 0 144 (dk_at dksX5_expression_1 9 rfl rfl)
theorem dX5_expression_35 : decode cX5_expression 35 = .ok (.aload_n 0, 1) := dk_42 (dk_at dksX5_expression_1 12 rfl rfl)
theorem dX5_expression_36 : decode cX5_expression 36 = .ok (.iload_n 1, 1) := dk_27 (dk_at dksX5_expression_1 13 rfl rfl)
theorem dX5_expression_37 : decode cX5_expression 37 = .ok (.bipush 6, 2) := dk_16 6 (dk_at dksX5_expression_1 14 rfl rfl)
theorem dX5_expression_39 : decode cX5_expression 39 = .ok (.if_icmp .ge 7, 3) := dk_162 0 7 (dk_at dksX5_expression_1 16 rfl rfl)
theorem dX5_expression_42 : decode cX5_expression 42 = .ok (.iconst 1, 1) := dk_4 (dk_at dksX5_expression_1 19 rfl rfl)
theorem dX5_expression_43 : decode cX5_expression 43 = .ok (.goto 4, 3) := dk_167 0 4 (dk_at dksX5_expression_1 20 rfl rfl)
theorem dX5_expression_46 : decode cX5_expression 46 = .ok (.iconst 0, 1) := dk_3 (dk_at dksX5_expression_1 23 rfl rfl)
theorem dX5_expression_47 : decode cX5_expression 47 = .ok (.iconst 2, 1) := dk_5 (dk_at dksX5_expression_2 0 rfl rfl)
theorem dX5_expression_48 : decode cX5_expression 48 = .ok (.invokevirtual 144, 3) := dk_182 0 144 (dk_at dksX5_expression_2 1 rfl rfl)
theorem dX5_expression_51 : decode cX5_expression 51 = .ok (.new 171, 3) := dk_187 0 171 (dk_at dksX5_expression_2 4 rfl rfl)
theorem dX5_expression_54 : decode cX5_expression 54 = .ok (.dup, 1) := dk_89 (dk_at dksX5_expression_2 7 rfl rfl)
theorem dX5_expression_55 : decode cX5_expression 55 = .ok (.aload_n 0, 1) := dk_42 (dk_at dksX5_expression_2 8 rfl rfl)
theorem dX5_expression_56 : decode cX5_expression 56 = .ok (.iload_n 1, 1) := dk_27 (dk_at dksX5_expression_2 9 rfl rfl)
theorem dX5_expression_57 : decode cX5_expression 57 = .ok (.invokevirtual 208, 3) := dk_182 0 208 (dk_at dksX5_expression_2 10 rfl rfl)
theorem dX5_expression_60 : decode cX5_expression 60 = .ok (.invokespecial 175, 3) := dk_183 0 175 (dk_at dksX5_expression_2 13 rfl rfl)
theorem dX5_expression_63 : decode cX5_expression 63 = .ok (.astore_n 2, 1) := dk_77 (dk_at dksX5_expression_2 16 rfl rfl)
theorem dX5_expression_64 : decode cX5_expression 64 = .ok (.aload_n 0, 1) := dk_42 (dk_at dksX5_expression_2 17 rfl rfl)
theorem dX5_expression_65 : decode cX5_expression 65 = .ok (.ldc 210, 2) := dk_18 210 (dk_at dksX5_expression_2 18 rfl rfl)
theorem dX5_expression_67 : decode cX5_expression 67 = .ok (.invokevirtual 205, 3) := dk_182 0 205 (dk_at dksX5_expression_2 20 rfl rfl)
theorem dX5_expression_70 : decode cX5_expression 70 = .ok (.ifCond .eq 17, 3) := dk_153 0 17 (dk_at dksX5_expression_3 0 rfl rfl)
theorem dX5_expression_73 : decode cX5_expression 73 = .ok (.aload_n 2, 1) := dk_44 (dk_at dksX5_expression_3 3 rfl rfl)
theorem dX5_expression_74 : decode cX5_expression 74 = .ok (.bipush 124, 2) := dk_16 124 (dk_at dksX5_expression_3 4 rfl rfl)
theorem dX5_expression_76 : decode cX5_expression 76 = .ok (.aload_n 0, 1) := dk_42 (dk_at dksX5_expression_3 6 rfl rfl)
theorem dX5_expression_77 : decode cX5_expression 77 = .ok (.iload_n 1, 1) := dk_27 (dk_at dksX5_expression_3 7 rfl rfl)
theorem dX5_expression_78 : decode cX5_expression 78 = .ok (.invokevirtual 208, 3) := dk_182 0 208 (dk_at dksX5_expression_3 8 rfl rfl)
theorem dX5_expression_81 : decode cX5_expression 81 = .ok (.invokevirtual 182, 3) := dk_182 0 182 (dk_at dksX5_expression_3 11 rfl rfl)
theorem dX5_expression_84 : decode cX5_expression 84 = .ok (.goto (-20), 3) := dk_167 255 236 (dk_at dksX5_expression_3 14 rfl rfl)
theorem dX5_expression_87 : decode cX5_expression 87 = .ok (.aload_n 2, 1) := dk_44 (dk_at dksX5_expression_3 17 rfl rfl)
theorem dX5_expression_88 : decode cX5_expression 88 = .ok (.invokevirtual 186, 3) := dk_182 0 186 (dk_at dksX5_expression_3 18 rfl rfl)
theorem dX5_expression_91 : decode cX5_expression 91 = .ok (.areturn, 1) := dk_176 (dk_at dksX5_expression_3 21 rfl rfl)
abbrev cX5_isSign : ByteArray := prog_6_method_8_code
def yX5_isSign : MethodName := ⟨RX5, "isSign", "(C)Z"⟩
def dkwX5_isSign_1 : List UInt8 := [4, 167, 0, 4, 3, 172]
abbrev dktX5_isSign_1 : List UInt8 := dkwX5_isSign_1 ++ []
def dkwX5_isSign_0 : List UInt8 := [42, 180, 0, 96, 6, 160, 0, 23, 42, 180, 0, 3, 180, 0, 81, 42, 180, 0, 93, 51, 27, 160, 0, 7]
abbrev dktX5_isSign_0 : List UInt8 := dkwX5_isSign_0 ++ dktX5_isSign_1
theorem dksX5_isSign_0 : cX5_isSign.data.toList.drop 0 = dktX5_isSign_0 := by decide +kernel
theorem dksX5_isSign_1 : cX5_isSign.data.toList.drop 24 = dktX5_isSign_1 := dk_seg dksX5_isSign_0 24 rfl rfl
theorem dX5_isSign_0 : decode cX5_isSign 0 = .ok (.aload_n 0, 1) := dk_42 (dk_at dksX5_isSign_0 0 rfl rfl)
theorem dX5_isSign_1 : decode cX5_isSign 1 = .ok (.getfield 96, 3) := dk_180 0 96 (dk_at dksX5_isSign_0 1 rfl rfl)
theorem dX5_isSign_4 : decode cX5_isSign 4 = .ok (.iconst 3, 1) := dk_6 (dk_at dksX5_isSign_0 4 rfl rfl)
theorem dX5_isSign_5 : decode cX5_isSign 5 = .ok (.if_icmp .ne 23, 3) := dk_160 0 23 (dk_at dksX5_isSign_0 5 rfl rfl)
theorem dX5_isSign_8 : decode cX5_isSign 8 = .ok (.aload_n 0, 1) := dk_42 (dk_at dksX5_isSign_0 8 rfl rfl)
theorem dX5_isSign_9 : decode cX5_isSign 9 = .ok (.getfield 3, 3) := dk_180 0 3 (dk_at dksX5_isSign_0 9 rfl rfl)
theorem dX5_isSign_12 : decode cX5_isSign 12 = .ok (.getfield 81, 3) := dk_180 0 81 (dk_at dksX5_isSign_0 12 rfl rfl)
theorem dX5_isSign_15 : decode cX5_isSign 15 = .ok (.aload_n 0, 1) := dk_42 (dk_at dksX5_isSign_0 15 rfl rfl)
theorem dX5_isSign_16 : decode cX5_isSign 16 = .ok (.getfield 93, 3) := dk_180 0 93 (dk_at dksX5_isSign_0 16 rfl rfl)
theorem dX5_isSign_19 : decode cX5_isSign 19 = .ok (.baload, 1) := dk_51 (dk_at dksX5_isSign_0 19 rfl rfl)
theorem dX5_isSign_20 : decode cX5_isSign 20 = .ok (.iload_n 1, 1) := dk_27 (dk_at dksX5_isSign_0 20 rfl rfl)
theorem dX5_isSign_21 : decode cX5_isSign 21 = .ok (.if_icmp .ne 7, 3) := dk_160 0 7 (dk_at dksX5_isSign_0 21 rfl rfl)
theorem dX5_isSign_24 : decode cX5_isSign 24 = .ok (.iconst 1, 1) := dk_4 (dk_at dksX5_isSign_1 0 rfl rfl)
theorem dX5_isSign_25 : decode cX5_isSign 25 = .ok (.goto 4, 3) := dk_167 0 4 (dk_at dksX5_isSign_1 1 rfl rfl)
theorem dX5_isSign_28 : decode cX5_isSign 28 = .ok (.iconst 0, 1) := dk_3 (dk_at dksX5_isSign_1 4 rfl rfl)
theorem dX5_isSign_29 : decode cX5_isSign 29 = .ok (.ireturn, 1) := dk_172 (dk_at dksX5_isSign_1 5 rfl rfl)
abbrev cX5_and : ByteArray := prog_6_method_18_code
def yX5_and : MethodName := ⟨RX5, "and", "(I)LValleyMass$Form;"⟩
def dkwX5_and_1 : List UInt8 := [16, 38, 42, 27, 182, 0, 201, 182, 0, 182, 167, 255, 236, 44, 182, 0, 186, 176]
abbrev dktX5_and_1 : List UInt8 := dkwX5_and_1 ++ []
def dkwX5_and_0 : List UInt8 := [187, 0, 171, 89, 42, 27, 182, 0, 201, 183, 0, 175, 77, 42, 18, 203, 182, 0, 205, 153, 0, 17, 44]
abbrev dktX5_and_0 : List UInt8 := dkwX5_and_0 ++ dktX5_and_1
theorem dksX5_and_0 : cX5_and.data.toList.drop 0 = dktX5_and_0 := by decide +kernel
theorem dksX5_and_1 : cX5_and.data.toList.drop 23 = dktX5_and_1 := dk_seg dksX5_and_0 23 rfl rfl
theorem dX5_and_0 : decode cX5_and 0 = .ok (.new 171, 3) := dk_187 0 171 (dk_at dksX5_and_0 0 rfl rfl)
theorem dX5_and_3 : decode cX5_and 3 = .ok (.dup, 1) := dk_89 (dk_at dksX5_and_0 3 rfl rfl)
theorem dX5_and_4 : decode cX5_and 4 = .ok (.aload_n 0, 1) := dk_42 (dk_at dksX5_and_0 4 rfl rfl)
theorem dX5_and_5 : decode cX5_and 5 = .ok (.iload_n 1, 1) := dk_27 (dk_at dksX5_and_0 5 rfl rfl)
theorem dX5_and_6 : decode cX5_and 6 = .ok (.invokevirtual 201, 3) := dk_182 0 201 (dk_at dksX5_and_0 6 rfl rfl)
theorem dX5_and_9 : decode cX5_and 9 = .ok (.invokespecial 175, 3) := dk_183 0 175 (dk_at dksX5_and_0 9 rfl rfl)
theorem dX5_and_12 : decode cX5_and 12 = .ok (.astore_n 2, 1) := dk_77 (dk_at dksX5_and_0 12 rfl rfl)
theorem dX5_and_13 : decode cX5_and 13 = .ok (.aload_n 0, 1) := dk_42 (dk_at dksX5_and_0 13 rfl rfl)
theorem dX5_and_14 : decode cX5_and 14 = .ok (.ldc 203, 2) := dk_18 203 (dk_at dksX5_and_0 14 rfl rfl)
theorem dX5_and_16 : decode cX5_and 16 = .ok (.invokevirtual 205, 3) := dk_182 0 205 (dk_at dksX5_and_0 16 rfl rfl)
theorem dX5_and_19 : decode cX5_and 19 = .ok (.ifCond .eq 17, 3) := dk_153 0 17 (dk_at dksX5_and_0 19 rfl rfl)
theorem dX5_and_22 : decode cX5_and 22 = .ok (.aload_n 2, 1) := dk_44 (dk_at dksX5_and_0 22 rfl rfl)
theorem dX5_and_23 : decode cX5_and 23 = .ok (.bipush 38, 2) := dk_16 38 (dk_at dksX5_and_1 0 rfl rfl)
theorem dX5_and_25 : decode cX5_and 25 = .ok (.aload_n 0, 1) := dk_42 (dk_at dksX5_and_1 2 rfl rfl)
theorem dX5_and_26 : decode cX5_and 26 = .ok (.iload_n 1, 1) := dk_27 (dk_at dksX5_and_1 3 rfl rfl)
theorem dX5_and_27 : decode cX5_and 27 = .ok (.invokevirtual 201, 3) := dk_182 0 201 (dk_at dksX5_and_1 4 rfl rfl)
theorem dX5_and_30 : decode cX5_and 30 = .ok (.invokevirtual 182, 3) := dk_182 0 182 (dk_at dksX5_and_1 7 rfl rfl)
theorem dX5_and_33 : decode cX5_and 33 = .ok (.goto (-20), 3) := dk_167 255 236 (dk_at dksX5_and_1 10 rfl rfl)
theorem dX5_and_36 : decode cX5_and 36 = .ok (.aload_n 2, 1) := dk_44 (dk_at dksX5_and_1 13 rfl rfl)
theorem dX5_and_37 : decode cX5_and 37 = .ok (.invokevirtual 186, 3) := dk_182 0 186 (dk_at dksX5_and_1 14 rfl rfl)
theorem dX5_and_40 : decode cX5_and 40 = .ok (.areturn, 1) := dk_176 (dk_at dksX5_and_1 17 rfl rfl)
abbrev cX5_not : ByteArray := prog_6_method_17_code
def yX5_not : MethodName := ⟨RX5, "not", "(I)LValleyMass$Form;"⟩
def dkwX5_not_5 : List UInt8 := [167, 255, 236, 25, 4, 176]
abbrev dktX5_not_5 : List UInt8 := dkwX5_not_5 ++ []
def dkwX5_not_4 : List UInt8 := [54, 5, 21, 5, 28, 162, 0, 20, 187, 0, 198, 89, 25, 4, 183, 0, 200, 58, 4, 132, 5, 1]
abbrev dktX5_not_4 : List UInt8 := dkwX5_not_4 ++ dktX5_not_5
def dkwX5_not_3 : List UInt8 := [182, 0, 178, 54, 4, 45, 21, 4, 42, 27, 182, 0, 195, 182, 0, 182, 45, 182, 0, 186, 58, 4, 3]
abbrev dktX5_not_3 : List UInt8 := dkwX5_not_3 ++ dktX5_not_4
def dkwX5_not_2 : List UInt8 := [183, 0, 175, 78, 42, 16, 60, 182, 0, 156, 154, 0, 12, 42, 16, 61, 182, 0, 156, 153, 0, 20, 42]
abbrev dktX5_not_2 : List UInt8 := dkwX5_not_2 ++ dktX5_not_3
def dkwX5_not_1 : List UInt8 := [182, 0, 144, 132, 2, 1, 42, 182, 0, 136, 167, 255, 224, 187, 0, 171, 89, 42, 27, 182, 0, 195]
abbrev dktX5_not_1 : List UInt8 := dkwX5_not_1 ++ dktX5_not_2
def dkwX5_not_0 : List UInt8 := [3, 61, 42, 18, 193, 182, 0, 132, 153, 0, 29, 42, 28, 16, 6, 162, 0, 7, 4, 167, 0, 4, 3, 5]
abbrev dktX5_not_0 : List UInt8 := dkwX5_not_0 ++ dktX5_not_1
theorem dksX5_not_0 : cX5_not.data.toList.drop 0 = dktX5_not_0 := by decide +kernel
theorem dksX5_not_1 : cX5_not.data.toList.drop 24 = dktX5_not_1 := dk_seg dksX5_not_0 24 rfl rfl
theorem dksX5_not_2 : cX5_not.data.toList.drop 46 = dktX5_not_2 := dk_seg dksX5_not_1 22 rfl rfl
theorem dksX5_not_3 : cX5_not.data.toList.drop 69 = dktX5_not_3 := dk_seg dksX5_not_2 23 rfl rfl
theorem dksX5_not_4 : cX5_not.data.toList.drop 92 = dktX5_not_4 := dk_seg dksX5_not_3 23 rfl rfl
theorem dksX5_not_5 : cX5_not.data.toList.drop 114 = dktX5_not_5 := dk_seg dksX5_not_4 22 rfl rfl
theorem dX5_not_0 : decode cX5_not 0 = .ok (.iconst 0, 1) := dk_3 (dk_at dksX5_not_0 0 rfl rfl)
theorem dX5_not_1 : decode cX5_not 1 = .ok (.istore_n 2, 1) := dk_61 (dk_at dksX5_not_0 1 rfl rfl)
theorem dX5_not_2 : decode cX5_not 2 = .ok (.aload_n 0, 1) := dk_42 (dk_at dksX5_not_0 2 rfl rfl)
theorem dX5_not_3 : decode cX5_not 3 = .ok (.ldc 193, 2) := dk_18 193 (dk_at dksX5_not_0 3 rfl rfl)
theorem dX5_not_5 : decode cX5_not 5 = .ok (.invokevirtual 132, 3) := dk_182 0 132 (dk_at dksX5_not_0 5 rfl rfl)
theorem dX5_not_8 : decode cX5_not 8 = .ok (.ifCond .eq 29, 3) := dk_153 0 29 (dk_at dksX5_not_0 8 rfl rfl)
theorem dX5_not_11 : decode cX5_not 11 = .ok (.aload_n 0, 1) := dk_42 (dk_at dksX5_not_0 11 rfl rfl)
theorem dX5_not_12 : decode cX5_not 12 = .ok (.iload_n 2, 1) := dk_28 (dk_at dksX5_not_0 12 rfl rfl)
theorem dX5_not_13 : decode cX5_not 13 = .ok (.bipush 6, 2) := dk_16 6 (dk_at dksX5_not_0 13 rfl rfl)
theorem dX5_not_15 : decode cX5_not 15 = .ok (.if_icmp .ge 7, 3) := dk_162 0 7 (dk_at dksX5_not_0 15 rfl rfl)
theorem dX5_not_18 : decode cX5_not 18 = .ok (.iconst 1, 1) := dk_4 (dk_at dksX5_not_0 18 rfl rfl)
theorem dX5_not_19 : decode cX5_not 19 = .ok (.goto 4, 3) := dk_167 0 4 (dk_at dksX5_not_0 19 rfl rfl)
theorem dX5_not_22 : decode cX5_not 22 = .ok (.iconst 0, 1) := dk_3 (dk_at dksX5_not_0 22 rfl rfl)
theorem dX5_not_23 : decode cX5_not 23 = .ok (.iconst 2, 1) := dk_5 (dk_at dksX5_not_0 23 rfl rfl)
theorem dX5_not_24 : decode cX5_not 24 = .ok (.invokevirtual 144, 3) := dk_182 0 144 (dk_at dksX5_not_1 0 rfl rfl)
theorem dX5_not_27 : decode cX5_not 27 = .ok (.iinc 2 1, 3) := dk_132 2 1 (dk_at dksX5_not_1 3 rfl rfl)
theorem dX5_not_30 : decode cX5_not 30 = .ok (.aload_n 0, 1) := dk_42 (dk_at dksX5_not_1 6 rfl rfl)
theorem dX5_not_31 : decode cX5_not 31 = .ok (.invokevirtual 136, 3) := dk_182 0 136 (dk_at dksX5_not_1 7 rfl rfl)
theorem dX5_not_34 : decode cX5_not 34 = .ok (.goto (-32), 3) := dk_167 255 224 (dk_at dksX5_not_1 10 rfl rfl)
theorem dX5_not_37 : decode cX5_not 37 = .ok (.new 171, 3) := dk_187 0 171 (dk_at dksX5_not_1 13 rfl rfl)
theorem dX5_not_40 : decode cX5_not 40 = .ok (.dup, 1) := dk_89 (dk_at dksX5_not_1 16 rfl rfl)
theorem dX5_not_41 : decode cX5_not 41 = .ok (.aload_n 0, 1) := dk_42 (dk_at dksX5_not_1 17 rfl rfl)
theorem dX5_not_42 : decode cX5_not 42 = .ok (.iload_n 1, 1) := dk_27 (dk_at dksX5_not_1 18 rfl rfl)
theorem dX5_not_43 : decode cX5_not 43 = .ok (.invokevirtual 195, 3) := dk_182 0 195 (dk_at dksX5_not_1 19 rfl rfl)
theorem dX5_not_46 : decode cX5_not 46 = .ok (.invokespecial 175, 3) := dk_183 0 175 (dk_at dksX5_not_2 0 rfl rfl)
theorem dX5_not_49 : decode cX5_not 49 = .ok (.astore_n 3, 1) := dk_78 (dk_at dksX5_not_2 3 rfl rfl)
theorem dX5_not_50 : decode cX5_not 50 = .ok (.aload_n 0, 1) := dk_42 (dk_at dksX5_not_2 4 rfl rfl)
theorem dX5_not_51 : decode cX5_not 51 = .ok (.bipush 60, 2) := dk_16 60 (dk_at dksX5_not_2 5 rfl rfl)
theorem dX5_not_53 : decode cX5_not 53 = .ok (.invokevirtual 156, 3) := dk_182 0 156 (dk_at dksX5_not_2 7 rfl rfl)
theorem dX5_not_56 : decode cX5_not 56 = .ok (.ifCond .ne 12, 3) := dk_154 0 12 (dk_at dksX5_not_2 10 rfl rfl)
theorem dX5_not_59 : decode cX5_not 59 = .ok (.aload_n 0, 1) := dk_42 (dk_at dksX5_not_2 13 rfl rfl)
theorem dX5_not_60 : decode cX5_not 60 = .ok (.bipush 61, 2) := dk_16 61 (dk_at dksX5_not_2 14 rfl rfl)
theorem dX5_not_62 : decode cX5_not 62 = .ok (.invokevirtual 156, 3) := dk_182 0 156 (dk_at dksX5_not_2 16 rfl rfl)
theorem dX5_not_65 : decode cX5_not 65 = .ok (.ifCond .eq 20, 3) := dk_153 0 20 (dk_at dksX5_not_2 19 rfl rfl)
theorem dX5_not_68 : decode cX5_not 68 = .ok (.aload_n 0, 1) := dk_42 (dk_at dksX5_not_2 22 rfl rfl)
theorem dX5_not_69 : decode cX5_not 69 = .ok (.invokevirtual 178, 3) := dk_182 0 178 (dk_at dksX5_not_3 0 rfl rfl)
theorem dX5_not_72 : decode cX5_not 72 = .ok (.istore 4, 2) := dk_54 4 (dk_at dksX5_not_3 3 rfl rfl)
theorem dX5_not_74 : decode cX5_not 74 = .ok (.aload_n 3, 1) := dk_45 (dk_at dksX5_not_3 5 rfl rfl)
theorem dX5_not_75 : decode cX5_not 75 = .ok (.iload 4, 2) := dk_21 4 (dk_at dksX5_not_3 6 rfl rfl)
theorem dX5_not_77 : decode cX5_not 77 = .ok (.aload_n 0, 1) := dk_42 (dk_at dksX5_not_3 8 rfl rfl)
theorem dX5_not_78 : decode cX5_not 78 = .ok (.iload_n 1, 1) := dk_27 (dk_at dksX5_not_3 9 rfl rfl)
theorem dX5_not_79 : decode cX5_not 79 = .ok (.invokevirtual 195, 3) := dk_182 0 195 (dk_at dksX5_not_3 10 rfl rfl)
theorem dX5_not_82 : decode cX5_not 82 = .ok (.invokevirtual 182, 3) := dk_182 0 182 (dk_at dksX5_not_3 13 rfl rfl)
theorem dX5_not_85 : decode cX5_not 85 = .ok (.aload_n 3, 1) := dk_45 (dk_at dksX5_not_3 16 rfl rfl)
theorem dX5_not_86 : decode cX5_not 86 = .ok (.invokevirtual 186, 3) := dk_182 0 186 (dk_at dksX5_not_3 17 rfl rfl)
theorem dX5_not_89 : decode cX5_not 89 = .ok (.astore 4, 2) := dk_58 4 (dk_at dksX5_not_3 20 rfl rfl)
theorem dX5_not_91 : decode cX5_not 91 = .ok (.iconst 0, 1) := dk_3 (dk_at dksX5_not_3 22 rfl rfl)
theorem dX5_not_92 : decode cX5_not 92 = .ok (.istore 5, 2) := dk_54 5 (dk_at dksX5_not_4 0 rfl rfl)
theorem dX5_not_94 : decode cX5_not 94 = .ok (.iload 5, 2) := dk_21 5 (dk_at dksX5_not_4 2 rfl rfl)
theorem dX5_not_96 : decode cX5_not 96 = .ok (.iload_n 2, 1) := dk_28 (dk_at dksX5_not_4 4 rfl rfl)
theorem dX5_not_97 : decode cX5_not 97 = .ok (.if_icmp .ge 20, 3) := dk_162 0 20 (dk_at dksX5_not_4 5 rfl rfl)
theorem dX5_not_100 : decode cX5_not 100 = .ok (.new 198, 3) := dk_187 0 198 (dk_at dksX5_not_4 8 rfl rfl)
theorem dX5_not_103 : decode cX5_not 103 = .ok (.dup, 1) := dk_89 (dk_at dksX5_not_4 11 rfl rfl)
theorem dX5_not_104 : decode cX5_not 104 = .ok (.aload 4, 2) := dk_25 4 (dk_at dksX5_not_4 12 rfl rfl)
theorem dX5_not_106 : decode cX5_not 106 = .ok (.invokespecial 200, 3) := dk_183 0 200 (dk_at dksX5_not_4 14 rfl rfl)
theorem dX5_not_109 : decode cX5_not 109 = .ok (.astore 4, 2) := dk_58 4 (dk_at dksX5_not_4 17 rfl rfl)
theorem dX5_not_111 : decode cX5_not 111 = .ok (.iinc 5 1, 3) := dk_132 5 1 (dk_at dksX5_not_4 19 rfl rfl)
theorem dX5_not_114 : decode cX5_not 114 = .ok (.goto (-20), 3) := dk_167 255 236 (dk_at dksX5_not_5 0 rfl rfl)
theorem dX5_not_117 : decode cX5_not 117 = .ok (.aload 4, 2) := dk_25 4 (dk_at dksX5_not_5 3 rfl rfl)
theorem dX5_not_119 : decode cX5_not 119 = .ok (.areturn, 1) := dk_176 (dk_at dksX5_not_5 5 rfl rfl)
abbrev cX5_sum : ByteArray := prog_6_method_16_code
def yX5_sum : MethodName := ⟨RX5, "sum", "(I)LValleyMass$Form;"⟩
def dkwX5_sum_2 : List UInt8 := [167, 255, 223, 44, 182, 0, 186, 176]
abbrev dktX5_sum_2 : List UInt8 := dkwX5_sum_2 ++ []
def dkwX5_sum_1 : List UInt8 := [16, 45, 182, 0, 156, 153, 0, 21, 42, 182, 0, 178, 62, 44, 29, 42, 27, 182, 0, 190, 182, 0, 182]
abbrev dktX5_sum_1 : List UInt8 := dkwX5_sum_1 ++ dktX5_sum_2
def dkwX5_sum_0 : List UInt8 := [187, 0, 171, 89, 42, 27, 182, 0, 190, 183, 0, 175, 77, 42, 16, 43, 182, 0, 156, 154, 0, 12, 42]
abbrev dktX5_sum_0 : List UInt8 := dkwX5_sum_0 ++ dktX5_sum_1
theorem dksX5_sum_0 : cX5_sum.data.toList.drop 0 = dktX5_sum_0 := by decide +kernel
theorem dksX5_sum_1 : cX5_sum.data.toList.drop 23 = dktX5_sum_1 := dk_seg dksX5_sum_0 23 rfl rfl
theorem dksX5_sum_2 : cX5_sum.data.toList.drop 46 = dktX5_sum_2 := dk_seg dksX5_sum_1 23 rfl rfl
theorem dX5_sum_0 : decode cX5_sum 0 = .ok (.new 171, 3) := dk_187 0 171 (dk_at dksX5_sum_0 0 rfl rfl)
theorem dX5_sum_3 : decode cX5_sum 3 = .ok (.dup, 1) := dk_89 (dk_at dksX5_sum_0 3 rfl rfl)
theorem dX5_sum_4 : decode cX5_sum 4 = .ok (.aload_n 0, 1) := dk_42 (dk_at dksX5_sum_0 4 rfl rfl)
theorem dX5_sum_5 : decode cX5_sum 5 = .ok (.iload_n 1, 1) := dk_27 (dk_at dksX5_sum_0 5 rfl rfl)
theorem dX5_sum_6 : decode cX5_sum 6 = .ok (.invokevirtual 190, 3) := dk_182 0 190 (dk_at dksX5_sum_0 6 rfl rfl)
theorem dX5_sum_9 : decode cX5_sum 9 = .ok (.invokespecial 175, 3) := dk_183 0 175 (dk_at dksX5_sum_0 9 rfl rfl)
theorem dX5_sum_12 : decode cX5_sum 12 = .ok (.astore_n 2, 1) := dk_77 (dk_at dksX5_sum_0 12 rfl rfl)
theorem dX5_sum_13 : decode cX5_sum 13 = .ok (.aload_n 0, 1) := dk_42 (dk_at dksX5_sum_0 13 rfl rfl)
theorem dX5_sum_14 : decode cX5_sum 14 = .ok (.bipush 43, 2) := dk_16 43 (dk_at dksX5_sum_0 14 rfl rfl)
theorem dX5_sum_16 : decode cX5_sum 16 = .ok (.invokevirtual 156, 3) := dk_182 0 156 (dk_at dksX5_sum_0 16 rfl rfl)
theorem dX5_sum_19 : decode cX5_sum 19 = .ok (.ifCond .ne 12, 3) := dk_154 0 12 (dk_at dksX5_sum_0 19 rfl rfl)
theorem dX5_sum_22 : decode cX5_sum 22 = .ok (.aload_n 0, 1) := dk_42 (dk_at dksX5_sum_0 22 rfl rfl)
theorem dX5_sum_23 : decode cX5_sum 23 = .ok (.bipush 45, 2) := dk_16 45 (dk_at dksX5_sum_1 0 rfl rfl)
theorem dX5_sum_25 : decode cX5_sum 25 = .ok (.invokevirtual 156, 3) := dk_182 0 156 (dk_at dksX5_sum_1 2 rfl rfl)
theorem dX5_sum_28 : decode cX5_sum 28 = .ok (.ifCond .eq 21, 3) := dk_153 0 21 (dk_at dksX5_sum_1 5 rfl rfl)
theorem dX5_sum_31 : decode cX5_sum 31 = .ok (.aload_n 0, 1) := dk_42 (dk_at dksX5_sum_1 8 rfl rfl)
theorem dX5_sum_32 : decode cX5_sum 32 = .ok (.invokevirtual 178, 3) := dk_182 0 178 (dk_at dksX5_sum_1 9 rfl rfl)
theorem dX5_sum_35 : decode cX5_sum 35 = .ok (.istore_n 3, 1) := dk_62 (dk_at dksX5_sum_1 12 rfl rfl)
theorem dX5_sum_36 : decode cX5_sum 36 = .ok (.aload_n 2, 1) := dk_44 (dk_at dksX5_sum_1 13 rfl rfl)
theorem dX5_sum_37 : decode cX5_sum 37 = .ok (.iload_n 3, 1) := dk_29 (dk_at dksX5_sum_1 14 rfl rfl)
theorem dX5_sum_38 : decode cX5_sum 38 = .ok (.aload_n 0, 1) := dk_42 (dk_at dksX5_sum_1 15 rfl rfl)
theorem dX5_sum_39 : decode cX5_sum 39 = .ok (.iload_n 1, 1) := dk_27 (dk_at dksX5_sum_1 16 rfl rfl)
theorem dX5_sum_40 : decode cX5_sum 40 = .ok (.invokevirtual 190, 3) := dk_182 0 190 (dk_at dksX5_sum_1 17 rfl rfl)
theorem dX5_sum_43 : decode cX5_sum 43 = .ok (.invokevirtual 182, 3) := dk_182 0 182 (dk_at dksX5_sum_1 20 rfl rfl)
theorem dX5_sum_46 : decode cX5_sum 46 = .ok (.goto (-33), 3) := dk_167 255 223 (dk_at dksX5_sum_2 0 rfl rfl)
theorem dX5_sum_49 : decode cX5_sum 49 = .ok (.aload_n 2, 1) := dk_44 (dk_at dksX5_sum_2 3 rfl rfl)
theorem dX5_sum_50 : decode cX5_sum 50 = .ok (.invokevirtual 186, 3) := dk_182 0 186 (dk_at dksX5_sum_2 4 rfl rfl)
theorem dX5_sum_53 : decode cX5_sum 53 = .ok (.areturn, 1) := dk_176 (dk_at dksX5_sum_2 7 rfl rfl)
abbrev cX5_product : ByteArray := prog_6_method_15_code
def yX5_product : MethodName := ⟨RX5, "product", "(I)LValleyMass$Form;"⟩
def dkwX5_product_2 : List UInt8 := [167, 255, 223, 44, 182, 0, 186, 176]
abbrev dktX5_product_2 : List UInt8 := dkwX5_product_2 ++ []
def dkwX5_product_1 : List UInt8 := [16, 47, 182, 0, 156, 153, 0, 21, 42, 182, 0, 178, 62, 44, 29, 42, 27, 182, 0, 173, 182, 0, 182]
abbrev dktX5_product_1 : List UInt8 := dkwX5_product_1 ++ dktX5_product_2
def dkwX5_product_0 : List UInt8 := [187, 0, 171, 89, 42, 27, 182, 0, 173, 183, 0, 175, 77, 42, 16, 42, 182, 0, 156, 154, 0, 12, 42]
abbrev dktX5_product_0 : List UInt8 := dkwX5_product_0 ++ dktX5_product_1
theorem dksX5_product_0 : cX5_product.data.toList.drop 0 = dktX5_product_0 := by decide +kernel
theorem dksX5_product_1 : cX5_product.data.toList.drop 23 = dktX5_product_1 := dk_seg dksX5_product_0 23 rfl rfl
theorem dksX5_product_2 : cX5_product.data.toList.drop 46 = dktX5_product_2 := dk_seg dksX5_product_1 23 rfl rfl
theorem dX5_product_0 : decode cX5_product 0 = .ok (.new 171, 3) := dk_187 0 171 (dk_at dksX5_product_0 0 rfl rfl)
theorem dX5_product_3 : decode cX5_product 3 = .ok (.dup, 1) := dk_89 (dk_at dksX5_product_0 3 rfl rfl)
theorem dX5_product_4 : decode cX5_product 4 = .ok (.aload_n 0, 1) := dk_42 (dk_at dksX5_product_0 4 rfl rfl)
theorem dX5_product_5 : decode cX5_product 5 = .ok (.iload_n 1, 1) := dk_27 (dk_at dksX5_product_0 5 rfl rfl)
theorem dX5_product_6 : decode cX5_product 6 = .ok (.invokevirtual 173, 3) := dk_182 0 173 (dk_at dksX5_product_0 6 rfl rfl)
theorem dX5_product_9 : decode cX5_product 9 = .ok (.invokespecial 175, 3) := dk_183 0 175 (dk_at dksX5_product_0 9 rfl rfl)
theorem dX5_product_12 : decode cX5_product 12 = .ok (.astore_n 2, 1) := dk_77 (dk_at dksX5_product_0 12 rfl rfl)
theorem dX5_product_13 : decode cX5_product 13 = .ok (.aload_n 0, 1) := dk_42 (dk_at dksX5_product_0 13 rfl rfl)
theorem dX5_product_14 : decode cX5_product 14 = .ok (.bipush 42, 2) := dk_16 42 (dk_at dksX5_product_0 14 rfl rfl)
theorem dX5_product_16 : decode cX5_product 16 = .ok (.invokevirtual 156, 3) := dk_182 0 156 (dk_at dksX5_product_0 16 rfl rfl)
theorem dX5_product_19 : decode cX5_product 19 = .ok (.ifCond .ne 12, 3) := dk_154 0 12 (dk_at dksX5_product_0 19 rfl rfl)
theorem dX5_product_22 : decode cX5_product 22 = .ok (.aload_n 0, 1) := dk_42 (dk_at dksX5_product_0 22 rfl rfl)
theorem dX5_product_23 : decode cX5_product 23 = .ok (.bipush 47, 2) := dk_16 47 (dk_at dksX5_product_1 0 rfl rfl)
theorem dX5_product_25 : decode cX5_product 25 = .ok (.invokevirtual 156, 3) := dk_182 0 156 (dk_at dksX5_product_1 2 rfl rfl)
theorem dX5_product_28 : decode cX5_product 28 = .ok (.ifCond .eq 21, 3) := dk_153 0 21 (dk_at dksX5_product_1 5 rfl rfl)
theorem dX5_product_31 : decode cX5_product 31 = .ok (.aload_n 0, 1) := dk_42 (dk_at dksX5_product_1 8 rfl rfl)
theorem dX5_product_32 : decode cX5_product 32 = .ok (.invokevirtual 178, 3) := dk_182 0 178 (dk_at dksX5_product_1 9 rfl rfl)
theorem dX5_product_35 : decode cX5_product 35 = .ok (.istore_n 3, 1) := dk_62 (dk_at dksX5_product_1 12 rfl rfl)
theorem dX5_product_36 : decode cX5_product 36 = .ok (.aload_n 2, 1) := dk_44 (dk_at dksX5_product_1 13 rfl rfl)
theorem dX5_product_37 : decode cX5_product 37 = .ok (.iload_n 3, 1) := dk_29 (dk_at dksX5_product_1 14 rfl rfl)
theorem dX5_product_38 : decode cX5_product 38 = .ok (.aload_n 0, 1) := dk_42 (dk_at dksX5_product_1 15 rfl rfl)
theorem dX5_product_39 : decode cX5_product 39 = .ok (.iload_n 1, 1) := dk_27 (dk_at dksX5_product_1 16 rfl rfl)
theorem dX5_product_40 : decode cX5_product 40 = .ok (.invokevirtual 173, 3) := dk_182 0 173 (dk_at dksX5_product_1 17 rfl rfl)
theorem dX5_product_43 : decode cX5_product 43 = .ok (.invokevirtual 182, 3) := dk_182 0 182 (dk_at dksX5_product_1 20 rfl rfl)
theorem dX5_product_46 : decode cX5_product 46 = .ok (.goto (-33), 3) := dk_167 255 223 (dk_at dksX5_product_2 0 rfl rfl)
theorem dX5_product_49 : decode cX5_product 49 = .ok (.aload_n 2, 1) := dk_44 (dk_at dksX5_product_2 3 rfl rfl)
theorem dX5_product_50 : decode cX5_product 50 = .ok (.invokevirtual 186, 3) := dk_182 0 186 (dk_at dksX5_product_2 4 rfl rfl)
theorem dX5_product_53 : decode cX5_product 53 = .ok (.areturn, 1) := dk_176 (dk_at dksX5_product_2 7 rfl rfl)
abbrev cX5_part : ByteArray := prog_6_method_13_code
def yX5_part : MethodName := ⟨RX5, "part", "(I)LValleyMass$Form;"⟩
def dkwX5_part_4 : List UInt8 := [4, 167, 0, 4, 3, 6, 182, 0, 144, 42, 182, 0, 136, 187, 0, 168, 89, 28, 183, 0, 170, 176]
abbrev dktX5_part_4 : List UInt8 := dkwX5_part_4 ++ []
def dkwX5_part_3 : List UInt8 := [4, 167, 0, 4, 3, 4, 182, 0, 144, 42, 42, 180, 0, 71, 182, 0, 164, 61, 42, 28, 2, 159, 0, 7]
abbrev dktX5_part_3 : List UInt8 := dkwX5_part_3 ++ dktX5_part_4
def dkwX5_part_2 : List UInt8 := [16, 41, 182, 0, 156, 4, 182, 0, 144, 42, 182, 0, 136, 44, 176, 42, 42, 180, 0, 96, 4, 160, 0, 7]
abbrev dktX5_part_2 : List UInt8 := dkwX5_part_2 ++ dktX5_part_3
def dkwX5_part_1 : List UInt8 := [42, 16, 40, 182, 0, 156, 153, 0, 32, 42, 182, 0, 136, 42, 27, 4, 96, 182, 0, 160, 77, 42, 42]
abbrev dktX5_part_1 : List UInt8 := dkwX5_part_1 ++ dktX5_part_2
def dkwX5_part_0 : List UInt8 := [42, 180, 0, 96, 5, 160, 0, 19, 187, 0, 151, 89, 42, 3, 17, 39, 15, 182, 0, 153, 183, 0, 155, 176]
abbrev dktX5_part_0 : List UInt8 := dkwX5_part_0 ++ dktX5_part_1
theorem dksX5_part_0 : cX5_part.data.toList.drop 0 = dktX5_part_0 := by decide +kernel
theorem dksX5_part_1 : cX5_part.data.toList.drop 24 = dktX5_part_1 := dk_seg dksX5_part_0 24 rfl rfl
theorem dksX5_part_2 : cX5_part.data.toList.drop 47 = dktX5_part_2 := dk_seg dksX5_part_1 23 rfl rfl
theorem dksX5_part_3 : cX5_part.data.toList.drop 71 = dktX5_part_3 := dk_seg dksX5_part_2 24 rfl rfl
theorem dksX5_part_4 : cX5_part.data.toList.drop 95 = dktX5_part_4 := dk_seg dksX5_part_3 24 rfl rfl
theorem dX5_part_0 : decode cX5_part 0 = .ok (.aload_n 0, 1) := dk_42 (dk_at dksX5_part_0 0 rfl rfl)
theorem dX5_part_1 : decode cX5_part 1 = .ok (.getfield 96, 3) := dk_180 0 96 (dk_at dksX5_part_0 1 rfl rfl)
theorem dX5_part_4 : decode cX5_part 4 = .ok (.iconst 2, 1) := dk_5 (dk_at dksX5_part_0 4 rfl rfl)
theorem dX5_part_5 : decode cX5_part 5 = .ok (.if_icmp .ne 19, 3) := dk_160 0 19 (dk_at dksX5_part_0 5 rfl rfl)
theorem dX5_part_8 : decode cX5_part 8 = .ok (.new 151, 3) := dk_187 0 151 (dk_at dksX5_part_0 8 rfl rfl)
theorem dX5_part_11 : decode cX5_part 11 = .ok (.dup, 1) := dk_89 (dk_at dksX5_part_0 11 rfl rfl)
theorem dX5_part_12 : decode cX5_part 12 = .ok (.aload_n 0, 1) := dk_42 (dk_at dksX5_part_0 12 rfl rfl)
theorem dX5_part_13 : decode cX5_part 13 = .ok (.iconst 0, 1) := dk_3 (dk_at dksX5_part_0 13 rfl rfl)
theorem dX5_part_14 : decode cX5_part 14 = .ok (.sipush 9999, 3) := dk_17 39 15 (dk_at dksX5_part_0 14 rfl rfl)
theorem dX5_part_17 : decode cX5_part 17 = .ok (.invokevirtual 153, 3) := dk_182 0 153 (dk_at dksX5_part_0 17 rfl rfl)
theorem dX5_part_20 : decode cX5_part 20 = .ok (.invokespecial 155, 3) := dk_183 0 155 (dk_at dksX5_part_0 20 rfl rfl)
theorem dX5_part_23 : decode cX5_part 23 = .ok (.areturn, 1) := dk_176 (dk_at dksX5_part_0 23 rfl rfl)
theorem dX5_part_24 : decode cX5_part 24 = .ok (.aload_n 0, 1) := dk_42 (dk_at dksX5_part_1 0 rfl rfl)
theorem dX5_part_25 : decode cX5_part 25 = .ok (.bipush 40, 2) := dk_16 40 (dk_at dksX5_part_1 1 rfl rfl)
theorem dX5_part_27 : decode cX5_part 27 = .ok (.invokevirtual 156, 3) := dk_182 0 156 (dk_at dksX5_part_1 3 rfl rfl)
theorem dX5_part_30 : decode cX5_part 30 = .ok (.ifCond .eq 32, 3) := dk_153 0 32 (dk_at dksX5_part_1 6 rfl rfl)
theorem dX5_part_33 : decode cX5_part 33 = .ok (.aload_n 0, 1) := dk_42 (dk_at dksX5_part_1 9 rfl rfl)
theorem dX5_part_34 : decode cX5_part 34 = .ok (.invokevirtual 136, 3) := dk_182 0 136 (dk_at dksX5_part_1 10 rfl rfl)
theorem dX5_part_37 : decode cX5_part 37 = .ok (.aload_n 0, 1) := dk_42 (dk_at dksX5_part_1 13 rfl rfl)
theorem dX5_part_38 : decode cX5_part 38 = .ok (.iload_n 1, 1) := dk_27 (dk_at dksX5_part_1 14 rfl rfl)
theorem dX5_part_39 : decode cX5_part 39 = .ok (.iconst 1, 1) := dk_4 (dk_at dksX5_part_1 15 rfl rfl)
theorem dX5_part_40 : decode cX5_part 40 = .ok (.iadd, 1) := dk_96 (dk_at dksX5_part_1 16 rfl rfl)
theorem dX5_part_41 : decode cX5_part 41 = .ok (.invokevirtual 160, 3) := dk_182 0 160 (dk_at dksX5_part_1 17 rfl rfl)
theorem dX5_part_44 : decode cX5_part 44 = .ok (.astore_n 2, 1) := dk_77 (dk_at dksX5_part_1 20 rfl rfl)
theorem dX5_part_45 : decode cX5_part 45 = .ok (.aload_n 0, 1) := dk_42 (dk_at dksX5_part_1 21 rfl rfl)
theorem dX5_part_46 : decode cX5_part 46 = .ok (.aload_n 0, 1) := dk_42 (dk_at dksX5_part_1 22 rfl rfl)
theorem dX5_part_47 : decode cX5_part 47 = .ok (.bipush 41, 2) := dk_16 41 (dk_at dksX5_part_2 0 rfl rfl)
theorem dX5_part_49 : decode cX5_part 49 = .ok (.invokevirtual 156, 3) := dk_182 0 156 (dk_at dksX5_part_2 2 rfl rfl)
theorem dX5_part_52 : decode cX5_part 52 = .ok (.iconst 1, 1) := dk_4 (dk_at dksX5_part_2 5 rfl rfl)
theorem dX5_part_53 : decode cX5_part 53 = .ok (.invokevirtual 144, 3) := dk_182 0 144 (dk_at dksX5_part_2 6 rfl rfl)
theorem dX5_part_56 : decode cX5_part 56 = .ok (.aload_n 0, 1) := dk_42 (dk_at dksX5_part_2 9 rfl rfl)
theorem dX5_part_57 : decode cX5_part 57 = .ok (.invokevirtual 136, 3) := dk_182 0 136 (dk_at dksX5_part_2 10 rfl rfl)
theorem dX5_part_60 : decode cX5_part 60 = .ok (.aload_n 2, 1) := dk_44 (dk_at dksX5_part_2 13 rfl rfl)
theorem dX5_part_61 : decode cX5_part 61 = .ok (.areturn, 1) := dk_176 (dk_at dksX5_part_2 14 rfl rfl)
theorem dX5_part_62 : decode cX5_part 62 = .ok (.aload_n 0, 1) := dk_42 (dk_at dksX5_part_2 15 rfl rfl)
theorem dX5_part_63 : decode cX5_part 63 = .ok (.aload_n 0, 1) := dk_42 (dk_at dksX5_part_2 16 rfl rfl)
theorem dX5_part_64 : decode cX5_part 64 = .ok (.getfield 96, 3) := dk_180 0 96 (dk_at dksX5_part_2 17 rfl rfl)
theorem dX5_part_67 : decode cX5_part 67 = .ok (.iconst 1, 1) := dk_4 (dk_at dksX5_part_2 20 rfl rfl)
theorem dX5_part_68 : decode cX5_part 68 = .ok (.if_icmp .ne 7, 3) := dk_160 0 7 (dk_at dksX5_part_2 21 rfl rfl)
theorem dX5_part_71 : decode cX5_part 71 = .ok (.iconst 1, 1) := dk_4 (dk_at dksX5_part_3 0 rfl rfl)
theorem dX5_part_72 : decode cX5_part 72 = .ok (.goto 4, 3) := dk_167 0 4 (dk_at dksX5_part_3 1 rfl rfl)
theorem dX5_part_75 : decode cX5_part 75 = .ok (.iconst 0, 1) := dk_3 (dk_at dksX5_part_3 4 rfl rfl)
theorem dX5_part_76 : decode cX5_part 76 = .ok (.iconst 1, 1) := dk_4 (dk_at dksX5_part_3 5 rfl rfl)
theorem dX5_part_77 : decode cX5_part 77 = .ok (.invokevirtual 144, 3) := dk_182 0 144 (dk_at dksX5_part_3 6 rfl rfl)
theorem dX5_part_80 : decode cX5_part 80 = .ok (.aload_n 0, 1) := dk_42 (dk_at dksX5_part_3 9 rfl rfl)
theorem dX5_part_81 : decode cX5_part 81 = .ok (.aload_n 0, 1) := dk_42 (dk_at dksX5_part_3 10 rfl rfl)
theorem dX5_part_82 : decode cX5_part 82 = .ok (.getfield 71, 3) := dk_180 0 71 (dk_at dksX5_part_3 11 rfl rfl)
theorem dX5_part_85 : decode cX5_part 85 = .ok (.invokevirtual 164, 3) := dk_182 0 164 (dk_at dksX5_part_3 14 rfl rfl)
theorem dX5_part_88 : decode cX5_part 88 = .ok (.istore_n 2, 1) := dk_61 (dk_at dksX5_part_3 17 rfl rfl)
theorem dX5_part_89 : decode cX5_part 89 = .ok (.aload_n 0, 1) := dk_42 (dk_at dksX5_part_3 18 rfl rfl)
theorem dX5_part_90 : decode cX5_part 90 = .ok (.iload_n 2, 1) := dk_28 (dk_at dksX5_part_3 19 rfl rfl)
theorem dX5_part_91 : decode cX5_part 91 = .ok (.iconst (-1), 1) := dk_2 (dk_at dksX5_part_3 20 rfl rfl)
theorem dX5_part_92 : decode cX5_part 92 = .ok (.if_icmp .eq 7, 3) := dk_159 0 7 (dk_at dksX5_part_3 21 rfl rfl)
theorem dX5_part_95 : decode cX5_part 95 = .ok (.iconst 1, 1) := dk_4 (dk_at dksX5_part_4 0 rfl rfl)
theorem dX5_part_96 : decode cX5_part 96 = .ok (.goto 4, 3) := dk_167 0 4 (dk_at dksX5_part_4 1 rfl rfl)
theorem dX5_part_99 : decode cX5_part 99 = .ok (.iconst 0, 1) := dk_3 (dk_at dksX5_part_4 4 rfl rfl)
theorem dX5_part_100 : decode cX5_part 100 = .ok (.iconst 3, 1) := dk_6 (dk_at dksX5_part_4 5 rfl rfl)
theorem dX5_part_101 : decode cX5_part 101 = .ok (.invokevirtual 144, 3) := dk_182 0 144 (dk_at dksX5_part_4 6 rfl rfl)
theorem dX5_part_104 : decode cX5_part 104 = .ok (.aload_n 0, 1) := dk_42 (dk_at dksX5_part_4 9 rfl rfl)
theorem dX5_part_105 : decode cX5_part 105 = .ok (.invokevirtual 136, 3) := dk_182 0 136 (dk_at dksX5_part_4 10 rfl rfl)
theorem dX5_part_108 : decode cX5_part 108 = .ok (.new 168, 3) := dk_187 0 168 (dk_at dksX5_part_4 13 rfl rfl)
theorem dX5_part_111 : decode cX5_part 111 = .ok (.dup, 1) := dk_89 (dk_at dksX5_part_4 16 rfl rfl)
theorem dX5_part_112 : decode cX5_part 112 = .ok (.iload_n 2, 1) := dk_28 (dk_at dksX5_part_4 17 rfl rfl)
theorem dX5_part_113 : decode cX5_part 113 = .ok (.invokespecial 170, 3) := dk_183 0 170 (dk_at dksX5_part_4 18 rfl rfl)
theorem dX5_part_116 : decode cX5_part 116 = .ok (.areturn, 1) := dk_176 (dk_at dksX5_part_4 21 rfl rfl)
abbrev cX5_sign : ByteArray := prog_6_method_14_code
def yX5_sign : MethodName := ⟨RX5, "sign", "()C"⟩
def dkwX5_sign_0 : List UInt8 := [42, 180, 0, 3, 180, 0, 81, 42, 180, 0, 93, 51, 146, 60, 42, 182, 0, 136, 27, 172]
abbrev dktX5_sign_0 : List UInt8 := dkwX5_sign_0 ++ []
theorem dksX5_sign_0 : cX5_sign.data.toList.drop 0 = dktX5_sign_0 := by decide +kernel
theorem dX5_sign_0 : decode cX5_sign 0 = .ok (.aload_n 0, 1) := dk_42 (dk_at dksX5_sign_0 0 rfl rfl)
theorem dX5_sign_1 : decode cX5_sign 1 = .ok (.getfield 3, 3) := dk_180 0 3 (dk_at dksX5_sign_0 1 rfl rfl)
theorem dX5_sign_4 : decode cX5_sign 4 = .ok (.getfield 81, 3) := dk_180 0 81 (dk_at dksX5_sign_0 4 rfl rfl)
theorem dX5_sign_7 : decode cX5_sign 7 = .ok (.aload_n 0, 1) := dk_42 (dk_at dksX5_sign_0 7 rfl rfl)
theorem dX5_sign_8 : decode cX5_sign 8 = .ok (.getfield 93, 3) := dk_180 0 93 (dk_at dksX5_sign_0 8 rfl rfl)
theorem dX5_sign_11 : decode cX5_sign 11 = .ok (.baload, 1) := dk_51 (dk_at dksX5_sign_0 11 rfl rfl)
theorem dX5_sign_12 : decode cX5_sign 12 = .ok (.i2c, 1) := dk_146 (dk_at dksX5_sign_0 12 rfl rfl)
theorem dX5_sign_13 : decode cX5_sign 13 = .ok (.istore_n 1, 1) := dk_60 (dk_at dksX5_sign_0 13 rfl rfl)
theorem dX5_sign_14 : decode cX5_sign 14 = .ok (.aload_n 0, 1) := dk_42 (dk_at dksX5_sign_0 14 rfl rfl)
theorem dX5_sign_15 : decode cX5_sign 15 = .ok (.invokevirtual 136, 3) := dk_182 0 136 (dk_at dksX5_sign_0 15 rfl rfl)
theorem dX5_sign_18 : decode cX5_sign 18 = .ok (.iload_n 1, 1) := dk_27 (dk_at dksX5_sign_0 18 rfl rfl)
theorem dX5_sign_19 : decode cX5_sign 19 = .ok (.ireturn, 1) := dk_172 (dk_at dksX5_sign_0 19 rfl rfl)
abbrev cX5_passes : ByteArray := prog_6_method_9_code
def yX5_passes : MethodName := ⟨RX5, "passes", "(Ljava/lang/String;)Z"⟩
def dkwX5_passes_0 : List UInt8 := [42, 43, 182, 0, 132, 61, 28, 153, 0, 7, 42, 182, 0, 136, 28, 172]
abbrev dktX5_passes_0 : List UInt8 := dkwX5_passes_0 ++ []
theorem dksX5_passes_0 : cX5_passes.data.toList.drop 0 = dktX5_passes_0 := by decide +kernel
theorem dX5_passes_0 : decode cX5_passes 0 = .ok (.aload_n 0, 1) := dk_42 (dk_at dksX5_passes_0 0 rfl rfl)
theorem dX5_passes_1 : decode cX5_passes 1 = .ok (.aload_n 1, 1) := dk_43 (dk_at dksX5_passes_0 1 rfl rfl)
theorem dX5_passes_2 : decode cX5_passes 2 = .ok (.invokevirtual 132, 3) := dk_182 0 132 (dk_at dksX5_passes_0 2 rfl rfl)
theorem dX5_passes_5 : decode cX5_passes 5 = .ok (.istore_n 2, 1) := dk_61 (dk_at dksX5_passes_0 5 rfl rfl)
theorem dX5_passes_6 : decode cX5_passes 6 = .ok (.iload_n 2, 1) := dk_28 (dk_at dksX5_passes_0 6 rfl rfl)
theorem dX5_passes_7 : decode cX5_passes 7 = .ok (.ifCond .eq 7, 3) := dk_153 0 7 (dk_at dksX5_passes_0 7 rfl rfl)
theorem dX5_passes_10 : decode cX5_passes 10 = .ok (.aload_n 0, 1) := dk_42 (dk_at dksX5_passes_0 10 rfl rfl)
theorem dX5_passes_11 : decode cX5_passes 11 = .ok (.invokevirtual 136, 3) := dk_182 0 136 (dk_at dksX5_passes_0 11 rfl rfl)
theorem dX5_passes_14 : decode cX5_passes 14 = .ok (.iload_n 2, 1) := dk_28 (dk_at dksX5_passes_0 14 rfl rfl)
theorem dX5_passes_15 : decode cX5_passes 15 = .ok (.ireturn, 1) := dk_172 (dk_at dksX5_passes_0 15 rfl rfl)
theorem q111 : (Jvm.Cond.initialized "ValleyMass$Reader") ∈ lw_all := lw_g (lw_at lw_m1 12 rfl) rfl
theorem q180 : (Jvm.Cond.fieldLinkNest "ValleyMass$Reader" (212 : Nat) "ValleyMass$Valley" "singers" "Ljava/util/List;" "ValleyMass") ∈ lw_tbl := lw_at lw_m1 81 rfl
theorem q183 : (Jvm.Cond.fieldLinkNest "ValleyMass$Reader" (228 : Nat) "ValleyMass$Valley" "pieces" "Ljava/util/List;" "ValleyMass") ∈ lw_tbl := lw_at lw_m1 84 rfl
theorem q186 : (Jvm.Cond.fieldLinkNest "ValleyMass$Reader" (256 : Nat) "ValleyMass$Valley" "truce" "[LValleyMass$Form;" "ValleyMass") ∈ lw_tbl := lw_at lw_m1 87 rfl
theorem q189 : (Jvm.Cond.fieldLinkNest "ValleyMass$Reader" (252 : Nat) "ValleyMass$Valley" "aim" "[LValleyMass$Form;" "ValleyMass") ∈ lw_tbl := lw_at lw_m1 90 rfl
theorem q193 : (Jvm.Cond.fieldLinkNest "ValleyMass$Reader" (272 : Nat) "ValleyMass$Valley" "every" "I" "ValleyMass") ∈ lw_tbl := lw_at lw_m1 94 rfl
theorem q235 : (Jvm.Cond.fieldLinkNest "ValleyMass$Reader" (81 : Nat) "ValleyMass" "tape" "[B" "ValleyMass") ∈ lw_tbl := lw_at lw_m1 136 rfl
theorem q345 : (Jvm.Cond.selects "ValleyMass$Reader" ({ cls := "java/lang/Object", name := "getClass", desc := "()Ljava/lang/Class;" } : Jvm.MethodName) ({ cls := "java/lang/Object", name := "getClass", desc := "()Ljava/lang/Class;" } : Jvm.MethodName)) ∈ lw_all := lw_g (lw_at lw_m2 6 rfl) rfl
theorem q740 : (Jvm.Cond.instantiable "ValleyMass$Reader" (14 : Nat)) ∈ lw_all := lw_g (lw_at lw_m3 161 rfl) rfl
theorem q742 : (Jvm.Cond.instanceMethod ({ cls := "ValleyMass$Reader", name := "<init>", desc := "(LValleyMass;I)V" } : Jvm.MethodName)) ∈ lw_all := lw_g (lw_at lw_m3 163 rfl) rfl
theorem q743 : (Jvm.Cond.code ({ cls := "ValleyMass$Reader", name := "<init>", desc := "(LValleyMass;I)V" } : Jvm.MethodName) prog_6_method_1_code (3 : Nat) (Option.none : Option Jvm.ClassFile.FieldType)) ∈ lw_all := lw_g (lw_at lw_m3 164 rfl) rfl
theorem q744 : (Jvm.Cond.methodLink "ValleyMass$Reader" (9 : Nat) ({ cls := "java/lang/Object", name := "<init>", desc := "()V" } : Jvm.MethodName)) ∈ lw_all := lw_g (lw_at lw_m3 165 rfl) rfl
theorem q745 : (Jvm.Cond.classLink "ValleyMass$Reader" (15 : Nat) "ValleyMass$Valley") ∈ lw_all := lw_g (lw_at lw_m3 166 rfl) rfl
theorem q746 : (Jvm.Cond.methodLinkNest "ValleyMass$Reader" (17 : Nat) ({ cls := "ValleyMass$Valley", name := "<init>", desc := "()V" } : Jvm.MethodName) "ValleyMass") ∈ lw_tbl := lw_at lw_m3 167 rfl
theorem q747 : (Jvm.Cond.classLink "ValleyMass$Reader" (22 : Nat) "java/lang/String") ∈ lw_all := lw_g (lw_at lw_m3 168 rfl) rfl
theorem q749 : (Jvm.Cond.stringRef "ValleyMass$Reader" (24 : Nat) "north") ∈ lw_tbl := lw_at lw_m3 170 rfl
theorem q750 : (Jvm.Cond.stringRef "ValleyMass$Reader" (26 : Nat) "south") ∈ lw_tbl := lw_at lw_m3 171 rfl
theorem q751 : (Jvm.Cond.stringRef "ValleyMass$Reader" (28 : Nat) "neutral") ∈ lw_tbl := lw_at lw_m3 172 rfl
theorem q752 : (Jvm.Cond.stringRef "ValleyMass$Reader" (34 : Nat) "soprano") ∈ lw_tbl := lw_at lw_m3 173 rfl
theorem q753 : (Jvm.Cond.stringRef "ValleyMass$Reader" (36 : Nat) "alto") ∈ lw_tbl := lw_at lw_m3 174 rfl
theorem q754 : (Jvm.Cond.stringRef "ValleyMass$Reader" (38 : Nat) "tenor") ∈ lw_tbl := lw_at lw_m3 175 rfl
theorem q755 : (Jvm.Cond.stringRef "ValleyMass$Reader" (40 : Nat) "bass") ∈ lw_tbl := lw_at lw_m3 176 rfl
theorem q756 : (Jvm.Cond.stringRef "ValleyMass$Reader" (45 : Nat) "day") ∈ lw_tbl := lw_at lw_m3 177 rfl
theorem q757 : (Jvm.Cond.stringRef "ValleyMass$Reader" (47 : Nat) "sung") ∈ lw_tbl := lw_at lw_m3 178 rfl
theorem q758 : (Jvm.Cond.stringRef "ValleyMass$Reader" (49 : Nat) "own") ∈ lw_tbl := lw_at lw_m3 179 rfl
theorem q759 : (Jvm.Cond.stringRef "ValleyMass$Reader" (51 : Nat) "other") ∈ lw_tbl := lw_at lw_m3 180 rfl
theorem q760 : (Jvm.Cond.stringRef "ValleyMass$Reader" (53 : Nat) "fallen") ∈ lw_tbl := lw_at lw_m3 181 rfl
theorem q761 : (Jvm.Cond.stringRef "ValleyMass$Reader" (55 : Nat) "can") ∈ lw_tbl := lw_at lw_m3 182 rfl
theorem q762 : (Jvm.Cond.stringRef "ValleyMass$Reader" (60 : Nat) "skill") ∈ lw_tbl := lw_at lw_m3 183 rfl
theorem q763 : (Jvm.Cond.stringRef "ValleyMass$Reader" (62 : Nat) "part") ∈ lw_tbl := lw_at lw_m3 184 rfl
theorem q764 : (Jvm.Cond.stringRef "ValleyMass$Reader" (64 : Nat) "singer") ∈ lw_tbl := lw_at lw_m3 185 rfl
theorem q765 : (Jvm.Cond.stringRef "ValleyMass$Reader" (66 : Nat) "tone") ∈ lw_tbl := lw_at lw_m3 186 rfl
theorem q766 : (Jvm.Cond.fieldLink "ValleyMass$Reader" (74 : Nat) "ValleyMass$Reader" "size" "I") ∈ lw_all := lw_g (lw_at lw_m3 187 rfl) rfl
theorem q767 : (Jvm.Cond.fieldLink "ValleyMass$Reader" (18 : Nat) "ValleyMass$Reader" "made" "LValleyMass$Valley;") ∈ lw_all := lw_g (lw_at lw_m3 188 rfl) rfl
theorem q768 : (Jvm.Cond.fieldLink "ValleyMass$Reader" (30 : Nat) "ValleyMass$Reader" "sides" "[Ljava/lang/String;") ∈ lw_all := lw_g (lw_at lw_m3 189 rfl) rfl
theorem q769 : (Jvm.Cond.fieldLink "ValleyMass$Reader" (42 : Nat) "ValleyMass$Reader" "parts" "[Ljava/lang/String;") ∈ lw_all := lw_g (lw_at lw_m3 190 rfl) rfl
theorem q770 : (Jvm.Cond.fieldLink "ValleyMass$Reader" (57 : Nat) "ValleyMass$Reader" "ofTruce" "[Ljava/lang/String;") ∈ lw_all := lw_g (lw_at lw_m3 191 rfl) rfl
theorem q771 : (Jvm.Cond.fieldLink "ValleyMass$Reader" (68 : Nat) "ValleyMass$Reader" "ofAim" "[Ljava/lang/String;") ∈ lw_all := lw_g (lw_at lw_m3 192 rfl) rfl
theorem q772 : (Jvm.Cond.fieldLink "ValleyMass$Reader" (71 : Nat) "ValleyMass$Reader" "names" "[Ljava/lang/String;") ∈ lw_all := lw_g (lw_at lw_m3 193 rfl) rfl
theorem q773 : (Jvm.Cond.fieldLink "ValleyMass$Reader" (78 : Nat) "ValleyMass$Reader" "at" "I") ∈ lw_all := lw_g (lw_at lw_m3 194 rfl) rfl
theorem q774 : (Jvm.Cond.fieldLink "ValleyMass$Reader" (96 : Nat) "ValleyMass$Reader" "token" "I") ∈ lw_all := lw_g (lw_at lw_m3 195 rfl) rfl
theorem q775 : (Jvm.Cond.fieldLink "ValleyMass$Reader" (93 : Nat) "ValleyMass$Reader" "begins" "I") ∈ lw_all := lw_g (lw_at lw_m3 196 rfl) rfl
theorem q777 : (Jvm.Cond.fieldLink "ValleyMass$Reader" (122 : Nat) "ValleyMass$Reader" "ends" "I") ∈ lw_all := lw_g (lw_at lw_m3 198 rfl) rfl
theorem q778 : (Jvm.Cond.fieldLink "ValleyMass$Reader" (106 : Nat) "ValleyMass$Reader" "number" "I") ∈ lw_all := lw_g (lw_at lw_m3 199 rfl) rfl
theorem q779 : (Jvm.Cond.fieldLink "ValleyMass$Reader" (268 : Nat) "ValleyMass$Reader" "isEvery" "Z") ∈ lw_all := lw_g (lw_at lw_m3 200 rfl) rfl
theorem q780 : (Jvm.Cond.fieldLink "ValleyMass$Reader" (3 : Nat) "ValleyMass$Reader" "this$0" "LValleyMass;") ∈ lw_all := lw_g (lw_at lw_m3 201 rfl) rfl
theorem q781 : (Jvm.Cond.laysFinal "ValleyMass$Reader" "ValleyMass$Reader" "size" "I") ∈ lw_all := lw_g (lw_at lw_m3 202 rfl) rfl
theorem q782 : (Jvm.Cond.soleField "ValleyMass$Reader" "size") ∈ lw_all := lw_g (lw_at lw_m3 203 rfl) rfl
theorem q783 : (Jvm.Cond.laysFinal "ValleyMass$Reader" "ValleyMass$Reader" "made" "LValleyMass$Valley;") ∈ lw_all := lw_g (lw_at lw_m3 204 rfl) rfl
theorem q784 : (Jvm.Cond.soleField "ValleyMass$Reader" "made") ∈ lw_all := lw_g (lw_at lw_m3 205 rfl) rfl
theorem q785 : (Jvm.Cond.laysFinal "ValleyMass$Reader" "ValleyMass$Reader" "sides" "[Ljava/lang/String;") ∈ lw_all := lw_g (lw_at lw_m3 206 rfl) rfl
theorem q786 : (Jvm.Cond.soleField "ValleyMass$Reader" "sides") ∈ lw_all := lw_g (lw_at lw_m3 207 rfl) rfl
theorem q787 : (Jvm.Cond.laysFinal "ValleyMass$Reader" "ValleyMass$Reader" "parts" "[Ljava/lang/String;") ∈ lw_all := lw_g (lw_at lw_m3 208 rfl) rfl
theorem q788 : (Jvm.Cond.soleField "ValleyMass$Reader" "parts") ∈ lw_all := lw_g (lw_at lw_m3 209 rfl) rfl
theorem q789 : (Jvm.Cond.laysFinal "ValleyMass$Reader" "ValleyMass$Reader" "ofTruce" "[Ljava/lang/String;") ∈ lw_all := lw_g (lw_at lw_m3 210 rfl) rfl
theorem q790 : (Jvm.Cond.soleField "ValleyMass$Reader" "ofTruce") ∈ lw_all := lw_g (lw_at lw_m3 211 rfl) rfl
theorem q791 : (Jvm.Cond.laysFinal "ValleyMass$Reader" "ValleyMass$Reader" "ofAim" "[Ljava/lang/String;") ∈ lw_all := lw_g (lw_at lw_m3 212 rfl) rfl
theorem q792 : (Jvm.Cond.soleField "ValleyMass$Reader" "ofAim") ∈ lw_all := lw_g (lw_at lw_m3 213 rfl) rfl
theorem q793 : (Jvm.Cond.lays "ValleyMass$Reader" "ValleyMass$Reader" "names" "[Ljava/lang/String;") ∈ lw_all := lw_g (lw_at lw_m3 214 rfl) rfl
theorem q794 : (Jvm.Cond.soleField "ValleyMass$Reader" "names") ∈ lw_all := lw_g (lw_at lw_m3 215 rfl) rfl
theorem q795 : (Jvm.Cond.lays "ValleyMass$Reader" "ValleyMass$Reader" "at" "I") ∈ lw_all := lw_g (lw_at lw_m3 216 rfl) rfl
theorem q796 : (Jvm.Cond.soleField "ValleyMass$Reader" "at") ∈ lw_all := lw_g (lw_at lw_m3 217 rfl) rfl
theorem q797 : (Jvm.Cond.lays "ValleyMass$Reader" "ValleyMass$Reader" "token" "I") ∈ lw_all := lw_g (lw_at lw_m3 218 rfl) rfl
theorem q798 : (Jvm.Cond.soleField "ValleyMass$Reader" "token") ∈ lw_all := lw_g (lw_at lw_m3 219 rfl) rfl
theorem q799 : (Jvm.Cond.lays "ValleyMass$Reader" "ValleyMass$Reader" "begins" "I") ∈ lw_all := lw_g (lw_at lw_m3 220 rfl) rfl
theorem q800 : (Jvm.Cond.soleField "ValleyMass$Reader" "begins") ∈ lw_all := lw_g (lw_at lw_m3 221 rfl) rfl
theorem q801 : (Jvm.Cond.lays "ValleyMass$Reader" "ValleyMass$Reader" "ends" "I") ∈ lw_all := lw_g (lw_at lw_m3 222 rfl) rfl
theorem q802 : (Jvm.Cond.soleField "ValleyMass$Reader" "ends") ∈ lw_all := lw_g (lw_at lw_m3 223 rfl) rfl
theorem q803 : (Jvm.Cond.lays "ValleyMass$Reader" "ValleyMass$Reader" "number" "I") ∈ lw_all := lw_g (lw_at lw_m3 224 rfl) rfl
theorem q804 : (Jvm.Cond.soleField "ValleyMass$Reader" "number") ∈ lw_all := lw_g (lw_at lw_m3 225 rfl) rfl
theorem q805 : (Jvm.Cond.lays "ValleyMass$Reader" "ValleyMass$Reader" "isEvery" "Z") ∈ lw_all := lw_g (lw_at lw_m3 226 rfl) rfl
theorem q806 : (Jvm.Cond.soleField "ValleyMass$Reader" "isEvery") ∈ lw_all := lw_g (lw_at lw_m3 227 rfl) rfl
theorem q807 : (Jvm.Cond.laysFinal "ValleyMass$Reader" "ValleyMass$Reader" "this$0" "LValleyMass;") ∈ lw_all := lw_g (lw_at lw_m3 228 rfl) rfl
theorem q808 : (Jvm.Cond.soleField "ValleyMass$Reader" "this$0") ∈ lw_all := lw_g (lw_at lw_m3 229 rfl) rfl
theorem q809 : (Jvm.Cond.superclass "ValleyMass$Reader" "java/lang/Object") ∈ lw_all := lw_g (lw_at lw_m3 230 rfl) rfl
theorem q811 : (Jvm.Cond.instanceMethod ({ cls := "ValleyMass$Reader", name := "read", desc := "()LValleyMass$Valley;" } : Jvm.MethodName)) ∈ lw_all := lw_g (lw_at lw_m3 232 rfl) rfl
theorem q812 : (Jvm.Cond.selects "ValleyMass$Reader" ({ cls := "ValleyMass$Reader", name := "read", desc := "()LValleyMass$Valley;" } : Jvm.MethodName) ({ cls := "ValleyMass$Reader", name := "read", desc := "()LValleyMass$Valley;" } : Jvm.MethodName)) ∈ lw_all := lw_g (lw_at lw_m3 233 rfl) rfl
theorem q813 : (Jvm.Cond.code ({ cls := "ValleyMass$Reader", name := "read", desc := "()LValleyMass$Valley;" } : Jvm.MethodName) prog_6_method_24_code (1 : Nat) (Option.some (Jvm.ClassFile.FieldType.object "ValleyMass$Valley"))) ∈ lw_all := lw_g (lw_at lw_m3 234 rfl) rfl
theorem q814 : (Jvm.Cond.methodLink "ValleyMass$Reader" (136 : Nat) ({ cls := "ValleyMass$Reader", name := "next", desc := "()V" } : Jvm.MethodName)) ∈ lw_all := lw_g (lw_at lw_m3 235 rfl) rfl
theorem q815 : (Jvm.Cond.privateMethod ({ cls := "ValleyMass$Reader", name := "next", desc := "()V" } : Jvm.MethodName)) ∈ lw_tbl := lw_at lw_m3 236 rfl
theorem q816 : (Jvm.Cond.instanceMethod ({ cls := "ValleyMass$Reader", name := "next", desc := "()V" } : Jvm.MethodName)) ∈ lw_all := lw_g (lw_at lw_m3 237 rfl) rfl
theorem q817 : (Jvm.Cond.code ({ cls := "ValleyMass$Reader", name := "next", desc := "()V" } : Jvm.MethodName) prog_6_method_5_code (1 : Nat) (Option.none : Option Jvm.ClassFile.FieldType)) ∈ lw_all := lw_g (lw_at lw_m3 238 rfl) rfl
theorem q818 : (Jvm.Cond.methodLink "ValleyMass$Reader" (85 : Nat) ({ cls := "ValleyMass$Reader", name := "here", desc := "()I" } : Jvm.MethodName)) ∈ lw_all := lw_g (lw_at lw_m3 239 rfl) rfl
theorem q819 : (Jvm.Cond.privateMethod ({ cls := "ValleyMass$Reader", name := "here", desc := "()I" } : Jvm.MethodName)) ∈ lw_tbl := lw_at lw_m4 0 rfl
theorem q820 : (Jvm.Cond.instanceMethod ({ cls := "ValleyMass$Reader", name := "here", desc := "()I" } : Jvm.MethodName)) ∈ lw_all := lw_g (lw_at lw_m4 1 rfl) rfl
theorem q821 : (Jvm.Cond.code ({ cls := "ValleyMass$Reader", name := "here", desc := "()I" } : Jvm.MethodName) prog_6_method_2_code (1 : Nat) (Option.some Jvm.ClassFile.FieldType.int)) ∈ lw_all := lw_g (lw_at lw_m4 2 rfl) rfl
theorem q822 : (Jvm.Cond.methodLink "ValleyMass$Reader" (99 : Nat) ({ cls := "ValleyMass$Reader", name := "isLetter", desc := "()Z" } : Jvm.MethodName)) ∈ lw_all := lw_g (lw_at lw_m4 3 rfl) rfl
theorem q823 : (Jvm.Cond.privateMethod ({ cls := "ValleyMass$Reader", name := "isLetter", desc := "()Z" } : Jvm.MethodName)) ∈ lw_tbl := lw_at lw_m4 4 rfl
theorem q824 : (Jvm.Cond.instanceMethod ({ cls := "ValleyMass$Reader", name := "isLetter", desc := "()Z" } : Jvm.MethodName)) ∈ lw_all := lw_g (lw_at lw_m4 5 rfl) rfl
theorem q825 : (Jvm.Cond.code ({ cls := "ValleyMass$Reader", name := "isLetter", desc := "()Z" } : Jvm.MethodName) prog_6_method_3_code (1 : Nat) (Option.some Jvm.ClassFile.FieldType.boolean)) ∈ lw_all := lw_g (lw_at lw_m4 6 rfl) rfl
theorem q826 : (Jvm.Cond.methodLinkNest "ValleyMass$Reader" (89 : Nat) ({ cls := "ValleyMass", name := "in", desc := "(III)Z" } : Jvm.MethodName) "ValleyMass") ∈ lw_tbl := lw_at lw_m4 7 rfl
theorem q827 : (Jvm.Cond.methodLink "ValleyMass$Reader" (103 : Nat) ({ cls := "ValleyMass$Reader", name := "isDigit", desc := "()Z" } : Jvm.MethodName)) ∈ lw_all := lw_g (lw_at lw_m4 8 rfl) rfl
theorem q828 : (Jvm.Cond.privateMethod ({ cls := "ValleyMass$Reader", name := "isDigit", desc := "()Z" } : Jvm.MethodName)) ∈ lw_tbl := lw_at lw_m4 9 rfl
theorem q829 : (Jvm.Cond.instanceMethod ({ cls := "ValleyMass$Reader", name := "isDigit", desc := "()Z" } : Jvm.MethodName)) ∈ lw_all := lw_g (lw_at lw_m4 10 rfl) rfl
theorem q830 : (Jvm.Cond.code ({ cls := "ValleyMass$Reader", name := "isDigit", desc := "()Z" } : Jvm.MethodName) prog_6_method_4_code (1 : Nat) (Option.some Jvm.ClassFile.FieldType.boolean)) ∈ lw_all := lw_g (lw_at lw_m4 11 rfl) rfl
theorem q831 : (Jvm.Cond.constant "ValleyMass$Reader" (109 : Nat) (100000 : Int32)) ∈ lw_all := lw_g (lw_at lw_m4 12 rfl) rfl
theorem q832 : (Jvm.Cond.methodLink "ValleyMass$Reader" (110 : Nat) ({ cls := "java/lang/Math", name := "min", desc := "(II)I" } : Jvm.MethodName)) ∈ lw_all := lw_g (lw_at lw_m4 13 rfl) rfl
theorem q833 : (Jvm.Cond.stringRef "ValleyMass$Reader" (116 : Nat) ";()+-*/<=") ∈ lw_tbl := lw_at lw_m4 14 rfl
theorem q834 : (Jvm.Cond.methodLink "ValleyMass$Reader" (118 : Nat) ({ cls := "java/lang/String", name := "indexOf", desc := "(I)I" } : Jvm.MethodName)) ∈ lw_all := lw_g (lw_at lw_m4 15 rfl) rfl
theorem q903 : (Jvm.Cond.methodLink "ValleyMass$Reader" (280 : Nat) ({ cls := "ValleyMass$Reader", name := "line", desc := "()V" } : Jvm.MethodName)) ∈ lw_all := lw_g (lw_at lw_m4 84 rfl) rfl
theorem q904 : (Jvm.Cond.privateMethod ({ cls := "ValleyMass$Reader", name := "line", desc := "()V" } : Jvm.MethodName)) ∈ lw_tbl := lw_at lw_m4 85 rfl
theorem q905 : (Jvm.Cond.instanceMethod ({ cls := "ValleyMass$Reader", name := "line", desc := "()V" } : Jvm.MethodName)) ∈ lw_all := lw_g (lw_at lw_m4 86 rfl) rfl
theorem q906 : (Jvm.Cond.code ({ cls := "ValleyMass$Reader", name := "line", desc := "()V" } : Jvm.MethodName) prog_6_method_23_code (3 : Nat) (Option.none : Option Jvm.ClassFile.FieldType)) ∈ lw_all := lw_g (lw_at lw_m4 87 rfl) rfl
theorem q907 : (Jvm.Cond.methodLink "ValleyMass$Reader" (164 : Nat) ({ cls := "ValleyMass$Reader", name := "which", desc := "([Ljava/lang/String;)I" } : Jvm.MethodName)) ∈ lw_all := lw_g (lw_at lw_m4 88 rfl) rfl
theorem q908 : (Jvm.Cond.privateMethod ({ cls := "ValleyMass$Reader", name := "which", desc := "([Ljava/lang/String;)I" } : Jvm.MethodName)) ∈ lw_tbl := lw_at lw_m4 89 rfl
theorem q909 : (Jvm.Cond.instanceMethod ({ cls := "ValleyMass$Reader", name := "which", desc := "([Ljava/lang/String;)I" } : Jvm.MethodName)) ∈ lw_all := lw_g (lw_at lw_m4 90 rfl) rfl
theorem q910 : (Jvm.Cond.code ({ cls := "ValleyMass$Reader", name := "which", desc := "([Ljava/lang/String;)I" } : Jvm.MethodName) prog_6_method_7_code (3 : Nat) (Option.some Jvm.ClassFile.FieldType.int)) ∈ lw_all := lw_g (lw_at lw_m4 91 rfl) rfl
theorem q911 : (Jvm.Cond.methodLink "ValleyMass$Reader" (132 : Nat) ({ cls := "ValleyMass$Reader", name := "is", desc := "(Ljava/lang/String;)Z" } : Jvm.MethodName)) ∈ lw_all := lw_g (lw_at lw_m4 92 rfl) rfl
theorem q912 : (Jvm.Cond.privateMethod ({ cls := "ValleyMass$Reader", name := "is", desc := "(Ljava/lang/String;)Z" } : Jvm.MethodName)) ∈ lw_tbl := lw_at lw_m4 93 rfl
theorem q913 : (Jvm.Cond.instanceMethod ({ cls := "ValleyMass$Reader", name := "is", desc := "(Ljava/lang/String;)Z" } : Jvm.MethodName)) ∈ lw_all := lw_g (lw_at lw_m4 94 rfl) rfl
theorem q914 : (Jvm.Cond.code ({ cls := "ValleyMass$Reader", name := "is", desc := "(Ljava/lang/String;)Z" } : Jvm.MethodName) prog_6_method_6_code (3 : Nat) (Option.some Jvm.ClassFile.FieldType.boolean)) ∈ lw_all := lw_g (lw_at lw_m4 95 rfl) rfl
theorem q915 : (Jvm.Cond.methodLink "ValleyMass$Reader" (125 : Nat) ({ cls := "java/lang/String", name := "length", desc := "()I" } : Jvm.MethodName)) ∈ lw_all := lw_g (lw_at lw_m4 96 rfl) rfl
theorem q916 : (Jvm.Cond.methodLink "ValleyMass$Reader" (128 : Nat) ({ cls := "java/lang/String", name := "charAt", desc := "(I)C" } : Jvm.MethodName)) ∈ lw_all := lw_g (lw_at lw_m4 97 rfl) rfl
theorem q931 : (Jvm.Cond.methodLink "ValleyMass$Reader" (259 : Nat) ({ cls := "ValleyMass$Reader", name := "singer", desc := "(I)V" } : Jvm.MethodName)) ∈ lw_all := lw_g (lw_at lw_m4 112 rfl) rfl
theorem q932 : (Jvm.Cond.privateMethod ({ cls := "ValleyMass$Reader", name := "singer", desc := "(I)V" } : Jvm.MethodName)) ∈ lw_tbl := lw_at lw_m4 113 rfl
theorem q933 : (Jvm.Cond.instanceMethod ({ cls := "ValleyMass$Reader", name := "singer", desc := "(I)V" } : Jvm.MethodName)) ∈ lw_all := lw_g (lw_at lw_m4 114 rfl) rfl
theorem q934 : (Jvm.Cond.code ({ cls := "ValleyMass$Reader", name := "singer", desc := "(I)V" } : Jvm.MethodName) prog_6_method_20_code (5 : Nat) (Option.none : Option Jvm.ClassFile.FieldType)) ∈ lw_all := lw_g (lw_at lw_m4 115 rfl) rfl
theorem q935 : (Jvm.Cond.interfaceEntry "ValleyMass$Reader" (216 : Nat)) ∈ lw_tbl := lw_at lw_m4 116 rfl
theorem q936 : (Jvm.Cond.methodLink "ValleyMass$Reader" (216 : Nat) ({ cls := "java/util/List", name := "size", desc := "()I" } : Jvm.MethodName)) ∈ lw_all := lw_g (lw_at lw_m4 117 rfl) rfl
theorem q937 : (Jvm.Cond.methodLink "ValleyMass$Reader" (144 : Nat) ({ cls := "ValleyMass$Reader", name := "want", desc := "(ZI)V" } : Jvm.MethodName)) ∈ lw_all := lw_g (lw_at lw_m4 118 rfl) rfl
theorem q938 : (Jvm.Cond.privateMethod ({ cls := "ValleyMass$Reader", name := "want", desc := "(ZI)V" } : Jvm.MethodName)) ∈ lw_tbl := lw_at lw_m4 119 rfl
theorem q939 : (Jvm.Cond.instanceMethod ({ cls := "ValleyMass$Reader", name := "want", desc := "(ZI)V" } : Jvm.MethodName)) ∈ lw_all := lw_g (lw_at lw_m4 120 rfl) rfl
theorem q940 : (Jvm.Cond.code ({ cls := "ValleyMass$Reader", name := "want", desc := "(ZI)V" } : Jvm.MethodName) prog_6_method_10_code (3 : Nat) (Option.none : Option Jvm.ClassFile.FieldType)) ∈ lw_all := lw_g (lw_at lw_m4 121 rfl) rfl
theorem q941 : (Jvm.Cond.classLink "ValleyMass$Reader" (139 : Nat) "ValleyMass$Wrong") ∈ lw_all := lw_g (lw_at lw_m4 122 rfl) rfl
theorem q950 : (Jvm.Cond.methodLink "ValleyMass$Reader" (141 : Nat) ({ cls := "ValleyMass$Wrong", name := "<init>", desc := "(I)V" } : Jvm.MethodName)) ∈ lw_all := lw_g (lw_at lw_m4 131 rfl) rfl
theorem q965 : (Jvm.Cond.methodLink "ValleyMass$Reader" (153 : Nat) ({ cls := "ValleyMass$Reader", name := "number", desc := "(II)I" } : Jvm.MethodName)) ∈ lw_all := lw_g (lw_at lw_m4 146 rfl) rfl
theorem q966 : (Jvm.Cond.privateMethod ({ cls := "ValleyMass$Reader", name := "number", desc := "(II)I" } : Jvm.MethodName)) ∈ lw_tbl := lw_at lw_m4 147 rfl
theorem q967 : (Jvm.Cond.instanceMethod ({ cls := "ValleyMass$Reader", name := "number", desc := "(II)I" } : Jvm.MethodName)) ∈ lw_all := lw_g (lw_at lw_m4 148 rfl) rfl
theorem q968 : (Jvm.Cond.code ({ cls := "ValleyMass$Reader", name := "number", desc := "(II)I" } : Jvm.MethodName) prog_6_method_12_code (4 : Nat) (Option.some Jvm.ClassFile.FieldType.int)) ∈ lw_all := lw_g (lw_at lw_m4 149 rfl) rfl
theorem q969 : (Jvm.Cond.methodLink "ValleyMass$Reader" (148 : Nat) ({ cls := "ValleyMass$Reader", name := "numberNow", desc := "(II)I" } : Jvm.MethodName)) ∈ lw_all := lw_g (lw_at lw_m4 150 rfl) rfl
theorem q970 : (Jvm.Cond.privateMethod ({ cls := "ValleyMass$Reader", name := "numberNow", desc := "(II)I" } : Jvm.MethodName)) ∈ lw_tbl := lw_at lw_m4 151 rfl
theorem q971 : (Jvm.Cond.instanceMethod ({ cls := "ValleyMass$Reader", name := "numberNow", desc := "(II)I" } : Jvm.MethodName)) ∈ lw_all := lw_g (lw_at lw_m4 152 rfl) rfl
theorem q972 : (Jvm.Cond.code ({ cls := "ValleyMass$Reader", name := "numberNow", desc := "(II)I" } : Jvm.MethodName) prog_6_method_11_code (3 : Nat) (Option.some Jvm.ClassFile.FieldType.int)) ∈ lw_all := lw_g (lw_at lw_m4 153 rfl) rfl
theorem q973 : (Jvm.Cond.classLink "ValleyMass$Reader" (220 : Nat) "ValleyMass$Singer") ∈ lw_all := lw_g (lw_at lw_m4 154 rfl) rfl
theorem q975 : (Jvm.Cond.methodLink "ValleyMass$Reader" (222 : Nat) ({ cls := "ValleyMass$Singer", name := "<init>", desc := "(IIIII)V" } : Jvm.MethodName)) ∈ lw_all := lw_g (lw_at lw_m4 156 rfl) rfl
theorem q1006 : (Jvm.Cond.interfaceEntry "ValleyMass$Reader" (225 : Nat)) ∈ lw_tbl := lw_at lw_m4 187 rfl
theorem q1007 : (Jvm.Cond.methodLink "ValleyMass$Reader" (225 : Nat) ({ cls := "java/util/List", name := "add", desc := "(Ljava/lang/Object;)Z" } : Jvm.MethodName)) ∈ lw_all := lw_g (lw_at lw_m4 188 rfl) rfl
theorem q1008 : (Jvm.Cond.methodLink "ValleyMass$Reader" (261 : Nat) ({ cls := "ValleyMass$Reader", name := "row", desc := "(I)V" } : Jvm.MethodName)) ∈ lw_all := lw_g (lw_at lw_m4 189 rfl) rfl
theorem q1009 : (Jvm.Cond.privateMethod ({ cls := "ValleyMass$Reader", name := "row", desc := "(I)V" } : Jvm.MethodName)) ∈ lw_tbl := lw_at lw_m4 190 rfl
theorem q1010 : (Jvm.Cond.instanceMethod ({ cls := "ValleyMass$Reader", name := "row", desc := "(I)V" } : Jvm.MethodName)) ∈ lw_all := lw_g (lw_at lw_m4 191 rfl) rfl
theorem q1011 : (Jvm.Cond.code ({ cls := "ValleyMass$Reader", name := "row", desc := "(I)V" } : Jvm.MethodName) prog_6_method_21_code (4 : Nat) (Option.none : Option Jvm.ClassFile.FieldType)) ∈ lw_all := lw_g (lw_at lw_m4 192 rfl) rfl
theorem q1012 : (Jvm.Cond.interfaceEntry "ValleyMass$Reader" (231 : Nat)) ∈ lw_tbl := lw_at lw_m4 193 rfl
theorem q1013 : (Jvm.Cond.methodLink "ValleyMass$Reader" (231 : Nat) ({ cls := "java/util/List", name := "isEmpty", desc := "()Z" } : Jvm.MethodName)) ∈ lw_all := lw_g (lw_at lw_m4 194 rfl) rfl
theorem q1014 : (Jvm.Cond.interfaceEntry "ValleyMass$Reader" (234 : Nat)) ∈ lw_tbl := lw_at lw_m4 195 rfl
theorem q1015 : (Jvm.Cond.methodLink "ValleyMass$Reader" (234 : Nat) ({ cls := "java/util/List", name := "get", desc := "(I)Ljava/lang/Object;" } : Jvm.MethodName)) ∈ lw_all := lw_g (lw_at lw_m4 196 rfl) rfl
theorem q1016 : (Jvm.Cond.classLink "ValleyMass$Reader" (238 : Nat) "[LValleyMass$Row;") ∈ lw_all := lw_g (lw_at lw_m4 197 rfl) rfl
theorem q1017 : (Jvm.Cond.classLink "ValleyMass$Reader" (240 : Nat) "ValleyMass$Row") ∈ lw_all := lw_g (lw_at lw_m4 198 rfl) rfl
theorem q1019 : (Jvm.Cond.methodLink "ValleyMass$Reader" (242 : Nat) ({ cls := "ValleyMass$Row", name := "<init>", desc := "(I)V" } : Jvm.MethodName)) ∈ lw_all := lw_g (lw_at lw_m4 200 rfl) rfl
theorem q1030 : (Jvm.Cond.fieldLinkNest "ValleyMass$Reader" (243 : Nat) "ValleyMass$Row" "notes" "Ljava/util/List;" "ValleyMass") ∈ lw_tbl := lw_at lw_m4 211 rfl
theorem q1036 : (Jvm.Cond.methodLink "ValleyMass$Reader" (246 : Nat) ({ cls := "java/lang/Integer", name := "valueOf", desc := "(I)Ljava/lang/Integer;" } : Jvm.MethodName)) ∈ lw_all := lw_g (lw_at lw_m4 217 rfl) rfl
theorem q1056 : (Jvm.Cond.stringRef "ValleyMass$Reader" (264 : Nat) "piece") ∈ lw_tbl := lw_at lw_m4 237 rfl
theorem q1058 : (Jvm.Cond.stringRef "ValleyMass$Reader" (266 : Nat) "every") ∈ lw_tbl := lw_at lw_m4 239 rfl
theorem q1059 : (Jvm.Cond.stringRef "ValleyMass$Reader" (274 : Nat) "truce") ∈ lw_tbl := lw_at lw_m5 0 rfl
theorem q1060 : (Jvm.Cond.stringRef "ValleyMass$Reader" (275 : Nat) "aim") ∈ lw_tbl := lw_at lw_m5 1 rfl
theorem q1061 : (Jvm.Cond.methodLink "ValleyMass$Reader" (276 : Nat) ({ cls := "ValleyMass$Reader", name := "rule", desc := "(Z)V" } : Jvm.MethodName)) ∈ lw_all := lw_g (lw_at lw_m5 2 rfl) rfl
theorem q1062 : (Jvm.Cond.privateMethod ({ cls := "ValleyMass$Reader", name := "rule", desc := "(Z)V" } : Jvm.MethodName)) ∈ lw_tbl := lw_at lw_m5 3 rfl
theorem q1063 : (Jvm.Cond.instanceMethod ({ cls := "ValleyMass$Reader", name := "rule", desc := "(Z)V" } : Jvm.MethodName)) ∈ lw_all := lw_g (lw_at lw_m5 4 rfl) rfl
theorem q1064 : (Jvm.Cond.code ({ cls := "ValleyMass$Reader", name := "rule", desc := "(Z)V" } : Jvm.MethodName) prog_6_method_22_code (4 : Nat) (Option.none : Option Jvm.ClassFile.FieldType)) ∈ lw_all := lw_g (lw_at lw_m5 5 rfl) rfl
theorem q1065 : (Jvm.Cond.methodLink "ValleyMass$Reader" (160 : Nat) ({ cls := "ValleyMass$Reader", name := "expression", desc := "(I)LValleyMass$Form;" } : Jvm.MethodName)) ∈ lw_all := lw_g (lw_at lw_m5 6 rfl) rfl
theorem q1066 : (Jvm.Cond.privateMethod ({ cls := "ValleyMass$Reader", name := "expression", desc := "(I)LValleyMass$Form;" } : Jvm.MethodName)) ∈ lw_tbl := lw_at lw_m5 7 rfl
theorem q1067 : (Jvm.Cond.instanceMethod ({ cls := "ValleyMass$Reader", name := "expression", desc := "(I)LValleyMass$Form;" } : Jvm.MethodName)) ∈ lw_all := lw_g (lw_at lw_m5 8 rfl) rfl
theorem q1068 : (Jvm.Cond.code ({ cls := "ValleyMass$Reader", name := "expression", desc := "(I)LValleyMass$Form;" } : Jvm.MethodName) prog_6_method_19_code (3 : Nat) (Option.some (Jvm.ClassFile.FieldType.object "ValleyMass$Form"))) ∈ lw_all := lw_g (lw_at lw_m5 9 rfl) rfl
theorem q1069 : (Jvm.Cond.methodLink "ValleyMass$Reader" (156 : Nat) ({ cls := "ValleyMass$Reader", name := "isSign", desc := "(C)Z" } : Jvm.MethodName)) ∈ lw_all := lw_g (lw_at lw_m5 10 rfl) rfl
theorem q1070 : (Jvm.Cond.privateMethod ({ cls := "ValleyMass$Reader", name := "isSign", desc := "(C)Z" } : Jvm.MethodName)) ∈ lw_tbl := lw_at lw_m5 11 rfl
theorem q1071 : (Jvm.Cond.instanceMethod ({ cls := "ValleyMass$Reader", name := "isSign", desc := "(C)Z" } : Jvm.MethodName)) ∈ lw_all := lw_g (lw_at lw_m5 12 rfl) rfl
theorem q1072 : (Jvm.Cond.code ({ cls := "ValleyMass$Reader", name := "isSign", desc := "(C)Z" } : Jvm.MethodName) prog_6_method_8_code (2 : Nat) (Option.some Jvm.ClassFile.FieldType.boolean)) ∈ lw_all := lw_g (lw_at lw_m5 13 rfl) rfl
theorem q1073 : (Jvm.Cond.classLink "ValleyMass$Reader" (171 : Nat) "ValleyMass$Chain") ∈ lw_all := lw_g (lw_at lw_m5 14 rfl) rfl
theorem q1075 : (Jvm.Cond.methodLink "ValleyMass$Reader" (208 : Nat) ({ cls := "ValleyMass$Reader", name := "and", desc := "(I)LValleyMass$Form;" } : Jvm.MethodName)) ∈ lw_all := lw_g (lw_at lw_m5 16 rfl) rfl
theorem q1076 : (Jvm.Cond.privateMethod ({ cls := "ValleyMass$Reader", name := "and", desc := "(I)LValleyMass$Form;" } : Jvm.MethodName)) ∈ lw_tbl := lw_at lw_m5 17 rfl
theorem q1077 : (Jvm.Cond.instanceMethod ({ cls := "ValleyMass$Reader", name := "and", desc := "(I)LValleyMass$Form;" } : Jvm.MethodName)) ∈ lw_all := lw_g (lw_at lw_m5 18 rfl) rfl
theorem q1078 : (Jvm.Cond.code ({ cls := "ValleyMass$Reader", name := "and", desc := "(I)LValleyMass$Form;" } : Jvm.MethodName) prog_6_method_18_code (3 : Nat) (Option.some (Jvm.ClassFile.FieldType.object "ValleyMass$Form"))) ∈ lw_all := lw_g (lw_at lw_m5 19 rfl) rfl
theorem q1079 : (Jvm.Cond.methodLink "ValleyMass$Reader" (201 : Nat) ({ cls := "ValleyMass$Reader", name := "not", desc := "(I)LValleyMass$Form;" } : Jvm.MethodName)) ∈ lw_all := lw_g (lw_at lw_m5 20 rfl) rfl
theorem q1080 : (Jvm.Cond.privateMethod ({ cls := "ValleyMass$Reader", name := "not", desc := "(I)LValleyMass$Form;" } : Jvm.MethodName)) ∈ lw_tbl := lw_at lw_m5 21 rfl
theorem q1081 : (Jvm.Cond.instanceMethod ({ cls := "ValleyMass$Reader", name := "not", desc := "(I)LValleyMass$Form;" } : Jvm.MethodName)) ∈ lw_all := lw_g (lw_at lw_m5 22 rfl) rfl
theorem q1082 : (Jvm.Cond.code ({ cls := "ValleyMass$Reader", name := "not", desc := "(I)LValleyMass$Form;" } : Jvm.MethodName) prog_6_method_17_code (6 : Nat) (Option.some (Jvm.ClassFile.FieldType.object "ValleyMass$Form"))) ∈ lw_all := lw_g (lw_at lw_m5 23 rfl) rfl
theorem q1083 : (Jvm.Cond.stringRef "ValleyMass$Reader" (193 : Nat) "not") ∈ lw_tbl := lw_at lw_m5 24 rfl
theorem q1084 : (Jvm.Cond.methodLink "ValleyMass$Reader" (195 : Nat) ({ cls := "ValleyMass$Reader", name := "sum", desc := "(I)LValleyMass$Form;" } : Jvm.MethodName)) ∈ lw_all := lw_g (lw_at lw_m5 25 rfl) rfl
theorem q1085 : (Jvm.Cond.privateMethod ({ cls := "ValleyMass$Reader", name := "sum", desc := "(I)LValleyMass$Form;" } : Jvm.MethodName)) ∈ lw_tbl := lw_at lw_m5 26 rfl
theorem q1086 : (Jvm.Cond.instanceMethod ({ cls := "ValleyMass$Reader", name := "sum", desc := "(I)LValleyMass$Form;" } : Jvm.MethodName)) ∈ lw_all := lw_g (lw_at lw_m5 27 rfl) rfl
theorem q1087 : (Jvm.Cond.code ({ cls := "ValleyMass$Reader", name := "sum", desc := "(I)LValleyMass$Form;" } : Jvm.MethodName) prog_6_method_16_code (4 : Nat) (Option.some (Jvm.ClassFile.FieldType.object "ValleyMass$Form"))) ∈ lw_all := lw_g (lw_at lw_m5 28 rfl) rfl
theorem q1088 : (Jvm.Cond.methodLink "ValleyMass$Reader" (190 : Nat) ({ cls := "ValleyMass$Reader", name := "product", desc := "(I)LValleyMass$Form;" } : Jvm.MethodName)) ∈ lw_all := lw_g (lw_at lw_m5 29 rfl) rfl
theorem q1089 : (Jvm.Cond.privateMethod ({ cls := "ValleyMass$Reader", name := "product", desc := "(I)LValleyMass$Form;" } : Jvm.MethodName)) ∈ lw_tbl := lw_at lw_m5 30 rfl
theorem q1090 : (Jvm.Cond.instanceMethod ({ cls := "ValleyMass$Reader", name := "product", desc := "(I)LValleyMass$Form;" } : Jvm.MethodName)) ∈ lw_all := lw_g (lw_at lw_m5 31 rfl) rfl
theorem q1091 : (Jvm.Cond.code ({ cls := "ValleyMass$Reader", name := "product", desc := "(I)LValleyMass$Form;" } : Jvm.MethodName) prog_6_method_15_code (4 : Nat) (Option.some (Jvm.ClassFile.FieldType.object "ValleyMass$Form"))) ∈ lw_all := lw_g (lw_at lw_m5 32 rfl) rfl
theorem q1092 : (Jvm.Cond.methodLink "ValleyMass$Reader" (173 : Nat) ({ cls := "ValleyMass$Reader", name := "part", desc := "(I)LValleyMass$Form;" } : Jvm.MethodName)) ∈ lw_all := lw_g (lw_at lw_m5 33 rfl) rfl
theorem q1093 : (Jvm.Cond.privateMethod ({ cls := "ValleyMass$Reader", name := "part", desc := "(I)LValleyMass$Form;" } : Jvm.MethodName)) ∈ lw_tbl := lw_at lw_m5 34 rfl
theorem q1094 : (Jvm.Cond.instanceMethod ({ cls := "ValleyMass$Reader", name := "part", desc := "(I)LValleyMass$Form;" } : Jvm.MethodName)) ∈ lw_all := lw_g (lw_at lw_m5 35 rfl) rfl
theorem q1095 : (Jvm.Cond.code ({ cls := "ValleyMass$Reader", name := "part", desc := "(I)LValleyMass$Form;" } : Jvm.MethodName) prog_6_method_13_code (3 : Nat) (Option.some (Jvm.ClassFile.FieldType.object "ValleyMass$Form"))) ∈ lw_all := lw_g (lw_at lw_m5 36 rfl) rfl
theorem q1096 : (Jvm.Cond.classLink "ValleyMass$Reader" (151 : Nat) "ValleyMass$Number") ∈ lw_all := lw_g (lw_at lw_m5 37 rfl) rfl
theorem q1098 : (Jvm.Cond.methodLink "ValleyMass$Reader" (155 : Nat) ({ cls := "ValleyMass$Number", name := "<init>", desc := "(I)V" } : Jvm.MethodName)) ∈ lw_all := lw_g (lw_at lw_m5 39 rfl) rfl
theorem q1106 : (Jvm.Cond.classLink "ValleyMass$Reader" (168 : Nat) "ValleyMass$Value") ∈ lw_all := lw_g (lw_at lw_m5 47 rfl) rfl
theorem q1108 : (Jvm.Cond.methodLink "ValleyMass$Reader" (170 : Nat) ({ cls := "ValleyMass$Value", name := "<init>", desc := "(I)V" } : Jvm.MethodName)) ∈ lw_all := lw_g (lw_at lw_m5 49 rfl) rfl
theorem q1116 : (Jvm.Cond.methodLink "ValleyMass$Reader" (175 : Nat) ({ cls := "ValleyMass$Chain", name := "<init>", desc := "(LValleyMass$Form;)V" } : Jvm.MethodName)) ∈ lw_all := lw_g (lw_at lw_m5 57 rfl) rfl
theorem q1159 : (Jvm.Cond.methodLink "ValleyMass$Reader" (178 : Nat) ({ cls := "ValleyMass$Reader", name := "sign", desc := "()C" } : Jvm.MethodName)) ∈ lw_all := lw_g (lw_at lw_m5 100 rfl) rfl
theorem q1160 : (Jvm.Cond.privateMethod ({ cls := "ValleyMass$Reader", name := "sign", desc := "()C" } : Jvm.MethodName)) ∈ lw_tbl := lw_at lw_m5 101 rfl
theorem q1161 : (Jvm.Cond.instanceMethod ({ cls := "ValleyMass$Reader", name := "sign", desc := "()C" } : Jvm.MethodName)) ∈ lw_all := lw_g (lw_at lw_m5 102 rfl) rfl
theorem q1162 : (Jvm.Cond.code ({ cls := "ValleyMass$Reader", name := "sign", desc := "()C" } : Jvm.MethodName) prog_6_method_14_code (2 : Nat) (Option.some Jvm.ClassFile.FieldType.char)) ∈ lw_all := lw_g (lw_at lw_m5 103 rfl) rfl
theorem q1163 : (Jvm.Cond.methodLink "ValleyMass$Reader" (182 : Nat) ({ cls := "ValleyMass$Chain", name := "add", desc := "(CLValleyMass$Form;)V" } : Jvm.MethodName)) ∈ lw_all := lw_g (lw_at lw_m5 104 rfl) rfl
theorem q1227 : (Jvm.Cond.methodLink "ValleyMass$Reader" (186 : Nat) ({ cls := "ValleyMass$Chain", name := "plain", desc := "()LValleyMass$Form;" } : Jvm.MethodName)) ∈ lw_all := lw_g (lw_at lw_m5 168 rfl) rfl
theorem q1231 : (Jvm.Cond.classLink "ValleyMass$Reader" (198 : Nat) "ValleyMass$Not") ∈ lw_all := lw_g (lw_at lw_m5 172 rfl) rfl
theorem q1233 : (Jvm.Cond.methodLink "ValleyMass$Reader" (200 : Nat) ({ cls := "ValleyMass$Not", name := "<init>", desc := "(LValleyMass$Form;)V" } : Jvm.MethodName)) ∈ lw_all := lw_g (lw_at lw_m5 174 rfl) rfl
theorem q1241 : (Jvm.Cond.stringRef "ValleyMass$Reader" (203 : Nat) "and") ∈ lw_tbl := lw_at lw_m5 182 rfl
theorem q1242 : (Jvm.Cond.methodLink "ValleyMass$Reader" (205 : Nat) ({ cls := "ValleyMass$Reader", name := "passes", desc := "(Ljava/lang/String;)Z" } : Jvm.MethodName)) ∈ lw_all := lw_g (lw_at lw_m5 183 rfl) rfl
theorem q1243 : (Jvm.Cond.privateMethod ({ cls := "ValleyMass$Reader", name := "passes", desc := "(Ljava/lang/String;)Z" } : Jvm.MethodName)) ∈ lw_tbl := lw_at lw_m5 184 rfl
theorem q1244 : (Jvm.Cond.instanceMethod ({ cls := "ValleyMass$Reader", name := "passes", desc := "(Ljava/lang/String;)Z" } : Jvm.MethodName)) ∈ lw_all := lw_g (lw_at lw_m5 185 rfl) rfl
theorem q1245 : (Jvm.Cond.code ({ cls := "ValleyMass$Reader", name := "passes", desc := "(Ljava/lang/String;)Z" } : Jvm.MethodName) prog_6_method_9_code (3 : Nat) (Option.some Jvm.ClassFile.FieldType.boolean)) ∈ lw_all := lw_g (lw_at lw_m5 186 rfl) rfl
theorem q1246 : (Jvm.Cond.stringRef "ValleyMass$Reader" (210 : Nat) "or") ∈ lw_tbl := lw_at lw_m5 187 rfl
theorem q2227 : (Jvm.Cond.castable "ValleyMass$Reader" "java/lang/Object") ∈ lw_tbl := lw_at lw_m9 208 rfl
theorem in_X5 : ∀ w ∈ wsX50, w ∈ lw_all := lw_in wsX50 [781, 783, 785, 787, 789, 791, 793, 795, 797, 799, 801, 803, 805, 807] (by decide +kernel) (by decide +kernel)

/-! ValleyMass$Wrong -/
def RX6 : String := "ValleyMass$Wrong"
def TX6 : u_T := fun k => match k with
  | 0 => ("java/lang/Throwable", "cause", "Ljava/lang/Throwable;", false)
  | 1 => ("java/lang/Throwable", "stackTrace", "[Ljava/lang/StackTraceElement;", false)
  | 2 => ("java/lang/Throwable", "suppressedExceptions", "Ljava/util/List;", false)
  | 3 => ("java/lang/Throwable", "detailMessage", "Ljava/lang/String;", false)
  | 4 => ("java/lang/Throwable", "backtrace", "Ljava/lang/Object;", false)
  | 5 => ("java/lang/Throwable", "depth", "I", false)
  | _ => ("ValleyMass$Wrong", "kind", "I", true)
def tyX6 : Nat → FieldType := fun k => match k with
  | 0 => .object "java/lang/Throwable"
  | 1 => .array (.object "java/lang/StackTraceElement")
  | 2 => .object "java/util/List"
  | 3 => .object "java/lang/String"
  | 4 => .object "java/lang/Object"
  | 5 => .int
  | _ => .int
abbrev wsX60 : List Cond := u_ws RX6 TX6 7
theorem nmX6 : ∀ a, a < 7 → ∀ b, b < 7 → a ≠ b → (TX6 a).2.1 ≠ (TX6 b).2.1 := by decide +kernel
theorem tyX6_ok : ∀ k, k < 7 → parseFieldDescriptor (TX6 k).2.2.1 = some (tyX6 k) := by decide +kernel
abbrev cX6_init : ByteArray := prog_12_method_1_code
def yX6_init : MethodName := ⟨RX6, "<init>", "(I)V"⟩
def dkwX6_init_0 : List UInt8 := [42, 1, 1, 3, 3, 183, 0, 1, 42, 27, 181, 0, 7, 177]
abbrev dktX6_init_0 : List UInt8 := dkwX6_init_0 ++ []
theorem dksX6_init_0 : cX6_init.data.toList.drop 0 = dktX6_init_0 := by decide +kernel
theorem dX6_init_0 : decode cX6_init 0 = .ok (.aload_n 0, 1) := dk_42 (dk_at dksX6_init_0 0 rfl rfl)
theorem dX6_init_1 : decode cX6_init 1 = .ok (.aconst_null, 1) := dk_1 (dk_at dksX6_init_0 1 rfl rfl)
theorem dX6_init_2 : decode cX6_init 2 = .ok (.aconst_null, 1) := dk_1 (dk_at dksX6_init_0 2 rfl rfl)
theorem dX6_init_3 : decode cX6_init 3 = .ok (.iconst 0, 1) := dk_3 (dk_at dksX6_init_0 3 rfl rfl)
theorem dX6_init_4 : decode cX6_init 4 = .ok (.iconst 0, 1) := dk_3 (dk_at dksX6_init_0 4 rfl rfl)
theorem dX6_init_5 : decode cX6_init 5 = .ok (.invokespecial 1, 3) := dk_183 0 1 (dk_at dksX6_init_0 5 rfl rfl)
theorem dX6_init_8 : decode cX6_init 8 = .ok (.aload_n 0, 1) := dk_42 (dk_at dksX6_init_0 8 rfl rfl)
theorem dX6_init_9 : decode cX6_init 9 = .ok (.iload_n 1, 1) := dk_27 (dk_at dksX6_init_0 9 rfl rfl)
theorem dX6_init_10 : decode cX6_init 10 = .ok (.putfield 7, 3) := dk_181 0 7 (dk_at dksX6_init_0 10 rfl rfl)
theorem dX6_init_13 : decode cX6_init 13 = .ok (.return_, 1) := dk_177 (dk_at dksX6_init_0 13 rfl rfl)
theorem q118 : (Jvm.Cond.initialized "ValleyMass$Wrong") ∈ lw_all := lw_g (lw_at lw_m1 19 rfl) rfl
theorem q351 : (Jvm.Cond.selects "ValleyMass$Wrong" ({ cls := "java/lang/Object", name := "getClass", desc := "()Ljava/lang/Class;" } : Jvm.MethodName) ({ cls := "java/lang/Object", name := "getClass", desc := "()Ljava/lang/Class;" } : Jvm.MethodName)) ∈ lw_all := lw_g (lw_at lw_m2 12 rfl) rfl
theorem q708 : (Jvm.Cond.selects "ValleyMass$Wrong" ({ cls := "java/lang/Throwable", name := "fillInStackTrace", desc := "()Ljava/lang/Throwable;" } : Jvm.MethodName) ({ cls := "java/lang/Throwable", name := "fillInStackTrace", desc := "()Ljava/lang/Throwable;" } : Jvm.MethodName)) ∈ lw_all := lw_g (lw_at lw_m3 129 rfl) rfl
theorem q942 : (Jvm.Cond.instantiable "ValleyMass$Wrong" (7 : Nat)) ∈ lw_all := lw_g (lw_at lw_m4 123 rfl) rfl
theorem q943 : (Jvm.Cond.castable "ValleyMass$Wrong" "ValleyMass$Wrong") ∈ lw_tbl := lw_at lw_m4 124 rfl
theorem q944 : (Jvm.Cond.selects "ValleyMass$Wrong" ({ cls := "java/lang/Throwable", name := "fillInStackTrace", desc := "(I)Ljava/lang/Throwable;" } : Jvm.MethodName) ({ cls := "java/lang/Throwable", name := "fillInStackTrace", desc := "(I)Ljava/lang/Throwable;" } : Jvm.MethodName)) ∈ lw_all := lw_g (lw_at lw_m4 125 rfl) rfl
theorem q945 : (Jvm.Cond.lays "ValleyMass$Wrong" "java/lang/Throwable" "cause" "Ljava/lang/Throwable;") ∈ lw_all := lw_g (lw_at lw_m4 126 rfl) rfl
theorem q946 : (Jvm.Cond.lays "ValleyMass$Wrong" "java/lang/Throwable" "stackTrace" "[Ljava/lang/StackTraceElement;") ∈ lw_all := lw_g (lw_at lw_m4 127 rfl) rfl
theorem q947 : (Jvm.Cond.lays "ValleyMass$Wrong" "java/lang/Throwable" "suppressedExceptions" "Ljava/util/List;") ∈ lw_all := lw_g (lw_at lw_m4 128 rfl) rfl
theorem q948 : (Jvm.Cond.lays "ValleyMass$Wrong" "java/lang/Throwable" "detailMessage" "Ljava/lang/String;") ∈ lw_all := lw_g (lw_at lw_m4 129 rfl) rfl
theorem q949 : (Jvm.Cond.lays "ValleyMass$Wrong" "java/lang/Throwable" "backtrace" "Ljava/lang/Object;") ∈ lw_all := lw_g (lw_at lw_m4 130 rfl) rfl
theorem q951 : (Jvm.Cond.instanceMethod ({ cls := "ValleyMass$Wrong", name := "<init>", desc := "(I)V" } : Jvm.MethodName)) ∈ lw_all := lw_g (lw_at lw_m4 132 rfl) rfl
theorem q952 : (Jvm.Cond.code ({ cls := "ValleyMass$Wrong", name := "<init>", desc := "(I)V" } : Jvm.MethodName) prog_12_method_1_code (2 : Nat) (Option.none : Option Jvm.ClassFile.FieldType)) ∈ lw_all := lw_g (lw_at lw_m4 133 rfl) rfl
theorem q953 : (Jvm.Cond.methodLink "ValleyMass$Wrong" (1 : Nat) ({ cls := "java/lang/Exception", name := "<init>", desc := "(Ljava/lang/String;Ljava/lang/Throwable;ZZ)V" } : Jvm.MethodName)) ∈ lw_all := lw_g (lw_at lw_m4 134 rfl) rfl
theorem q959 : (Jvm.Cond.fieldLink "ValleyMass$Wrong" (7 : Nat) "ValleyMass$Wrong" "kind" "I") ∈ lw_all := lw_g (lw_at lw_m4 140 rfl) rfl
theorem q961 : (Jvm.Cond.laysFinal "ValleyMass$Wrong" "ValleyMass$Wrong" "kind" "I") ∈ lw_all := lw_g (lw_at lw_m4 142 rfl) rfl
theorem q962 : (Jvm.Cond.soleField "ValleyMass$Wrong" "kind") ∈ lw_all := lw_g (lw_at lw_m4 143 rfl) rfl
theorem q963 : (Jvm.Cond.lays "ValleyMass$Wrong" "java/lang/Throwable" "depth" "I") ∈ lw_all := lw_g (lw_at lw_m4 144 rfl) rfl
theorem q964 : (Jvm.Cond.superclass "ValleyMass$Wrong" "java/lang/Exception") ∈ lw_all := lw_g (lw_at lw_m4 145 rfl) rfl
theorem q2228 : (Jvm.Cond.castable "ValleyMass$Wrong" "java/lang/Object") ∈ lw_tbl := lw_at lw_m9 209 rfl
theorem in_X6 : ∀ w ∈ wsX60, w ∈ lw_all := lw_in wsX60 [945, 946, 947, 948, 949, 963, 961] (by decide +kernel) (by decide +kernel)

/-! ValleyMass$Singer -/
def RX7 : String := "ValleyMass$Singer"
def TX7 : u_T := fun k => match k with
  | 0 => ("ValleyMass$Singer", "side", "I", true)
  | 1 => ("ValleyMass$Singer", "part", "I", true)
  | 2 => ("ValleyMass$Singer", "low", "I", true)
  | 3 => ("ValleyMass$Singer", "high", "I", true)
  | _ => ("ValleyMass$Singer", "skill", "I", true)
def tyX7 : Nat → FieldType := fun k => match k with
  | 0 => .int
  | 1 => .int
  | 2 => .int
  | 3 => .int
  | _ => .int
abbrev wsX70 : List Cond := u_ws RX7 TX7 5
theorem nmX7 : ∀ a, a < 5 → ∀ b, b < 5 → a ≠ b → (TX7 a).2.1 ≠ (TX7 b).2.1 := by decide +kernel
theorem tyX7_ok : ∀ k, k < 5 → parseFieldDescriptor (TX7 k).2.2.1 = some (tyX7 k) := by decide +kernel
abbrev cX7_has : ByteArray := prog_8_method_2_code
def yX7_has : MethodName := ⟨RX7, "has", "(I)Z"⟩
def dkwX7_has_0 : List UInt8 := [27, 42, 180, 0, 16, 42, 180, 0, 19, 184, 0, 25, 172]
abbrev dktX7_has_0 : List UInt8 := dkwX7_has_0 ++ []
theorem dksX7_has_0 : cX7_has.data.toList.drop 0 = dktX7_has_0 := by decide +kernel
theorem dX7_has_0 : decode cX7_has 0 = .ok (.iload_n 1, 1) := dk_27 (dk_at dksX7_has_0 0 rfl rfl)
theorem dX7_has_1 : decode cX7_has 1 = .ok (.aload_n 0, 1) := dk_42 (dk_at dksX7_has_0 1 rfl rfl)
theorem dX7_has_2 : decode cX7_has 2 = .ok (.getfield 16, 3) := dk_180 0 16 (dk_at dksX7_has_0 2 rfl rfl)
theorem dX7_has_5 : decode cX7_has 5 = .ok (.aload_n 0, 1) := dk_42 (dk_at dksX7_has_0 5 rfl rfl)
theorem dX7_has_6 : decode cX7_has 6 = .ok (.getfield 19, 3) := dk_180 0 19 (dk_at dksX7_has_0 6 rfl rfl)
theorem dX7_has_9 : decode cX7_has 9 = .ok (.invokestatic 25, 3) := dk_184 0 25 (dk_at dksX7_has_0 9 rfl rfl)
theorem dX7_has_12 : decode cX7_has 12 = .ok (.ireturn, 1) := dk_172 (dk_at dksX7_has_0 12 rfl rfl)
abbrev cX7_init : ByteArray := prog_8_method_1_code
def yX7_init : MethodName := ⟨RX7, "<init>", "(IIIII)V"⟩
def dkwX7_init_1 : List UInt8 := [181, 0, 19, 42, 21, 5, 181, 0, 22, 177]
abbrev dktX7_init_1 : List UInt8 := dkwX7_init_1 ++ []
def dkwX7_init_0 : List UInt8 := [42, 183, 0, 1, 42, 27, 181, 0, 7, 42, 28, 181, 0, 13, 42, 29, 181, 0, 16, 42, 21, 4]
abbrev dktX7_init_0 : List UInt8 := dkwX7_init_0 ++ dktX7_init_1
theorem dksX7_init_0 : cX7_init.data.toList.drop 0 = dktX7_init_0 := by decide +kernel
theorem dksX7_init_1 : cX7_init.data.toList.drop 22 = dktX7_init_1 := dk_seg dksX7_init_0 22 rfl rfl
theorem dX7_init_0 : decode cX7_init 0 = .ok (.aload_n 0, 1) := dk_42 (dk_at dksX7_init_0 0 rfl rfl)
theorem dX7_init_1 : decode cX7_init 1 = .ok (.invokespecial 1, 3) := dk_183 0 1 (dk_at dksX7_init_0 1 rfl rfl)
theorem dX7_init_4 : decode cX7_init 4 = .ok (.aload_n 0, 1) := dk_42 (dk_at dksX7_init_0 4 rfl rfl)
theorem dX7_init_5 : decode cX7_init 5 = .ok (.iload_n 1, 1) := dk_27 (dk_at dksX7_init_0 5 rfl rfl)
theorem dX7_init_6 : decode cX7_init 6 = .ok (.putfield 7, 3) := dk_181 0 7 (dk_at dksX7_init_0 6 rfl rfl)
theorem dX7_init_9 : decode cX7_init 9 = .ok (.aload_n 0, 1) := dk_42 (dk_at dksX7_init_0 9 rfl rfl)
theorem dX7_init_10 : decode cX7_init 10 = .ok (.iload_n 2, 1) := dk_28 (dk_at dksX7_init_0 10 rfl rfl)
theorem dX7_init_11 : decode cX7_init 11 = .ok (.putfield 13, 3) := dk_181 0 13 (dk_at dksX7_init_0 11 rfl rfl)
theorem dX7_init_14 : decode cX7_init 14 = .ok (.aload_n 0, 1) := dk_42 (dk_at dksX7_init_0 14 rfl rfl)
theorem dX7_init_15 : decode cX7_init 15 = .ok (.iload_n 3, 1) := dk_29 (dk_at dksX7_init_0 15 rfl rfl)
theorem dX7_init_16 : decode cX7_init 16 = .ok (.putfield 16, 3) := dk_181 0 16 (dk_at dksX7_init_0 16 rfl rfl)
theorem dX7_init_19 : decode cX7_init 19 = .ok (.aload_n 0, 1) := dk_42 (dk_at dksX7_init_0 19 rfl rfl)
theorem dX7_init_20 : decode cX7_init 20 = .ok (.iload 4, 2) := dk_21 4 (dk_at dksX7_init_0 20 rfl rfl)
theorem dX7_init_22 : decode cX7_init 22 = .ok (.putfield 19, 3) := dk_181 0 19 (dk_at dksX7_init_1 0 rfl rfl)
theorem dX7_init_25 : decode cX7_init 25 = .ok (.aload_n 0, 1) := dk_42 (dk_at dksX7_init_1 3 rfl rfl)
theorem dX7_init_26 : decode cX7_init 26 = .ok (.iload 5, 2) := dk_21 5 (dk_at dksX7_init_1 4 rfl rfl)
theorem dX7_init_28 : decode cX7_init 28 = .ok (.putfield 22, 3) := dk_181 0 22 (dk_at dksX7_init_1 6 rfl rfl)
theorem dX7_init_31 : decode cX7_init 31 = .ok (.return_, 1) := dk_177 (dk_at dksX7_init_1 9 rfl rfl)
theorem q119 : (Jvm.Cond.initialized "ValleyMass$Singer") ∈ lw_all := lw_g (lw_at lw_m1 20 rfl) rfl
theorem q347 : (Jvm.Cond.selects "ValleyMass$Singer" ({ cls := "java/lang/Object", name := "getClass", desc := "()Ljava/lang/Class;" } : Jvm.MethodName) ({ cls := "java/lang/Object", name := "getClass", desc := "()Ljava/lang/Class;" } : Jvm.MethodName)) ∈ lw_all := lw_g (lw_at lw_m2 8 rfl) rfl
theorem q470 : (Jvm.Cond.instanceMethod ({ cls := "ValleyMass$Singer", name := "has", desc := "(I)Z" } : Jvm.MethodName)) ∈ lw_all := lw_g (lw_at lw_m2 131 rfl) rfl
theorem q471 : (Jvm.Cond.selects "ValleyMass$Singer" ({ cls := "ValleyMass$Singer", name := "has", desc := "(I)Z" } : Jvm.MethodName) ({ cls := "ValleyMass$Singer", name := "has", desc := "(I)Z" } : Jvm.MethodName)) ∈ lw_all := lw_g (lw_at lw_m2 132 rfl) rfl
theorem q472 : (Jvm.Cond.code ({ cls := "ValleyMass$Singer", name := "has", desc := "(I)Z" } : Jvm.MethodName) prog_8_method_2_code (2 : Nat) (Option.some Jvm.ClassFile.FieldType.boolean)) ∈ lw_all := lw_g (lw_at lw_m2 133 rfl) rfl
theorem q473 : (Jvm.Cond.methodLinkNest "ValleyMass$Singer" (25 : Nat) ({ cls := "ValleyMass", name := "in", desc := "(III)Z" } : Jvm.MethodName) "ValleyMass") ∈ lw_tbl := lw_at lw_m2 134 rfl
theorem q974 : (Jvm.Cond.instantiable "ValleyMass$Singer" (5 : Nat)) ∈ lw_all := lw_g (lw_at lw_m4 155 rfl) rfl
theorem q976 : (Jvm.Cond.instanceMethod ({ cls := "ValleyMass$Singer", name := "<init>", desc := "(IIIII)V" } : Jvm.MethodName)) ∈ lw_all := lw_g (lw_at lw_m4 157 rfl) rfl
theorem q977 : (Jvm.Cond.code ({ cls := "ValleyMass$Singer", name := "<init>", desc := "(IIIII)V" } : Jvm.MethodName) prog_8_method_1_code (6 : Nat) (Option.none : Option Jvm.ClassFile.FieldType)) ∈ lw_all := lw_g (lw_at lw_m4 158 rfl) rfl
theorem q978 : (Jvm.Cond.methodLink "ValleyMass$Singer" (1 : Nat) ({ cls := "java/lang/Object", name := "<init>", desc := "()V" } : Jvm.MethodName)) ∈ lw_all := lw_g (lw_at lw_m4 159 rfl) rfl
theorem q979 : (Jvm.Cond.fieldLink "ValleyMass$Singer" (7 : Nat) "ValleyMass$Singer" "side" "I") ∈ lw_all := lw_g (lw_at lw_m4 160 rfl) rfl
theorem q983 : (Jvm.Cond.fieldLink "ValleyMass$Singer" (13 : Nat) "ValleyMass$Singer" "part" "I") ∈ lw_all := lw_g (lw_at lw_m4 164 rfl) rfl
theorem q987 : (Jvm.Cond.fieldLink "ValleyMass$Singer" (16 : Nat) "ValleyMass$Singer" "low" "I") ∈ lw_all := lw_g (lw_at lw_m4 168 rfl) rfl
theorem q989 : (Jvm.Cond.fieldLink "ValleyMass$Singer" (19 : Nat) "ValleyMass$Singer" "high" "I") ∈ lw_all := lw_g (lw_at lw_m4 170 rfl) rfl
theorem q991 : (Jvm.Cond.fieldLink "ValleyMass$Singer" (22 : Nat) "ValleyMass$Singer" "skill" "I") ∈ lw_all := lw_g (lw_at lw_m4 172 rfl) rfl
theorem q995 : (Jvm.Cond.laysFinal "ValleyMass$Singer" "ValleyMass$Singer" "side" "I") ∈ lw_all := lw_g (lw_at lw_m4 176 rfl) rfl
theorem q996 : (Jvm.Cond.soleField "ValleyMass$Singer" "side") ∈ lw_all := lw_g (lw_at lw_m4 177 rfl) rfl
theorem q997 : (Jvm.Cond.laysFinal "ValleyMass$Singer" "ValleyMass$Singer" "part" "I") ∈ lw_all := lw_g (lw_at lw_m4 178 rfl) rfl
theorem q998 : (Jvm.Cond.soleField "ValleyMass$Singer" "part") ∈ lw_all := lw_g (lw_at lw_m4 179 rfl) rfl
theorem q999 : (Jvm.Cond.laysFinal "ValleyMass$Singer" "ValleyMass$Singer" "low" "I") ∈ lw_all := lw_g (lw_at lw_m4 180 rfl) rfl
theorem q1000 : (Jvm.Cond.soleField "ValleyMass$Singer" "low") ∈ lw_all := lw_g (lw_at lw_m4 181 rfl) rfl
theorem q1001 : (Jvm.Cond.laysFinal "ValleyMass$Singer" "ValleyMass$Singer" "high" "I") ∈ lw_all := lw_g (lw_at lw_m4 182 rfl) rfl
theorem q1002 : (Jvm.Cond.soleField "ValleyMass$Singer" "high") ∈ lw_all := lw_g (lw_at lw_m4 183 rfl) rfl
theorem q1003 : (Jvm.Cond.laysFinal "ValleyMass$Singer" "ValleyMass$Singer" "skill" "I") ∈ lw_all := lw_g (lw_at lw_m4 184 rfl) rfl
theorem q1004 : (Jvm.Cond.soleField "ValleyMass$Singer" "skill") ∈ lw_all := lw_g (lw_at lw_m4 185 rfl) rfl
theorem q1005 : (Jvm.Cond.superclass "ValleyMass$Singer" "java/lang/Object") ∈ lw_all := lw_g (lw_at lw_m4 186 rfl) rfl
theorem q2229 : (Jvm.Cond.castable "ValleyMass$Singer" "java/lang/Object") ∈ lw_tbl := lw_at lw_m9 210 rfl
theorem in_X7 : ∀ w ∈ wsX70, w ∈ lw_all := lw_in wsX70 [995, 997, 999, 1001, 1003] (by decide +kernel) (by decide +kernel)

/-! ValleyMass$Row -/
def RX8 : String := "ValleyMass$Row"
def TX8 : u_T := fun k => match k with
  | 0 => ("ValleyMass$Row", "need", "I", true)
  | _ => ("ValleyMass$Row", "notes", "Ljava/util/List;", true)
def tyX8 : Nat → FieldType := fun k => match k with
  | 0 => .int
  | _ => .object "java/util/List"
abbrev wsX80 : List Cond := u_ws RX8 TX8 2
theorem nmX8 : ∀ a, a < 2 → ∀ b, b < 2 → a ≠ b → (TX8 a).2.1 ≠ (TX8 b).2.1 := by decide +kernel
theorem tyX8_ok : ∀ k, k < 2 → parseFieldDescriptor (TX8 k).2.2.1 = some (tyX8 k) := by decide +kernel
abbrev cX8_fits : ByteArray := prog_7_method_2_code
def yX8_fits : MethodName := ⟨RX8, "fits", "(LValleyMass$Singer;I)Z"⟩
def dkwX8_fits_2 : List UInt8 := [167, 255, 213, 4, 172]
abbrev dktX8_fits_2 : List UInt8 := dkwX8_fits_2 ++ []
def dkwX8_fits_1 : List UInt8 := [185, 0, 26, 2, 0, 192, 0, 30, 182, 0, 32, 28, 96, 182, 0, 35, 154, 0, 5, 3, 172, 132, 3, 1]
abbrev dktX8_fits_1 : List UInt8 := dkwX8_fits_1 ++ dktX8_fits_2
def dkwX8_fits_0 : List UInt8 := [3, 62, 29, 42, 180, 0, 10, 185, 0, 20, 1, 0, 162, 0, 36, 43, 42, 180, 0, 10, 29]
abbrev dktX8_fits_0 : List UInt8 := dkwX8_fits_0 ++ dktX8_fits_1
theorem dksX8_fits_0 : cX8_fits.data.toList.drop 0 = dktX8_fits_0 := by decide +kernel
theorem dksX8_fits_1 : cX8_fits.data.toList.drop 21 = dktX8_fits_1 := dk_seg dksX8_fits_0 21 rfl rfl
theorem dksX8_fits_2 : cX8_fits.data.toList.drop 45 = dktX8_fits_2 := dk_seg dksX8_fits_1 24 rfl rfl
theorem dX8_fits_0 : decode cX8_fits 0 = .ok (.iconst 0, 1) := dk_3 (dk_at dksX8_fits_0 0 rfl rfl)
theorem dX8_fits_1 : decode cX8_fits 1 = .ok (.istore_n 3, 1) := dk_62 (dk_at dksX8_fits_0 1 rfl rfl)
theorem dX8_fits_2 : decode cX8_fits 2 = .ok (.iload_n 3, 1) := dk_29 (dk_at dksX8_fits_0 2 rfl rfl)
theorem dX8_fits_3 : decode cX8_fits 3 = .ok (.aload_n 0, 1) := dk_42 (dk_at dksX8_fits_0 3 rfl rfl)
theorem dX8_fits_4 : decode cX8_fits 4 = .ok (.getfield 10, 3) := dk_180 0 10 (dk_at dksX8_fits_0 4 rfl rfl)
theorem dX8_fits_7 : decode cX8_fits 7 = .ok (.invokeinterface 20 1, 5) := by decide +kernel
theorem dX8_fits_12 : decode cX8_fits 12 = .ok (.if_icmp .ge 36, 3) := dk_162 0 36 (dk_at dksX8_fits_0 12 rfl rfl)
theorem dX8_fits_15 : decode cX8_fits 15 = .ok (.aload_n 1, 1) := dk_43 (dk_at dksX8_fits_0 15 rfl rfl)
theorem dX8_fits_16 : decode cX8_fits 16 = .ok (.aload_n 0, 1) := dk_42 (dk_at dksX8_fits_0 16 rfl rfl)
theorem dX8_fits_17 : decode cX8_fits 17 = .ok (.getfield 10, 3) := dk_180 0 10 (dk_at dksX8_fits_0 17 rfl rfl)
theorem dX8_fits_20 : decode cX8_fits 20 = .ok (.iload_n 3, 1) := dk_29 (dk_at dksX8_fits_0 20 rfl rfl)
theorem dX8_fits_21 : decode cX8_fits 21 = .ok (.invokeinterface 26 2, 5) := by decide +kernel
theorem dX8_fits_26 : decode cX8_fits 26 = .ok (.checkcast 30, 3) := dk_192 0 30 (dk_at dksX8_fits_1 5 rfl rfl)
theorem dX8_fits_29 : decode cX8_fits 29 = .ok (.invokevirtual 32, 3) := dk_182 0 32 (dk_at dksX8_fits_1 8 rfl rfl)
theorem dX8_fits_32 : decode cX8_fits 32 = .ok (.iload_n 2, 1) := dk_28 (dk_at dksX8_fits_1 11 rfl rfl)
theorem dX8_fits_33 : decode cX8_fits 33 = .ok (.iadd, 1) := dk_96 (dk_at dksX8_fits_1 12 rfl rfl)
theorem dX8_fits_34 : decode cX8_fits 34 = .ok (.invokevirtual 35, 3) := dk_182 0 35 (dk_at dksX8_fits_1 13 rfl rfl)
theorem dX8_fits_37 : decode cX8_fits 37 = .ok (.ifCond .ne 5, 3) := dk_154 0 5 (dk_at dksX8_fits_1 16 rfl rfl)
theorem dX8_fits_40 : decode cX8_fits 40 = .ok (.iconst 0, 1) := dk_3 (dk_at dksX8_fits_1 19 rfl rfl)
theorem dX8_fits_41 : decode cX8_fits 41 = .ok (.ireturn, 1) := dk_172 (dk_at dksX8_fits_1 20 rfl rfl)
theorem dX8_fits_42 : decode cX8_fits 42 = .ok (.iinc 3 1, 3) := dk_132 3 1 (dk_at dksX8_fits_1 21 rfl rfl)
theorem dX8_fits_45 : decode cX8_fits 45 = .ok (.goto (-43), 3) := dk_167 255 213 (dk_at dksX8_fits_2 0 rfl rfl)
theorem dX8_fits_48 : decode cX8_fits 48 = .ok (.iconst 1, 1) := dk_4 (dk_at dksX8_fits_2 3 rfl rfl)
theorem dX8_fits_49 : decode cX8_fits 49 = .ok (.ireturn, 1) := dk_172 (dk_at dksX8_fits_2 4 rfl rfl)
abbrev cX8_init : ByteArray := prog_7_method_1_code
def yX8_init : MethodName := ⟨RX8, "<init>", "(I)V"⟩
def dkwX8_init_0 : List UInt8 := [42, 183, 0, 1, 42, 187, 0, 7, 89, 183, 0, 9, 181, 0, 10, 42, 27, 181, 0, 16, 177]
abbrev dktX8_init_0 : List UInt8 := dkwX8_init_0 ++ []
theorem dksX8_init_0 : cX8_init.data.toList.drop 0 = dktX8_init_0 := by decide +kernel
theorem dX8_init_0 : decode cX8_init 0 = .ok (.aload_n 0, 1) := dk_42 (dk_at dksX8_init_0 0 rfl rfl)
theorem dX8_init_1 : decode cX8_init 1 = .ok (.invokespecial 1, 3) := dk_183 0 1 (dk_at dksX8_init_0 1 rfl rfl)
theorem dX8_init_4 : decode cX8_init 4 = .ok (.aload_n 0, 1) := dk_42 (dk_at dksX8_init_0 4 rfl rfl)
theorem dX8_init_5 : decode cX8_init 5 = .ok (.new 7, 3) := dk_187 0 7 (dk_at dksX8_init_0 5 rfl rfl)
theorem dX8_init_8 : decode cX8_init 8 = .ok (.dup, 1) := dk_89 (dk_at dksX8_init_0 8 rfl rfl)
theorem dX8_init_9 : decode cX8_init 9 = .ok (.invokespecial 9, 3) := dk_183 0 9 (dk_at dksX8_init_0 9 rfl rfl)
theorem dX8_init_12 : decode cX8_init 12 = .ok (.putfield 10, 3) := dk_181 0 10 (dk_at dksX8_init_0 12 rfl rfl)
theorem dX8_init_15 : decode cX8_init 15 = .ok (.aload_n 0, 1) := dk_42 (dk_at dksX8_init_0 15 rfl rfl)
theorem dX8_init_16 : decode cX8_init 16 = .ok (.iload_n 1, 1) := dk_27 (dk_at dksX8_init_0 16 rfl rfl)
theorem dX8_init_17 : decode cX8_init 17 = .ok (.putfield 16, 3) := dk_181 0 16 (dk_at dksX8_init_0 17 rfl rfl)
theorem dX8_init_20 : decode cX8_init 20 = .ok (.return_, 1) := dk_177 (dk_at dksX8_init_0 20 rfl rfl)
theorem q124 : (Jvm.Cond.initialized "ValleyMass$Row") ∈ lw_all := lw_g (lw_at lw_m1 25 rfl) rfl
theorem q346 : (Jvm.Cond.selects "ValleyMass$Row" ({ cls := "java/lang/Object", name := "getClass", desc := "()Ljava/lang/Class;" } : Jvm.MethodName) ({ cls := "java/lang/Object", name := "getClass", desc := "()Ljava/lang/Class;" } : Jvm.MethodName)) ∈ lw_all := lw_g (lw_at lw_m2 7 rfl) rfl
theorem q457 : (Jvm.Cond.instanceMethod ({ cls := "ValleyMass$Row", name := "fits", desc := "(LValleyMass$Singer;I)Z" } : Jvm.MethodName)) ∈ lw_all := lw_g (lw_at lw_m2 118 rfl) rfl
theorem q458 : (Jvm.Cond.selects "ValleyMass$Row" ({ cls := "ValleyMass$Row", name := "fits", desc := "(LValleyMass$Singer;I)Z" } : Jvm.MethodName) ({ cls := "ValleyMass$Row", name := "fits", desc := "(LValleyMass$Singer;I)Z" } : Jvm.MethodName)) ∈ lw_all := lw_g (lw_at lw_m2 119 rfl) rfl
theorem q459 : (Jvm.Cond.code ({ cls := "ValleyMass$Row", name := "fits", desc := "(LValleyMass$Singer;I)Z" } : Jvm.MethodName) prog_7_method_2_code (4 : Nat) (Option.some Jvm.ClassFile.FieldType.boolean)) ∈ lw_all := lw_g (lw_at lw_m2 120 rfl) rfl
theorem q460 : (Jvm.Cond.interfaceEntry "ValleyMass$Row" (20 : Nat)) ∈ lw_tbl := lw_at lw_m2 121 rfl
theorem q461 : (Jvm.Cond.methodLink "ValleyMass$Row" (20 : Nat) ({ cls := "java/util/List", name := "size", desc := "()I" } : Jvm.MethodName)) ∈ lw_all := lw_g (lw_at lw_m2 122 rfl) rfl
theorem q462 : (Jvm.Cond.interfaceEntry "ValleyMass$Row" (26 : Nat)) ∈ lw_tbl := lw_at lw_m2 123 rfl
theorem q463 : (Jvm.Cond.methodLink "ValleyMass$Row" (26 : Nat) ({ cls := "java/util/List", name := "get", desc := "(I)Ljava/lang/Object;" } : Jvm.MethodName)) ∈ lw_all := lw_g (lw_at lw_m2 124 rfl) rfl
theorem q464 : (Jvm.Cond.classLink "ValleyMass$Row" (30 : Nat) "java/lang/Integer") ∈ lw_all := lw_g (lw_at lw_m2 125 rfl) rfl
theorem q465 : (Jvm.Cond.methodLink "ValleyMass$Row" (32 : Nat) ({ cls := "java/lang/Integer", name := "intValue", desc := "()I" } : Jvm.MethodName)) ∈ lw_all := lw_g (lw_at lw_m2 126 rfl) rfl
theorem q469 : (Jvm.Cond.methodLink "ValleyMass$Row" (35 : Nat) ({ cls := "ValleyMass$Singer", name := "has", desc := "(I)Z" } : Jvm.MethodName)) ∈ lw_all := lw_g (lw_at lw_m2 130 rfl) rfl
theorem q1018 : (Jvm.Cond.instantiable "ValleyMass$Row" (2 : Nat)) ∈ lw_all := lw_g (lw_at lw_m4 199 rfl) rfl
theorem q1020 : (Jvm.Cond.instanceMethod ({ cls := "ValleyMass$Row", name := "<init>", desc := "(I)V" } : Jvm.MethodName)) ∈ lw_all := lw_g (lw_at lw_m4 201 rfl) rfl
theorem q1021 : (Jvm.Cond.code ({ cls := "ValleyMass$Row", name := "<init>", desc := "(I)V" } : Jvm.MethodName) prog_7_method_1_code (2 : Nat) (Option.none : Option Jvm.ClassFile.FieldType)) ∈ lw_all := lw_g (lw_at lw_m4 202 rfl) rfl
theorem q1022 : (Jvm.Cond.methodLink "ValleyMass$Row" (1 : Nat) ({ cls := "java/lang/Object", name := "<init>", desc := "()V" } : Jvm.MethodName)) ∈ lw_all := lw_g (lw_at lw_m4 203 rfl) rfl
theorem q1023 : (Jvm.Cond.classLink "ValleyMass$Row" (7 : Nat) "java/util/ArrayList") ∈ lw_all := lw_g (lw_at lw_m4 204 rfl) rfl
theorem q1024 : (Jvm.Cond.methodLink "ValleyMass$Row" (9 : Nat) ({ cls := "java/util/ArrayList", name := "<init>", desc := "()V" } : Jvm.MethodName)) ∈ lw_all := lw_g (lw_at lw_m4 205 rfl) rfl
theorem q1025 : (Jvm.Cond.fieldLink "ValleyMass$Row" (16 : Nat) "ValleyMass$Row" "need" "I") ∈ lw_all := lw_g (lw_at lw_m4 206 rfl) rfl
theorem q1028 : (Jvm.Cond.fieldLink "ValleyMass$Row" (10 : Nat) "ValleyMass$Row" "notes" "Ljava/util/List;") ∈ lw_all := lw_g (lw_at lw_m4 209 rfl) rfl
theorem q1031 : (Jvm.Cond.laysFinal "ValleyMass$Row" "ValleyMass$Row" "need" "I") ∈ lw_all := lw_g (lw_at lw_m4 212 rfl) rfl
theorem q1032 : (Jvm.Cond.soleField "ValleyMass$Row" "need") ∈ lw_all := lw_g (lw_at lw_m4 213 rfl) rfl
theorem q1033 : (Jvm.Cond.laysFinal "ValleyMass$Row" "ValleyMass$Row" "notes" "Ljava/util/List;") ∈ lw_all := lw_g (lw_at lw_m4 214 rfl) rfl
theorem q1034 : (Jvm.Cond.soleField "ValleyMass$Row" "notes") ∈ lw_all := lw_g (lw_at lw_m4 215 rfl) rfl
theorem q1035 : (Jvm.Cond.superclass "ValleyMass$Row" "java/lang/Object") ∈ lw_all := lw_g (lw_at lw_m4 216 rfl) rfl
theorem q2220 : (Jvm.Cond.castable "ValleyMass$Row" "java/lang/Object") ∈ lw_tbl := lw_at lw_m9 201 rfl
theorem in_X8 : ∀ w ∈ wsX80, w ∈ lw_all := lw_in wsX80 [1031, 1033] (by decide +kernel) (by decide +kernel)

/-! ValleyMass$Chain -/
def RX9 : String := "ValleyMass$Chain"
def TX9 : u_T := fun k => match k with
  | 0 => ("ValleyMass$Chain", "forms", "Ljava/util/List;", true)
  | _ => ("ValleyMass$Chain", "signs", "Ljava/lang/StringBuilder;", true)
def tyX9 : Nat → FieldType := fun k => match k with
  | 0 => .object "java/util/List"
  | _ => .object "java/lang/StringBuilder"
abbrev wsX90 : List Cond := u_ws RX9 TX9 2
theorem nmX9 : ∀ a, a < 2 → ∀ b, b < 2 → a ≠ b → (TX9 a).2.1 ≠ (TX9 b).2.1 := by decide +kernel
theorem tyX9_ok : ∀ k, k < 2 → parseFieldDescriptor (TX9 k).2.2.1 = some (tyX9 k) := by decide +kernel
abbrev cX9_of : ByteArray := prog_2_method_4_code
def yX9_of : MethodName := ⟨RX9, "of", "([I)I"⟩
def dkwX9_of_3 : List UInt8 := [132, 3, 1, 167, 255, 206, 28, 172]
abbrev dktX9_of_3 : List UInt8 := dkwX9_of_3 ++ []
def dkwX9_of_2 : List UInt8 := [180, 0, 10, 29, 185, 0, 37, 2, 0, 192, 0, 41, 43, 185, 0, 43, 2, 0, 184, 0, 51, 61]
abbrev dktX9_of_2 : List UInt8 := dkwX9_of_2 ++ dktX9_of_3
def dkwX9_of_1 : List UInt8 := [180, 0, 10, 185, 0, 33, 1, 0, 162, 0, 43, 42, 180, 0, 19, 29, 4, 100, 182, 0, 47, 28, 42]
abbrev dktX9_of_1 : List UInt8 := dkwX9_of_1 ++ dktX9_of_2
def dkwX9_of_0 : List UInt8 := [42, 180, 0, 10, 3, 185, 0, 37, 2, 0, 192, 0, 41, 43, 185, 0, 43, 2, 0, 61, 4, 62, 29, 42]
abbrev dktX9_of_0 : List UInt8 := dkwX9_of_0 ++ dktX9_of_1
theorem dksX9_of_0 : cX9_of.data.toList.drop 0 = dktX9_of_0 := by decide +kernel
theorem dksX9_of_1 : cX9_of.data.toList.drop 24 = dktX9_of_1 := dk_seg dksX9_of_0 24 rfl rfl
theorem dksX9_of_2 : cX9_of.data.toList.drop 47 = dktX9_of_2 := dk_seg dksX9_of_1 23 rfl rfl
theorem dksX9_of_3 : cX9_of.data.toList.drop 69 = dktX9_of_3 := dk_seg dksX9_of_2 22 rfl rfl
theorem dX9_of_0 : decode cX9_of 0 = .ok (.aload_n 0, 1) := dk_42 (dk_at dksX9_of_0 0 rfl rfl)
theorem dX9_of_1 : decode cX9_of 1 = .ok (.getfield 10, 3) := dk_180 0 10 (dk_at dksX9_of_0 1 rfl rfl)
theorem dX9_of_4 : decode cX9_of 4 = .ok (.iconst 0, 1) := dk_3 (dk_at dksX9_of_0 4 rfl rfl)
theorem dX9_of_5 : decode cX9_of 5 = .ok (.invokeinterface 37 2, 5) := by decide +kernel
theorem dX9_of_10 : decode cX9_of 10 = .ok (.checkcast 41, 3) := dk_192 0 41 (dk_at dksX9_of_0 10 rfl rfl)
theorem dX9_of_13 : decode cX9_of 13 = .ok (.aload_n 1, 1) := dk_43 (dk_at dksX9_of_0 13 rfl rfl)
theorem dX9_of_14 : decode cX9_of 14 = .ok (.invokeinterface 43 2, 5) := by decide +kernel
theorem dX9_of_19 : decode cX9_of 19 = .ok (.istore_n 2, 1) := dk_61 (dk_at dksX9_of_0 19 rfl rfl)
theorem dX9_of_20 : decode cX9_of 20 = .ok (.iconst 1, 1) := dk_4 (dk_at dksX9_of_0 20 rfl rfl)
theorem dX9_of_21 : decode cX9_of 21 = .ok (.istore_n 3, 1) := dk_62 (dk_at dksX9_of_0 21 rfl rfl)
theorem dX9_of_22 : decode cX9_of 22 = .ok (.iload_n 3, 1) := dk_29 (dk_at dksX9_of_0 22 rfl rfl)
theorem dX9_of_23 : decode cX9_of 23 = .ok (.aload_n 0, 1) := dk_42 (dk_at dksX9_of_0 23 rfl rfl)
theorem dX9_of_24 : decode cX9_of 24 = .ok (.getfield 10, 3) := dk_180 0 10 (dk_at dksX9_of_1 0 rfl rfl)
theorem dX9_of_27 : decode cX9_of 27 = .ok (.invokeinterface 33 1, 5) := by decide +kernel
theorem dX9_of_32 : decode cX9_of 32 = .ok (.if_icmp .ge 43, 3) := dk_162 0 43 (dk_at dksX9_of_1 8 rfl rfl)
theorem dX9_of_35 : decode cX9_of 35 = .ok (.aload_n 0, 1) := dk_42 (dk_at dksX9_of_1 11 rfl rfl)
theorem dX9_of_36 : decode cX9_of 36 = .ok (.getfield 19, 3) := dk_180 0 19 (dk_at dksX9_of_1 12 rfl rfl)
theorem dX9_of_39 : decode cX9_of 39 = .ok (.iload_n 3, 1) := dk_29 (dk_at dksX9_of_1 15 rfl rfl)
theorem dX9_of_40 : decode cX9_of 40 = .ok (.iconst 1, 1) := dk_4 (dk_at dksX9_of_1 16 rfl rfl)
theorem dX9_of_41 : decode cX9_of 41 = .ok (.isub, 1) := dk_100 (dk_at dksX9_of_1 17 rfl rfl)
theorem dX9_of_42 : decode cX9_of 42 = .ok (.invokevirtual 47, 3) := dk_182 0 47 (dk_at dksX9_of_1 18 rfl rfl)
theorem dX9_of_45 : decode cX9_of 45 = .ok (.iload_n 2, 1) := dk_28 (dk_at dksX9_of_1 21 rfl rfl)
theorem dX9_of_46 : decode cX9_of 46 = .ok (.aload_n 0, 1) := dk_42 (dk_at dksX9_of_1 22 rfl rfl)
theorem dX9_of_47 : decode cX9_of 47 = .ok (.getfield 10, 3) := dk_180 0 10 (dk_at dksX9_of_2 0 rfl rfl)
theorem dX9_of_50 : decode cX9_of 50 = .ok (.iload_n 3, 1) := dk_29 (dk_at dksX9_of_2 3 rfl rfl)
theorem dX9_of_51 : decode cX9_of 51 = .ok (.invokeinterface 37 2, 5) := by decide +kernel
theorem dX9_of_56 : decode cX9_of 56 = .ok (.checkcast 41, 3) := dk_192 0 41 (dk_at dksX9_of_2 9 rfl rfl)
theorem dX9_of_59 : decode cX9_of 59 = .ok (.aload_n 1, 1) := dk_43 (dk_at dksX9_of_2 12 rfl rfl)
theorem dX9_of_60 : decode cX9_of 60 = .ok (.invokeinterface 43 2, 5) := by decide +kernel
theorem dX9_of_65 : decode cX9_of 65 = .ok (.invokestatic 51, 3) := dk_184 0 51 (dk_at dksX9_of_2 18 rfl rfl)
theorem dX9_of_68 : decode cX9_of 68 = .ok (.istore_n 2, 1) := dk_61 (dk_at dksX9_of_2 21 rfl rfl)
theorem dX9_of_69 : decode cX9_of 69 = .ok (.iinc 3 1, 3) := dk_132 3 1 (dk_at dksX9_of_3 0 rfl rfl)
theorem dX9_of_72 : decode cX9_of 72 = .ok (.goto (-50), 3) := dk_167 255 206 (dk_at dksX9_of_3 3 rfl rfl)
theorem dX9_of_75 : decode cX9_of 75 = .ok (.iload_n 2, 1) := dk_28 (dk_at dksX9_of_3 6 rfl rfl)
theorem dX9_of_76 : decode cX9_of 76 = .ok (.ireturn, 1) := dk_172 (dk_at dksX9_of_3 7 rfl rfl)
abbrev cX9_by : ByteArray := prog_2_method_5_code
def yX9_by : MethodName := ⟨RX9, "by", "(CII)I"⟩
def dkwX9_by_5 : List UInt8 := [167, 0, 4, 3, 172]
abbrev dktX9_by_5 : List UInt8 := dkwX9_by_5 ++ []
def dkwX9_by_4 : List UInt8 := [153, 0, 11, 28, 153, 0, 7, 4, 167, 0, 4, 3, 172, 27, 154, 0, 7, 28, 153, 0, 7, 4]
abbrev dktX9_by_4 : List UInt8 := dkwX9_by_4 ++ dktX9_by_5
def dkwX9_by_3 : List UInt8 := [27, 28, 162, 0, 7, 4, 167, 0, 4, 3, 172, 27, 28, 160, 0, 7, 4, 167, 0, 4, 3, 172, 27]
abbrev dktX9_by_3 : List UInt8 := dkwX9_by_3 ++ dktX9_by_4
def dkwX9_by_2 : List UInt8 := [27, 28, 96, 172, 27, 28, 100, 172, 27, 28, 104, 172, 28, 154, 0, 7, 3, 167, 0, 6, 27, 28, 108, 172]
abbrev dktX9_by_2 : List UInt8 := dkwX9_by_2 ++ dktX9_by_3
def dkwX9_by_1 : List UInt8 := [170, 0, 0, 0, 0, 0, 171, 0, 0, 0, 38, 0, 0, 0, 61, 0, 0, 0, 157, 0, 0, 0, 171, 0, 0, 0, 171, 0, 0, 0, 171, 0, 0, 0, 119, 0, 0, 0, 111, 0, 0, 0, 171, 0, 0, 0, 115, 0, 0, 0, 171, 0, 0, 0, 123, 0, 0, 0, 171, 0, 0, 0, 171, 0, 0, 0, 171, 0, 0, 0, 171, 0, 0, 0, 171, 0, 0, 0, 171, 0, 0, 0, 171, 0, 0, 0, 171, 0, 0, 0, 171, 0, 0, 0, 171, 0, 0, 0, 171, 0, 0, 0, 171, 0, 0, 0, 135, 0, 0, 0, 146]
abbrev dktX9_by_1 : List UInt8 := dkwX9_by_1 ++ dktX9_by_2
def dkwX9_by_0 : List UInt8 := [26]
abbrev dktX9_by_0 : List UInt8 := dkwX9_by_0 ++ dktX9_by_1
theorem dksX9_by_0 : cX9_by.data.toList.drop 0 = dktX9_by_0 := by decide +kernel
theorem dksX9_by_1 : cX9_by.data.toList.drop 1 = dktX9_by_1 := dk_seg dksX9_by_0 1 rfl rfl
theorem dksX9_by_2 : cX9_by.data.toList.drop 112 = dktX9_by_2 := dk_seg dksX9_by_1 111 rfl rfl
theorem dksX9_by_3 : cX9_by.data.toList.drop 136 = dktX9_by_3 := dk_seg dksX9_by_2 24 rfl rfl
theorem dksX9_by_4 : cX9_by.data.toList.drop 159 = dktX9_by_4 := dk_seg dksX9_by_3 23 rfl rfl
theorem dksX9_by_5 : cX9_by.data.toList.drop 181 = dktX9_by_5 := dk_seg dksX9_by_4 22 rfl rfl
theorem dX9_by_0 : decode cX9_by 0 = .ok (.iload_n 0, 1) := dk_26 (dk_at dksX9_by_0 0 rfl rfl)
theorem dX9_by_1 : decode cX9_by 1 = .ok (.tableswitch 171 38 61 #[157, 171, 171, 171, 119, 111, 171, 115, 171, 123, 171, 171, 171, 171, 171, 171, 171, 171, 171, 171, 171, 171, 135, 146], 111) := by decide +kernel
theorem dX9_by_112 : decode cX9_by 112 = .ok (.iload_n 1, 1) := dk_27 (dk_at dksX9_by_2 0 rfl rfl)
theorem dX9_by_113 : decode cX9_by 113 = .ok (.iload_n 2, 1) := dk_28 (dk_at dksX9_by_2 1 rfl rfl)
theorem dX9_by_114 : decode cX9_by 114 = .ok (.iadd, 1) := dk_96 (dk_at dksX9_by_2 2 rfl rfl)
theorem dX9_by_115 : decode cX9_by 115 = .ok (.ireturn, 1) := dk_172 (dk_at dksX9_by_2 3 rfl rfl)
theorem dX9_by_116 : decode cX9_by 116 = .ok (.iload_n 1, 1) := dk_27 (dk_at dksX9_by_2 4 rfl rfl)
theorem dX9_by_117 : decode cX9_by 117 = .ok (.iload_n 2, 1) := dk_28 (dk_at dksX9_by_2 5 rfl rfl)
theorem dX9_by_118 : decode cX9_by 118 = .ok (.isub, 1) := dk_100 (dk_at dksX9_by_2 6 rfl rfl)
theorem dX9_by_119 : decode cX9_by 119 = .ok (.ireturn, 1) := dk_172 (dk_at dksX9_by_2 7 rfl rfl)
theorem dX9_by_120 : decode cX9_by 120 = .ok (.iload_n 1, 1) := dk_27 (dk_at dksX9_by_2 8 rfl rfl)
theorem dX9_by_121 : decode cX9_by 121 = .ok (.iload_n 2, 1) := dk_28 (dk_at dksX9_by_2 9 rfl rfl)
theorem dX9_by_122 : decode cX9_by 122 = .ok (.imul, 1) := dk_104 (dk_at dksX9_by_2 10 rfl rfl)
theorem dX9_by_123 : decode cX9_by 123 = .ok (.ireturn, 1) := dk_172 (dk_at dksX9_by_2 11 rfl rfl)
theorem dX9_by_124 : decode cX9_by 124 = .ok (.iload_n 2, 1) := dk_28 (dk_at dksX9_by_2 12 rfl rfl)
theorem dX9_by_125 : decode cX9_by 125 = .ok (.ifCond .ne 7, 3) := dk_154 0 7 (dk_at dksX9_by_2 13 rfl rfl)
theorem dX9_by_128 : decode cX9_by 128 = .ok (.iconst 0, 1) := dk_3 (dk_at dksX9_by_2 16 rfl rfl)
theorem dX9_by_129 : decode cX9_by 129 = .ok (.goto 6, 3) := dk_167 0 6 (dk_at dksX9_by_2 17 rfl rfl)
theorem dX9_by_132 : decode cX9_by 132 = .ok (.iload_n 1, 1) := dk_27 (dk_at dksX9_by_2 20 rfl rfl)
theorem dX9_by_133 : decode cX9_by 133 = .ok (.iload_n 2, 1) := dk_28 (dk_at dksX9_by_2 21 rfl rfl)
theorem dX9_by_134 : decode cX9_by 134 = .ok (.idiv, 1) := dk_108 (dk_at dksX9_by_2 22 rfl rfl)
theorem dX9_by_135 : decode cX9_by 135 = .ok (.ireturn, 1) := dk_172 (dk_at dksX9_by_2 23 rfl rfl)
theorem dX9_by_136 : decode cX9_by 136 = .ok (.iload_n 1, 1) := dk_27 (dk_at dksX9_by_3 0 rfl rfl)
theorem dX9_by_137 : decode cX9_by 137 = .ok (.iload_n 2, 1) := dk_28 (dk_at dksX9_by_3 1 rfl rfl)
theorem dX9_by_138 : decode cX9_by 138 = .ok (.if_icmp .ge 7, 3) := dk_162 0 7 (dk_at dksX9_by_3 2 rfl rfl)
theorem dX9_by_141 : decode cX9_by 141 = .ok (.iconst 1, 1) := dk_4 (dk_at dksX9_by_3 5 rfl rfl)
theorem dX9_by_142 : decode cX9_by 142 = .ok (.goto 4, 3) := dk_167 0 4 (dk_at dksX9_by_3 6 rfl rfl)
theorem dX9_by_145 : decode cX9_by 145 = .ok (.iconst 0, 1) := dk_3 (dk_at dksX9_by_3 9 rfl rfl)
theorem dX9_by_146 : decode cX9_by 146 = .ok (.ireturn, 1) := dk_172 (dk_at dksX9_by_3 10 rfl rfl)
theorem dX9_by_147 : decode cX9_by 147 = .ok (.iload_n 1, 1) := dk_27 (dk_at dksX9_by_3 11 rfl rfl)
theorem dX9_by_148 : decode cX9_by 148 = .ok (.iload_n 2, 1) := dk_28 (dk_at dksX9_by_3 12 rfl rfl)
theorem dX9_by_149 : decode cX9_by 149 = .ok (.if_icmp .ne 7, 3) := dk_160 0 7 (dk_at dksX9_by_3 13 rfl rfl)
theorem dX9_by_152 : decode cX9_by 152 = .ok (.iconst 1, 1) := dk_4 (dk_at dksX9_by_3 16 rfl rfl)
theorem dX9_by_153 : decode cX9_by 153 = .ok (.goto 4, 3) := dk_167 0 4 (dk_at dksX9_by_3 17 rfl rfl)
theorem dX9_by_156 : decode cX9_by 156 = .ok (.iconst 0, 1) := dk_3 (dk_at dksX9_by_3 20 rfl rfl)
theorem dX9_by_157 : decode cX9_by 157 = .ok (.ireturn, 1) := dk_172 (dk_at dksX9_by_3 21 rfl rfl)
theorem dX9_by_158 : decode cX9_by 158 = .ok (.iload_n 1, 1) := dk_27 (dk_at dksX9_by_3 22 rfl rfl)
theorem dX9_by_159 : decode cX9_by 159 = .ok (.ifCond .eq 11, 3) := dk_153 0 11 (dk_at dksX9_by_4 0 rfl rfl)
theorem dX9_by_162 : decode cX9_by 162 = .ok (.iload_n 2, 1) := dk_28 (dk_at dksX9_by_4 3 rfl rfl)
theorem dX9_by_163 : decode cX9_by 163 = .ok (.ifCond .eq 7, 3) := dk_153 0 7 (dk_at dksX9_by_4 4 rfl rfl)
theorem dX9_by_166 : decode cX9_by 166 = .ok (.iconst 1, 1) := dk_4 (dk_at dksX9_by_4 7 rfl rfl)
theorem dX9_by_167 : decode cX9_by 167 = .ok (.goto 4, 3) := dk_167 0 4 (dk_at dksX9_by_4 8 rfl rfl)
theorem dX9_by_170 : decode cX9_by 170 = .ok (.iconst 0, 1) := dk_3 (dk_at dksX9_by_4 11 rfl rfl)
theorem dX9_by_171 : decode cX9_by 171 = .ok (.ireturn, 1) := dk_172 (dk_at dksX9_by_4 12 rfl rfl)
theorem dX9_by_172 : decode cX9_by 172 = .ok (.iload_n 1, 1) := dk_27 (dk_at dksX9_by_4 13 rfl rfl)
theorem dX9_by_173 : decode cX9_by 173 = .ok (.ifCond .ne 7, 3) := dk_154 0 7 (dk_at dksX9_by_4 14 rfl rfl)
theorem dX9_by_176 : decode cX9_by 176 = .ok (.iload_n 2, 1) := dk_28 (dk_at dksX9_by_4 17 rfl rfl)
theorem dX9_by_177 : decode cX9_by 177 = .ok (.ifCond .eq 7, 3) := dk_153 0 7 (dk_at dksX9_by_4 18 rfl rfl)
theorem dX9_by_180 : decode cX9_by 180 = .ok (.iconst 1, 1) := dk_4 (dk_at dksX9_by_4 21 rfl rfl)
theorem dX9_by_181 : decode cX9_by 181 = .ok (.goto 4, 3) := dk_167 0 4 (dk_at dksX9_by_5 0 rfl rfl)
theorem dX9_by_184 : decode cX9_by 184 = .ok (.iconst 0, 1) := dk_3 (dk_at dksX9_by_5 3 rfl rfl)
theorem dX9_by_185 : decode cX9_by 185 = .ok (.ireturn, 1) := dk_172 (dk_at dksX9_by_5 4 rfl rfl)
abbrev cX9_init : ByteArray := prog_2_method_1_code
def yX9_init : MethodName := ⟨RX9, "<init>", "(LValleyMass$Form;)V"⟩
def dkwX9_init_1 : List UInt8 := [181, 0, 19, 42, 180, 0, 10, 43, 185, 0, 23, 2, 0, 87, 177]
abbrev dktX9_init_1 : List UInt8 := dkwX9_init_1 ++ []
def dkwX9_init_0 : List UInt8 := [42, 183, 0, 1, 42, 187, 0, 7, 89, 183, 0, 9, 181, 0, 10, 42, 187, 0, 16, 89, 183, 0, 18]
abbrev dktX9_init_0 : List UInt8 := dkwX9_init_0 ++ dktX9_init_1
theorem dksX9_init_0 : cX9_init.data.toList.drop 0 = dktX9_init_0 := by decide +kernel
theorem dksX9_init_1 : cX9_init.data.toList.drop 23 = dktX9_init_1 := dk_seg dksX9_init_0 23 rfl rfl
theorem dX9_init_0 : decode cX9_init 0 = .ok (.aload_n 0, 1) := dk_42 (dk_at dksX9_init_0 0 rfl rfl)
theorem dX9_init_1 : decode cX9_init 1 = .ok (.invokespecial 1, 3) := dk_183 0 1 (dk_at dksX9_init_0 1 rfl rfl)
theorem dX9_init_4 : decode cX9_init 4 = .ok (.aload_n 0, 1) := dk_42 (dk_at dksX9_init_0 4 rfl rfl)
theorem dX9_init_5 : decode cX9_init 5 = .ok (.new 7, 3) := dk_187 0 7 (dk_at dksX9_init_0 5 rfl rfl)
theorem dX9_init_8 : decode cX9_init 8 = .ok (.dup, 1) := dk_89 (dk_at dksX9_init_0 8 rfl rfl)
theorem dX9_init_9 : decode cX9_init 9 = .ok (.invokespecial 9, 3) := dk_183 0 9 (dk_at dksX9_init_0 9 rfl rfl)
theorem dX9_init_12 : decode cX9_init 12 = .ok (.putfield 10, 3) := dk_181 0 10 (dk_at dksX9_init_0 12 rfl rfl)
theorem dX9_init_15 : decode cX9_init 15 = .ok (.aload_n 0, 1) := dk_42 (dk_at dksX9_init_0 15 rfl rfl)
theorem dX9_init_16 : decode cX9_init 16 = .ok (.new 16, 3) := dk_187 0 16 (dk_at dksX9_init_0 16 rfl rfl)
theorem dX9_init_19 : decode cX9_init 19 = .ok (.dup, 1) := dk_89 (dk_at dksX9_init_0 19 rfl rfl)
theorem dX9_init_20 : decode cX9_init 20 = .ok (.invokespecial 18, 3) := dk_183 0 18 (dk_at dksX9_init_0 20 rfl rfl)
theorem dX9_init_23 : decode cX9_init 23 = .ok (.putfield 19, 3) := dk_181 0 19 (dk_at dksX9_init_1 0 rfl rfl)
theorem dX9_init_26 : decode cX9_init 26 = .ok (.aload_n 0, 1) := dk_42 (dk_at dksX9_init_1 3 rfl rfl)
theorem dX9_init_27 : decode cX9_init 27 = .ok (.getfield 10, 3) := dk_180 0 10 (dk_at dksX9_init_1 4 rfl rfl)
theorem dX9_init_30 : decode cX9_init 30 = .ok (.aload_n 1, 1) := dk_43 (dk_at dksX9_init_1 7 rfl rfl)
theorem dX9_init_31 : decode cX9_init 31 = .ok (.invokeinterface 23 2, 5) := by decide +kernel
theorem dX9_init_36 : decode cX9_init 36 = .ok (.pop, 1) := dk_87 (dk_at dksX9_init_1 13 rfl rfl)
theorem dX9_init_37 : decode cX9_init 37 = .ok (.return_, 1) := dk_177 (dk_at dksX9_init_1 14 rfl rfl)
abbrev cX9_add : ByteArray := prog_2_method_2_code
def yX9_add : MethodName := ⟨RX9, "add", "(CLValleyMass$Form;)V"⟩
def dkwX9_add_0 : List UInt8 := [42, 180, 0, 19, 27, 182, 0, 29, 87, 42, 180, 0, 10, 44, 185, 0, 23, 2, 0, 87, 177]
abbrev dktX9_add_0 : List UInt8 := dkwX9_add_0 ++ []
theorem dksX9_add_0 : cX9_add.data.toList.drop 0 = dktX9_add_0 := by decide +kernel
theorem dX9_add_0 : decode cX9_add 0 = .ok (.aload_n 0, 1) := dk_42 (dk_at dksX9_add_0 0 rfl rfl)
theorem dX9_add_1 : decode cX9_add 1 = .ok (.getfield 19, 3) := dk_180 0 19 (dk_at dksX9_add_0 1 rfl rfl)
theorem dX9_add_4 : decode cX9_add 4 = .ok (.iload_n 1, 1) := dk_27 (dk_at dksX9_add_0 4 rfl rfl)
theorem dX9_add_5 : decode cX9_add 5 = .ok (.invokevirtual 29, 3) := dk_182 0 29 (dk_at dksX9_add_0 5 rfl rfl)
theorem dX9_add_8 : decode cX9_add 8 = .ok (.pop, 1) := dk_87 (dk_at dksX9_add_0 8 rfl rfl)
theorem dX9_add_9 : decode cX9_add 9 = .ok (.aload_n 0, 1) := dk_42 (dk_at dksX9_add_0 9 rfl rfl)
theorem dX9_add_10 : decode cX9_add 10 = .ok (.getfield 10, 3) := dk_180 0 10 (dk_at dksX9_add_0 10 rfl rfl)
theorem dX9_add_13 : decode cX9_add 13 = .ok (.aload_n 2, 1) := dk_44 (dk_at dksX9_add_0 13 rfl rfl)
theorem dX9_add_14 : decode cX9_add 14 = .ok (.invokeinterface 23 2, 5) := by decide +kernel
theorem dX9_add_19 : decode cX9_add 19 = .ok (.pop, 1) := dk_87 (dk_at dksX9_add_0 19 rfl rfl)
theorem dX9_add_20 : decode cX9_add 20 = .ok (.return_, 1) := dk_177 (dk_at dksX9_add_0 20 rfl rfl)
abbrev cX9_plain : ByteArray := prog_2_method_3_code
def yX9_plain : MethodName := ⟨RX9, "plain", "()LValleyMass$Form;"⟩
def dkwX9_plain_1 : List UInt8 := [192, 0, 41, 167, 0, 4, 42, 176]
abbrev dktX9_plain_1 : List UInt8 := dkwX9_plain_1 ++ []
def dkwX9_plain_0 : List UInt8 := [42, 180, 0, 10, 185, 0, 33, 1, 0, 4, 160, 0, 19, 42, 180, 0, 10, 3, 185, 0, 37, 2, 0]
abbrev dktX9_plain_0 : List UInt8 := dkwX9_plain_0 ++ dktX9_plain_1
theorem dksX9_plain_0 : cX9_plain.data.toList.drop 0 = dktX9_plain_0 := by decide +kernel
theorem dksX9_plain_1 : cX9_plain.data.toList.drop 23 = dktX9_plain_1 := dk_seg dksX9_plain_0 23 rfl rfl
theorem dX9_plain_0 : decode cX9_plain 0 = .ok (.aload_n 0, 1) := dk_42 (dk_at dksX9_plain_0 0 rfl rfl)
theorem dX9_plain_1 : decode cX9_plain 1 = .ok (.getfield 10, 3) := dk_180 0 10 (dk_at dksX9_plain_0 1 rfl rfl)
theorem dX9_plain_4 : decode cX9_plain 4 = .ok (.invokeinterface 33 1, 5) := by decide +kernel
theorem dX9_plain_9 : decode cX9_plain 9 = .ok (.iconst 1, 1) := dk_4 (dk_at dksX9_plain_0 9 rfl rfl)
theorem dX9_plain_10 : decode cX9_plain 10 = .ok (.if_icmp .ne 19, 3) := dk_160 0 19 (dk_at dksX9_plain_0 10 rfl rfl)
theorem dX9_plain_13 : decode cX9_plain 13 = .ok (.aload_n 0, 1) := dk_42 (dk_at dksX9_plain_0 13 rfl rfl)
theorem dX9_plain_14 : decode cX9_plain 14 = .ok (.getfield 10, 3) := dk_180 0 10 (dk_at dksX9_plain_0 14 rfl rfl)
theorem dX9_plain_17 : decode cX9_plain 17 = .ok (.iconst 0, 1) := dk_3 (dk_at dksX9_plain_0 17 rfl rfl)
theorem dX9_plain_18 : decode cX9_plain 18 = .ok (.invokeinterface 37 2, 5) := by decide +kernel
theorem dX9_plain_23 : decode cX9_plain 23 = .ok (.checkcast 41, 3) := dk_192 0 41 (dk_at dksX9_plain_1 0 rfl rfl)
theorem dX9_plain_26 : decode cX9_plain 26 = .ok (.goto 4, 3) := dk_167 0 4 (dk_at dksX9_plain_1 3 rfl rfl)
theorem dX9_plain_29 : decode cX9_plain 29 = .ok (.aload_n 0, 1) := dk_42 (dk_at dksX9_plain_1 6 rfl rfl)
theorem dX9_plain_30 : decode cX9_plain 30 = .ok (.areturn, 1) := dk_176 (dk_at dksX9_plain_1 7 rfl rfl)
theorem q128 : (Jvm.Cond.initialized "ValleyMass$Chain") ∈ lw_all := lw_g (lw_at lw_m1 29 rfl) rfl
theorem q342 : (Jvm.Cond.selects "ValleyMass$Chain" ({ cls := "java/lang/Object", name := "getClass", desc := "()Ljava/lang/Class;" } : Jvm.MethodName) ({ cls := "java/lang/Object", name := "getClass", desc := "()Ljava/lang/Class;" } : Jvm.MethodName)) ∈ lw_all := lw_g (lw_at lw_m2 3 rfl) rfl
theorem q497 : (Jvm.Cond.castable "ValleyMass$Chain" "ValleyMass$Form") ∈ lw_tbl := lw_at lw_m2 158 rfl
theorem q498 : (Jvm.Cond.selects "ValleyMass$Chain" ({ cls := "ValleyMass$Form", name := "of", desc := "([I)I" } : Jvm.MethodName) ({ cls := "ValleyMass$Chain", name := "of", desc := "([I)I" } : Jvm.MethodName)) ∈ lw_all := lw_g (lw_at lw_m2 159 rfl) rfl
theorem q499 : (Jvm.Cond.unhidden "ValleyMass$Chain" "of" "([I)I") ∈ lw_tbl := lw_at lw_m2 160 rfl
theorem q500 : (Jvm.Cond.instanceMethod ({ cls := "ValleyMass$Chain", name := "of", desc := "([I)I" } : Jvm.MethodName)) ∈ lw_all := lw_g (lw_at lw_m2 161 rfl) rfl
theorem q501 : (Jvm.Cond.publicMethod ({ cls := "ValleyMass$Chain", name := "of", desc := "([I)I" } : Jvm.MethodName)) ∈ lw_tbl := lw_at lw_m2 162 rfl
theorem q502 : (Jvm.Cond.code ({ cls := "ValleyMass$Chain", name := "of", desc := "([I)I" } : Jvm.MethodName) prog_2_method_4_code (4 : Nat) (Option.some Jvm.ClassFile.FieldType.int)) ∈ lw_all := lw_g (lw_at lw_m2 163 rfl) rfl
theorem q503 : (Jvm.Cond.interfaceEntry "ValleyMass$Chain" (37 : Nat)) ∈ lw_tbl := lw_at lw_m2 164 rfl
theorem q504 : (Jvm.Cond.methodLink "ValleyMass$Chain" (37 : Nat) ({ cls := "java/util/List", name := "get", desc := "(I)Ljava/lang/Object;" } : Jvm.MethodName)) ∈ lw_all := lw_g (lw_at lw_m2 165 rfl) rfl
theorem q505 : (Jvm.Cond.classLink "ValleyMass$Chain" (41 : Nat) "ValleyMass$Form") ∈ lw_all := lw_g (lw_at lw_m2 166 rfl) rfl
theorem q506 : (Jvm.Cond.interfaceEntry "ValleyMass$Chain" (43 : Nat)) ∈ lw_tbl := lw_at lw_m2 167 rfl
theorem q507 : (Jvm.Cond.methodLink "ValleyMass$Chain" (43 : Nat) ({ cls := "ValleyMass$Form", name := "of", desc := "([I)I" } : Jvm.MethodName)) ∈ lw_all := lw_g (lw_at lw_m2 168 rfl) rfl
theorem q528 : (Jvm.Cond.interfaceEntry "ValleyMass$Chain" (33 : Nat)) ∈ lw_tbl := lw_at lw_m2 189 rfl
theorem q529 : (Jvm.Cond.methodLink "ValleyMass$Chain" (33 : Nat) ({ cls := "java/util/List", name := "size", desc := "()I" } : Jvm.MethodName)) ∈ lw_all := lw_g (lw_at lw_m2 190 rfl) rfl
theorem q530 : (Jvm.Cond.methodLink "ValleyMass$Chain" (47 : Nat) ({ cls := "java/lang/StringBuilder", name := "charAt", desc := "(I)C" } : Jvm.MethodName)) ∈ lw_all := lw_g (lw_at lw_m2 191 rfl) rfl
theorem q557 : (Jvm.Cond.methodLink "ValleyMass$Chain" (51 : Nat) ({ cls := "ValleyMass$Chain", name := "by", desc := "(CII)I" } : Jvm.MethodName)) ∈ lw_all := lw_g (lw_at lw_m2 218 rfl) rfl
theorem q558 : (Jvm.Cond.static ({ cls := "ValleyMass$Chain", name := "by", desc := "(CII)I" } : Jvm.MethodName)) ∈ lw_all := lw_g (lw_at lw_m2 219 rfl) rfl
theorem q559 : (Jvm.Cond.code ({ cls := "ValleyMass$Chain", name := "by", desc := "(CII)I" } : Jvm.MethodName) prog_2_method_5_code (3 : Nat) (Option.some Jvm.ClassFile.FieldType.int)) ∈ lw_all := lw_g (lw_at lw_m2 220 rfl) rfl
theorem q1074 : (Jvm.Cond.instantiable "ValleyMass$Chain" (2 : Nat)) ∈ lw_all := lw_g (lw_at lw_m5 15 rfl) rfl
theorem q1117 : (Jvm.Cond.instanceMethod ({ cls := "ValleyMass$Chain", name := "<init>", desc := "(LValleyMass$Form;)V" } : Jvm.MethodName)) ∈ lw_all := lw_g (lw_at lw_m5 58 rfl) rfl
theorem q1118 : (Jvm.Cond.code ({ cls := "ValleyMass$Chain", name := "<init>", desc := "(LValleyMass$Form;)V" } : Jvm.MethodName) prog_2_method_1_code (2 : Nat) (Option.none : Option Jvm.ClassFile.FieldType)) ∈ lw_all := lw_g (lw_at lw_m5 59 rfl) rfl
theorem q1119 : (Jvm.Cond.methodLink "ValleyMass$Chain" (1 : Nat) ({ cls := "java/lang/Object", name := "<init>", desc := "()V" } : Jvm.MethodName)) ∈ lw_all := lw_g (lw_at lw_m5 60 rfl) rfl
theorem q1120 : (Jvm.Cond.classLink "ValleyMass$Chain" (7 : Nat) "java/util/ArrayList") ∈ lw_all := lw_g (lw_at lw_m5 61 rfl) rfl
theorem q1121 : (Jvm.Cond.methodLink "ValleyMass$Chain" (9 : Nat) ({ cls := "java/util/ArrayList", name := "<init>", desc := "()V" } : Jvm.MethodName)) ∈ lw_all := lw_g (lw_at lw_m5 62 rfl) rfl
theorem q1122 : (Jvm.Cond.classLink "ValleyMass$Chain" (16 : Nat) "java/lang/StringBuilder") ∈ lw_all := lw_g (lw_at lw_m5 63 rfl) rfl
theorem q1124 : (Jvm.Cond.methodLink "ValleyMass$Chain" (18 : Nat) ({ cls := "java/lang/StringBuilder", name := "<init>", desc := "()V" } : Jvm.MethodName)) ∈ lw_all := lw_g (lw_at lw_m5 65 rfl) rfl
theorem q1150 : (Jvm.Cond.interfaceEntry "ValleyMass$Chain" (23 : Nat)) ∈ lw_tbl := lw_at lw_m5 91 rfl
theorem q1151 : (Jvm.Cond.methodLink "ValleyMass$Chain" (23 : Nat) ({ cls := "java/util/List", name := "add", desc := "(Ljava/lang/Object;)Z" } : Jvm.MethodName)) ∈ lw_all := lw_g (lw_at lw_m5 92 rfl) rfl
theorem q1152 : (Jvm.Cond.fieldLink "ValleyMass$Chain" (10 : Nat) "ValleyMass$Chain" "forms" "Ljava/util/List;") ∈ lw_all := lw_g (lw_at lw_m5 93 rfl) rfl
theorem q1153 : (Jvm.Cond.fieldLink "ValleyMass$Chain" (19 : Nat) "ValleyMass$Chain" "signs" "Ljava/lang/StringBuilder;") ∈ lw_all := lw_g (lw_at lw_m5 94 rfl) rfl
theorem q1154 : (Jvm.Cond.laysFinal "ValleyMass$Chain" "ValleyMass$Chain" "forms" "Ljava/util/List;") ∈ lw_all := lw_g (lw_at lw_m5 95 rfl) rfl
theorem q1155 : (Jvm.Cond.soleField "ValleyMass$Chain" "forms") ∈ lw_all := lw_g (lw_at lw_m5 96 rfl) rfl
theorem q1156 : (Jvm.Cond.laysFinal "ValleyMass$Chain" "ValleyMass$Chain" "signs" "Ljava/lang/StringBuilder;") ∈ lw_all := lw_g (lw_at lw_m5 97 rfl) rfl
theorem q1157 : (Jvm.Cond.soleField "ValleyMass$Chain" "signs") ∈ lw_all := lw_g (lw_at lw_m5 98 rfl) rfl
theorem q1158 : (Jvm.Cond.superclass "ValleyMass$Chain" "java/lang/Object") ∈ lw_all := lw_g (lw_at lw_m5 99 rfl) rfl
theorem q1164 : (Jvm.Cond.instanceMethod ({ cls := "ValleyMass$Chain", name := "add", desc := "(CLValleyMass$Form;)V" } : Jvm.MethodName)) ∈ lw_all := lw_g (lw_at lw_m5 105 rfl) rfl
theorem q1165 : (Jvm.Cond.selects "ValleyMass$Chain" ({ cls := "ValleyMass$Chain", name := "add", desc := "(CLValleyMass$Form;)V" } : Jvm.MethodName) ({ cls := "ValleyMass$Chain", name := "add", desc := "(CLValleyMass$Form;)V" } : Jvm.MethodName)) ∈ lw_all := lw_g (lw_at lw_m5 106 rfl) rfl
theorem q1166 : (Jvm.Cond.code ({ cls := "ValleyMass$Chain", name := "add", desc := "(CLValleyMass$Form;)V" } : Jvm.MethodName) prog_2_method_2_code (3 : Nat) (Option.none : Option Jvm.ClassFile.FieldType)) ∈ lw_all := lw_g (lw_at lw_m5 107 rfl) rfl
theorem q1167 : (Jvm.Cond.methodLink "ValleyMass$Chain" (29 : Nat) ({ cls := "java/lang/StringBuilder", name := "append", desc := "(C)Ljava/lang/StringBuilder;" } : Jvm.MethodName)) ∈ lw_all := lw_g (lw_at lw_m5 108 rfl) rfl
theorem q1228 : (Jvm.Cond.instanceMethod ({ cls := "ValleyMass$Chain", name := "plain", desc := "()LValleyMass$Form;" } : Jvm.MethodName)) ∈ lw_all := lw_g (lw_at lw_m5 169 rfl) rfl
theorem q1229 : (Jvm.Cond.selects "ValleyMass$Chain" ({ cls := "ValleyMass$Chain", name := "plain", desc := "()LValleyMass$Form;" } : Jvm.MethodName) ({ cls := "ValleyMass$Chain", name := "plain", desc := "()LValleyMass$Form;" } : Jvm.MethodName)) ∈ lw_all := lw_g (lw_at lw_m5 170 rfl) rfl
theorem q1230 : (Jvm.Cond.code ({ cls := "ValleyMass$Chain", name := "plain", desc := "()LValleyMass$Form;" } : Jvm.MethodName) prog_2_method_3_code (1 : Nat) (Option.some (Jvm.ClassFile.FieldType.object "ValleyMass$Form"))) ∈ lw_all := lw_g (lw_at lw_m5 171 rfl) rfl
theorem q2231 : (Jvm.Cond.castable "ValleyMass$Chain" "java/lang/Object") ∈ lw_tbl := lw_at lw_m9 212 rfl
theorem in_X9 : ∀ w ∈ wsX90, w ∈ lw_all := lw_in wsX90 [1154, 1156] (by decide +kernel) (by decide +kernel)

/-! ValleyMass$Number -/
def RX10 : String := "ValleyMass$Number"
def TX10 : u_T := fun k => match k with
  | _ => ("ValleyMass$Number", "value", "I", true)
def tyX10 : Nat → FieldType := fun k => match k with
  | _ => .int
abbrev wsX100 : List Cond := u_ws RX10 TX10 1
theorem nmX10 : ∀ a, a < 1 → ∀ b, b < 1 → a ≠ b → (TX10 a).2.1 ≠ (TX10 b).2.1 := by decide +kernel
theorem tyX10_ok : ∀ k, k < 1 → parseFieldDescriptor (TX10 k).2.2.1 = some (tyX10 k) := by decide +kernel
abbrev cX10_of : ByteArray := prog_5_method_2_code
def yX10_of : MethodName := ⟨RX10, "of", "([I)I"⟩
theorem dX10_of_0 : decode cX10_of 0 = .ok (.aload_n 0, 1) := by decide +kernel
theorem dX10_of_1 : decode cX10_of 1 = .ok (.getfield 7, 3) := by decide +kernel
theorem dX10_of_4 : decode cX10_of 4 = .ok (.ireturn, 1) := by decide +kernel
abbrev cX10_init : ByteArray := prog_5_method_1_code
def yX10_init : MethodName := ⟨RX10, "<init>", "(I)V"⟩
def dkwX10_init_0 : List UInt8 := [42, 183, 0, 1, 42, 27, 181, 0, 7, 177]
abbrev dktX10_init_0 : List UInt8 := dkwX10_init_0 ++ []
theorem dksX10_init_0 : cX10_init.data.toList.drop 0 = dktX10_init_0 := by decide +kernel
theorem dX10_init_0 : decode cX10_init 0 = .ok (.aload_n 0, 1) := dk_42 (dk_at dksX10_init_0 0 rfl rfl)
theorem dX10_init_1 : decode cX10_init 1 = .ok (.invokespecial 1, 3) := dk_183 0 1 (dk_at dksX10_init_0 1 rfl rfl)
theorem dX10_init_4 : decode cX10_init 4 = .ok (.aload_n 0, 1) := dk_42 (dk_at dksX10_init_0 4 rfl rfl)
theorem dX10_init_5 : decode cX10_init 5 = .ok (.iload_n 1, 1) := dk_27 (dk_at dksX10_init_0 5 rfl rfl)
theorem dX10_init_6 : decode cX10_init 6 = .ok (.putfield 7, 3) := dk_181 0 7 (dk_at dksX10_init_0 6 rfl rfl)
theorem dX10_init_9 : decode cX10_init 9 = .ok (.return_, 1) := dk_177 (dk_at dksX10_init_0 9 rfl rfl)
theorem q129 : (Jvm.Cond.initialized "ValleyMass$Number") ∈ lw_all := lw_g (lw_at lw_m1 30 rfl) rfl
theorem q344 : (Jvm.Cond.selects "ValleyMass$Number" ({ cls := "java/lang/Object", name := "getClass", desc := "()Ljava/lang/Class;" } : Jvm.MethodName) ({ cls := "java/lang/Object", name := "getClass", desc := "()Ljava/lang/Class;" } : Jvm.MethodName)) ∈ lw_all := lw_g (lw_at lw_m2 5 rfl) rfl
theorem q516 : (Jvm.Cond.castable "ValleyMass$Number" "ValleyMass$Form") ∈ lw_tbl := lw_at lw_m2 177 rfl
theorem q517 : (Jvm.Cond.selects "ValleyMass$Number" ({ cls := "ValleyMass$Form", name := "of", desc := "([I)I" } : Jvm.MethodName) ({ cls := "ValleyMass$Number", name := "of", desc := "([I)I" } : Jvm.MethodName)) ∈ lw_all := lw_g (lw_at lw_m2 178 rfl) rfl
theorem q518 : (Jvm.Cond.unhidden "ValleyMass$Number" "of" "([I)I") ∈ lw_tbl := lw_at lw_m2 179 rfl
theorem q519 : (Jvm.Cond.instanceMethod ({ cls := "ValleyMass$Number", name := "of", desc := "([I)I" } : Jvm.MethodName)) ∈ lw_all := lw_g (lw_at lw_m2 180 rfl) rfl
theorem q520 : (Jvm.Cond.publicMethod ({ cls := "ValleyMass$Number", name := "of", desc := "([I)I" } : Jvm.MethodName)) ∈ lw_tbl := lw_at lw_m2 181 rfl
theorem q521 : (Jvm.Cond.code ({ cls := "ValleyMass$Number", name := "of", desc := "([I)I" } : Jvm.MethodName) prog_5_method_2_code (2 : Nat) (Option.some Jvm.ClassFile.FieldType.int)) ∈ lw_all := lw_g (lw_at lw_m2 182 rfl) rfl
theorem q1097 : (Jvm.Cond.instantiable "ValleyMass$Number" (1 : Nat)) ∈ lw_all := lw_g (lw_at lw_m5 38 rfl) rfl
theorem q1099 : (Jvm.Cond.instanceMethod ({ cls := "ValleyMass$Number", name := "<init>", desc := "(I)V" } : Jvm.MethodName)) ∈ lw_all := lw_g (lw_at lw_m5 40 rfl) rfl
theorem q1100 : (Jvm.Cond.code ({ cls := "ValleyMass$Number", name := "<init>", desc := "(I)V" } : Jvm.MethodName) prog_5_method_1_code (2 : Nat) (Option.none : Option Jvm.ClassFile.FieldType)) ∈ lw_all := lw_g (lw_at lw_m5 41 rfl) rfl
theorem q1101 : (Jvm.Cond.methodLink "ValleyMass$Number" (1 : Nat) ({ cls := "java/lang/Object", name := "<init>", desc := "()V" } : Jvm.MethodName)) ∈ lw_all := lw_g (lw_at lw_m5 42 rfl) rfl
theorem q1102 : (Jvm.Cond.fieldLink "ValleyMass$Number" (7 : Nat) "ValleyMass$Number" "value" "I") ∈ lw_all := lw_g (lw_at lw_m5 43 rfl) rfl
theorem q1103 : (Jvm.Cond.laysFinal "ValleyMass$Number" "ValleyMass$Number" "value" "I") ∈ lw_all := lw_g (lw_at lw_m5 44 rfl) rfl
theorem q1104 : (Jvm.Cond.soleField "ValleyMass$Number" "value") ∈ lw_all := lw_g (lw_at lw_m5 45 rfl) rfl
theorem q1105 : (Jvm.Cond.superclass "ValleyMass$Number" "java/lang/Object") ∈ lw_all := lw_g (lw_at lw_m5 46 rfl) rfl
theorem q2232 : (Jvm.Cond.castable "ValleyMass$Number" "java/lang/Object") ∈ lw_tbl := lw_at lw_m9 213 rfl
theorem in_X10 : ∀ w ∈ wsX100, w ∈ lw_all := lw_in wsX100 [1103] (by decide +kernel) (by decide +kernel)

/-! ValleyMass$Value -/
def RX11 : String := "ValleyMass$Value"
def TX11 : u_T := fun k => match k with
  | _ => ("ValleyMass$Value", "which", "I", true)
def tyX11 : Nat → FieldType := fun k => match k with
  | _ => .int
abbrev wsX110 : List Cond := u_ws RX11 TX11 1
theorem nmX11 : ∀ a, a < 1 → ∀ b, b < 1 → a ≠ b → (TX11 a).2.1 ≠ (TX11 b).2.1 := by decide +kernel
theorem tyX11_ok : ∀ k, k < 1 → parseFieldDescriptor (TX11 k).2.2.1 = some (tyX11 k) := by decide +kernel
abbrev cX11_of : ByteArray := prog_11_method_2_code
def yX11_of : MethodName := ⟨RX11, "of", "([I)I"⟩
def dkwX11_of_0 : List UInt8 := [43, 42, 180, 0, 7, 46, 172]
abbrev dktX11_of_0 : List UInt8 := dkwX11_of_0 ++ []
theorem dksX11_of_0 : cX11_of.data.toList.drop 0 = dktX11_of_0 := by decide +kernel
theorem dX11_of_0 : decode cX11_of 0 = .ok (.aload_n 1, 1) := dk_43 (dk_at dksX11_of_0 0 rfl rfl)
theorem dX11_of_1 : decode cX11_of 1 = .ok (.aload_n 0, 1) := dk_42 (dk_at dksX11_of_0 1 rfl rfl)
theorem dX11_of_2 : decode cX11_of 2 = .ok (.getfield 7, 3) := dk_180 0 7 (dk_at dksX11_of_0 2 rfl rfl)
theorem dX11_of_5 : decode cX11_of 5 = .ok (.iaload, 1) := dk_46 (dk_at dksX11_of_0 5 rfl rfl)
theorem dX11_of_6 : decode cX11_of 6 = .ok (.ireturn, 1) := dk_172 (dk_at dksX11_of_0 6 rfl rfl)
abbrev cX11_init : ByteArray := prog_11_method_1_code
def yX11_init : MethodName := ⟨RX11, "<init>", "(I)V"⟩
def dkwX11_init_0 : List UInt8 := [42, 183, 0, 1, 42, 27, 181, 0, 7, 177]
abbrev dktX11_init_0 : List UInt8 := dkwX11_init_0 ++ []
theorem dksX11_init_0 : cX11_init.data.toList.drop 0 = dktX11_init_0 := by decide +kernel
theorem dX11_init_0 : decode cX11_init 0 = .ok (.aload_n 0, 1) := dk_42 (dk_at dksX11_init_0 0 rfl rfl)
theorem dX11_init_1 : decode cX11_init 1 = .ok (.invokespecial 1, 3) := dk_183 0 1 (dk_at dksX11_init_0 1 rfl rfl)
theorem dX11_init_4 : decode cX11_init 4 = .ok (.aload_n 0, 1) := dk_42 (dk_at dksX11_init_0 4 rfl rfl)
theorem dX11_init_5 : decode cX11_init 5 = .ok (.iload_n 1, 1) := dk_27 (dk_at dksX11_init_0 5 rfl rfl)
theorem dX11_init_6 : decode cX11_init 6 = .ok (.putfield 7, 3) := dk_181 0 7 (dk_at dksX11_init_0 6 rfl rfl)
theorem dX11_init_9 : decode cX11_init 9 = .ok (.return_, 1) := dk_177 (dk_at dksX11_init_0 9 rfl rfl)
theorem q130 : (Jvm.Cond.initialized "ValleyMass$Value") ∈ lw_all := lw_g (lw_at lw_m1 31 rfl) rfl
theorem q350 : (Jvm.Cond.selects "ValleyMass$Value" ({ cls := "java/lang/Object", name := "getClass", desc := "()Ljava/lang/Class;" } : Jvm.MethodName) ({ cls := "java/lang/Object", name := "getClass", desc := "()Ljava/lang/Class;" } : Jvm.MethodName)) ∈ lw_all := lw_g (lw_at lw_m2 11 rfl) rfl
theorem q522 : (Jvm.Cond.castable "ValleyMass$Value" "ValleyMass$Form") ∈ lw_tbl := lw_at lw_m2 183 rfl
theorem q523 : (Jvm.Cond.selects "ValleyMass$Value" ({ cls := "ValleyMass$Form", name := "of", desc := "([I)I" } : Jvm.MethodName) ({ cls := "ValleyMass$Value", name := "of", desc := "([I)I" } : Jvm.MethodName)) ∈ lw_all := lw_g (lw_at lw_m2 184 rfl) rfl
theorem q524 : (Jvm.Cond.unhidden "ValleyMass$Value" "of" "([I)I") ∈ lw_tbl := lw_at lw_m2 185 rfl
theorem q525 : (Jvm.Cond.instanceMethod ({ cls := "ValleyMass$Value", name := "of", desc := "([I)I" } : Jvm.MethodName)) ∈ lw_all := lw_g (lw_at lw_m2 186 rfl) rfl
theorem q526 : (Jvm.Cond.publicMethod ({ cls := "ValleyMass$Value", name := "of", desc := "([I)I" } : Jvm.MethodName)) ∈ lw_tbl := lw_at lw_m2 187 rfl
theorem q527 : (Jvm.Cond.code ({ cls := "ValleyMass$Value", name := "of", desc := "([I)I" } : Jvm.MethodName) prog_11_method_2_code (2 : Nat) (Option.some Jvm.ClassFile.FieldType.int)) ∈ lw_all := lw_g (lw_at lw_m2 188 rfl) rfl
theorem q1107 : (Jvm.Cond.instantiable "ValleyMass$Value" (1 : Nat)) ∈ lw_all := lw_g (lw_at lw_m5 48 rfl) rfl
theorem q1109 : (Jvm.Cond.instanceMethod ({ cls := "ValleyMass$Value", name := "<init>", desc := "(I)V" } : Jvm.MethodName)) ∈ lw_all := lw_g (lw_at lw_m5 50 rfl) rfl
theorem q1110 : (Jvm.Cond.code ({ cls := "ValleyMass$Value", name := "<init>", desc := "(I)V" } : Jvm.MethodName) prog_11_method_1_code (2 : Nat) (Option.none : Option Jvm.ClassFile.FieldType)) ∈ lw_all := lw_g (lw_at lw_m5 51 rfl) rfl
theorem q1111 : (Jvm.Cond.methodLink "ValleyMass$Value" (1 : Nat) ({ cls := "java/lang/Object", name := "<init>", desc := "()V" } : Jvm.MethodName)) ∈ lw_all := lw_g (lw_at lw_m5 52 rfl) rfl
theorem q1112 : (Jvm.Cond.fieldLink "ValleyMass$Value" (7 : Nat) "ValleyMass$Value" "which" "I") ∈ lw_all := lw_g (lw_at lw_m5 53 rfl) rfl
theorem q1113 : (Jvm.Cond.laysFinal "ValleyMass$Value" "ValleyMass$Value" "which" "I") ∈ lw_all := lw_g (lw_at lw_m5 54 rfl) rfl
theorem q1114 : (Jvm.Cond.soleField "ValleyMass$Value" "which") ∈ lw_all := lw_g (lw_at lw_m5 55 rfl) rfl
theorem q1115 : (Jvm.Cond.superclass "ValleyMass$Value" "java/lang/Object") ∈ lw_all := lw_g (lw_at lw_m5 56 rfl) rfl
theorem q2233 : (Jvm.Cond.castable "ValleyMass$Value" "java/lang/Object") ∈ lw_tbl := lw_at lw_m9 214 rfl
theorem in_X11 : ∀ w ∈ wsX110, w ∈ lw_all := lw_in wsX110 [1113] (by decide +kernel) (by decide +kernel)

/-! ValleyMass$Not -/
def RX12 : String := "ValleyMass$Not"
def TX12 : u_T := fun k => match k with
  | _ => ("ValleyMass$Not", "form", "LValleyMass$Form;", true)
def tyX12 : Nat → FieldType := fun k => match k with
  | _ => .object "ValleyMass$Form"
abbrev wsX120 : List Cond := u_ws RX12 TX12 1
theorem nmX12 : ∀ a, a < 1 → ∀ b, b < 1 → a ≠ b → (TX12 a).2.1 ≠ (TX12 b).2.1 := by decide +kernel
theorem tyX12_ok : ∀ k, k < 1 → parseFieldDescriptor (TX12 k).2.2.1 = some (tyX12 k) := by decide +kernel
abbrev cX12_of : ByteArray := prog_4_method_2_code
def yX12_of : MethodName := ⟨RX12, "of", "([I)I"⟩
def dkwX12_of_0 : List UInt8 := [42, 180, 0, 7, 43, 185, 0, 13, 2, 0, 154, 0, 7, 4, 167, 0, 4, 3, 172]
abbrev dktX12_of_0 : List UInt8 := dkwX12_of_0 ++ []
theorem dksX12_of_0 : cX12_of.data.toList.drop 0 = dktX12_of_0 := by decide +kernel
theorem dX12_of_0 : decode cX12_of 0 = .ok (.aload_n 0, 1) := dk_42 (dk_at dksX12_of_0 0 rfl rfl)
theorem dX12_of_1 : decode cX12_of 1 = .ok (.getfield 7, 3) := dk_180 0 7 (dk_at dksX12_of_0 1 rfl rfl)
theorem dX12_of_4 : decode cX12_of 4 = .ok (.aload_n 1, 1) := dk_43 (dk_at dksX12_of_0 4 rfl rfl)
theorem dX12_of_5 : decode cX12_of 5 = .ok (.invokeinterface 13 2, 5) := by decide +kernel
theorem dX12_of_10 : decode cX12_of 10 = .ok (.ifCond .ne 7, 3) := dk_154 0 7 (dk_at dksX12_of_0 10 rfl rfl)
theorem dX12_of_13 : decode cX12_of 13 = .ok (.iconst 1, 1) := dk_4 (dk_at dksX12_of_0 13 rfl rfl)
theorem dX12_of_14 : decode cX12_of 14 = .ok (.goto 4, 3) := dk_167 0 4 (dk_at dksX12_of_0 14 rfl rfl)
theorem dX12_of_17 : decode cX12_of 17 = .ok (.iconst 0, 1) := dk_3 (dk_at dksX12_of_0 17 rfl rfl)
theorem dX12_of_18 : decode cX12_of 18 = .ok (.ireturn, 1) := dk_172 (dk_at dksX12_of_0 18 rfl rfl)
abbrev cX12_init : ByteArray := prog_4_method_1_code
def yX12_init : MethodName := ⟨RX12, "<init>", "(LValleyMass$Form;)V"⟩
def dkwX12_init_0 : List UInt8 := [42, 183, 0, 1, 42, 43, 181, 0, 7, 177]
abbrev dktX12_init_0 : List UInt8 := dkwX12_init_0 ++ []
theorem dksX12_init_0 : cX12_init.data.toList.drop 0 = dktX12_init_0 := by decide +kernel
theorem dX12_init_0 : decode cX12_init 0 = .ok (.aload_n 0, 1) := dk_42 (dk_at dksX12_init_0 0 rfl rfl)
theorem dX12_init_1 : decode cX12_init 1 = .ok (.invokespecial 1, 3) := dk_183 0 1 (dk_at dksX12_init_0 1 rfl rfl)
theorem dX12_init_4 : decode cX12_init 4 = .ok (.aload_n 0, 1) := dk_42 (dk_at dksX12_init_0 4 rfl rfl)
theorem dX12_init_5 : decode cX12_init 5 = .ok (.aload_n 1, 1) := dk_43 (dk_at dksX12_init_0 5 rfl rfl)
theorem dX12_init_6 : decode cX12_init 6 = .ok (.putfield 7, 3) := dk_181 0 7 (dk_at dksX12_init_0 6 rfl rfl)
theorem dX12_init_9 : decode cX12_init 9 = .ok (.return_, 1) := dk_177 (dk_at dksX12_init_0 9 rfl rfl)
theorem q133 : (Jvm.Cond.initialized "ValleyMass$Not") ∈ lw_all := lw_g (lw_at lw_m1 34 rfl) rfl
theorem q343 : (Jvm.Cond.selects "ValleyMass$Not" ({ cls := "java/lang/Object", name := "getClass", desc := "()Ljava/lang/Class;" } : Jvm.MethodName) ({ cls := "java/lang/Object", name := "getClass", desc := "()Ljava/lang/Class;" } : Jvm.MethodName)) ∈ lw_all := lw_g (lw_at lw_m2 4 rfl) rfl
theorem q508 : (Jvm.Cond.castable "ValleyMass$Not" "ValleyMass$Form") ∈ lw_tbl := lw_at lw_m2 169 rfl
theorem q509 : (Jvm.Cond.selects "ValleyMass$Not" ({ cls := "ValleyMass$Form", name := "of", desc := "([I)I" } : Jvm.MethodName) ({ cls := "ValleyMass$Not", name := "of", desc := "([I)I" } : Jvm.MethodName)) ∈ lw_all := lw_g (lw_at lw_m2 170 rfl) rfl
theorem q510 : (Jvm.Cond.unhidden "ValleyMass$Not" "of" "([I)I") ∈ lw_tbl := lw_at lw_m2 171 rfl
theorem q511 : (Jvm.Cond.instanceMethod ({ cls := "ValleyMass$Not", name := "of", desc := "([I)I" } : Jvm.MethodName)) ∈ lw_all := lw_g (lw_at lw_m2 172 rfl) rfl
theorem q512 : (Jvm.Cond.publicMethod ({ cls := "ValleyMass$Not", name := "of", desc := "([I)I" } : Jvm.MethodName)) ∈ lw_tbl := lw_at lw_m2 173 rfl
theorem q513 : (Jvm.Cond.code ({ cls := "ValleyMass$Not", name := "of", desc := "([I)I" } : Jvm.MethodName) prog_4_method_2_code (2 : Nat) (Option.some Jvm.ClassFile.FieldType.int)) ∈ lw_all := lw_g (lw_at lw_m2 174 rfl) rfl
theorem q514 : (Jvm.Cond.interfaceEntry "ValleyMass$Not" (13 : Nat)) ∈ lw_tbl := lw_at lw_m2 175 rfl
theorem q515 : (Jvm.Cond.methodLink "ValleyMass$Not" (13 : Nat) ({ cls := "ValleyMass$Form", name := "of", desc := "([I)I" } : Jvm.MethodName)) ∈ lw_all := lw_g (lw_at lw_m2 176 rfl) rfl
theorem q1232 : (Jvm.Cond.instantiable "ValleyMass$Not" (1 : Nat)) ∈ lw_all := lw_g (lw_at lw_m5 173 rfl) rfl
theorem q1234 : (Jvm.Cond.instanceMethod ({ cls := "ValleyMass$Not", name := "<init>", desc := "(LValleyMass$Form;)V" } : Jvm.MethodName)) ∈ lw_all := lw_g (lw_at lw_m5 175 rfl) rfl
theorem q1235 : (Jvm.Cond.code ({ cls := "ValleyMass$Not", name := "<init>", desc := "(LValleyMass$Form;)V" } : Jvm.MethodName) prog_4_method_1_code (2 : Nat) (Option.none : Option Jvm.ClassFile.FieldType)) ∈ lw_all := lw_g (lw_at lw_m5 176 rfl) rfl
theorem q1236 : (Jvm.Cond.methodLink "ValleyMass$Not" (1 : Nat) ({ cls := "java/lang/Object", name := "<init>", desc := "()V" } : Jvm.MethodName)) ∈ lw_all := lw_g (lw_at lw_m5 177 rfl) rfl
theorem q1237 : (Jvm.Cond.fieldLink "ValleyMass$Not" (7 : Nat) "ValleyMass$Not" "form" "LValleyMass$Form;") ∈ lw_all := lw_g (lw_at lw_m5 178 rfl) rfl
theorem q1238 : (Jvm.Cond.laysFinal "ValleyMass$Not" "ValleyMass$Not" "form" "LValleyMass$Form;") ∈ lw_all := lw_g (lw_at lw_m5 179 rfl) rfl
theorem q1239 : (Jvm.Cond.soleField "ValleyMass$Not" "form") ∈ lw_all := lw_g (lw_at lw_m5 180 rfl) rfl
theorem q1240 : (Jvm.Cond.superclass "ValleyMass$Not" "java/lang/Object") ∈ lw_all := lw_g (lw_at lw_m5 181 rfl) rfl
theorem q2235 : (Jvm.Cond.castable "ValleyMass$Not" "java/lang/Object") ∈ lw_tbl := lw_at lw_m9 216 rfl
theorem in_X12 : ∀ w ∈ wsX120, w ∈ lw_all := lw_in wsX120 [1238] (by decide +kernel) (by decide +kernel)

