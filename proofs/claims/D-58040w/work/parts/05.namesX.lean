set_option maxRecDepth 100000
/-! SlatCrates -/
def RX0 : String := "SlatCrates"
def TX0 : u_T := fun k => match k with
  | 0 => ("SlatCrates", "now", "LSlatCrates$Yard;", false)
  | 1 => ("SlatCrates", "history", "Ljava/util/LinkedList;", true)
  | 2 => ("SlatCrates", "kept", "LSlatCrates$Yard;", false)
  | _ => ("SlatCrates", "pad", "Ljava/lang/StringBuilder;", true)
def tyX0 : Nat → FieldType := fun k => match k with
  | 0 => .object "SlatCrates$Yard"
  | 1 => .object "java/util/LinkedList"
  | 2 => .object "SlatCrates$Yard"
  | _ => .object "java/lang/StringBuilder"
abbrev wsX00 : List Cond := u_ws RX0 TX0 4
theorem nmX0 : ∀ a, a < 4 → ∀ b, b < 4 → a ≠ b → (TX0 a).2.1 ≠ (TX0 b).2.1 := by decide +kernel
theorem tyX0_ok : ∀ k, k < 4 → parseFieldDescriptor (TX0 k).2.2.1 = some (tyX0 k) := by decide +kernel
abbrev cX0_init : ByteArray := prog_1_method_2_code
def yX0_init : MethodName := ⟨RX0, "<init>", "()V"⟩
def dkwX0_init_1 : List UInt8 := [181, 0, 19, 42, 187, 0, 23, 89, 183, 0, 25, 181, 0, 26, 177]
abbrev dktX0_init_1 : List UInt8 := dkwX0_init_1 ++ []
def dkwX0_init_0 : List UInt8 := [42, 183, 0, 1, 42, 187, 0, 7, 89, 183, 0, 9, 181, 0, 10, 42, 187, 0, 16, 89, 183, 0, 18]
abbrev dktX0_init_0 : List UInt8 := dkwX0_init_0 ++ dktX0_init_1
theorem dksX0_init_0 : cX0_init.data.toList.drop 0 = dktX0_init_0 := by decide +kernel
theorem dksX0_init_1 : cX0_init.data.toList.drop 23 = dktX0_init_1 := dk_seg dksX0_init_0 23 rfl rfl
theorem dX0_init_0 : decode cX0_init 0 = .ok (.aload_n 0, 1) := dk_42 (dk_at dksX0_init_0 0 rfl rfl)
theorem dX0_init_1 : decode cX0_init 1 = .ok (.invokespecial 1, 3) := dk_183 0 1 (dk_at dksX0_init_0 1 rfl rfl)
theorem dX0_init_4 : decode cX0_init 4 = .ok (.aload_n 0, 1) := dk_42 (dk_at dksX0_init_0 4 rfl rfl)
theorem dX0_init_5 : decode cX0_init 5 = .ok (.new 7, 3) := dk_187 0 7 (dk_at dksX0_init_0 5 rfl rfl)
theorem dX0_init_8 : decode cX0_init 8 = .ok (.dup, 1) := dk_89 (dk_at dksX0_init_0 8 rfl rfl)
theorem dX0_init_9 : decode cX0_init 9 = .ok (.invokespecial 9, 3) := dk_183 0 9 (dk_at dksX0_init_0 9 rfl rfl)
theorem dX0_init_12 : decode cX0_init 12 = .ok (.putfield 10, 3) := dk_181 0 10 (dk_at dksX0_init_0 12 rfl rfl)
theorem dX0_init_15 : decode cX0_init 15 = .ok (.aload_n 0, 1) := dk_42 (dk_at dksX0_init_0 15 rfl rfl)
theorem dX0_init_16 : decode cX0_init 16 = .ok (.new 16, 3) := dk_187 0 16 (dk_at dksX0_init_0 16 rfl rfl)
theorem dX0_init_19 : decode cX0_init 19 = .ok (.dup, 1) := dk_89 (dk_at dksX0_init_0 19 rfl rfl)
theorem dX0_init_20 : decode cX0_init 20 = .ok (.invokespecial 18, 3) := dk_183 0 18 (dk_at dksX0_init_0 20 rfl rfl)
theorem dX0_init_23 : decode cX0_init 23 = .ok (.putfield 19, 3) := dk_181 0 19 (dk_at dksX0_init_1 0 rfl rfl)
theorem dX0_init_26 : decode cX0_init 26 = .ok (.aload_n 0, 1) := dk_42 (dk_at dksX0_init_1 3 rfl rfl)
theorem dX0_init_27 : decode cX0_init 27 = .ok (.new 23, 3) := dk_187 0 23 (dk_at dksX0_init_1 4 rfl rfl)
theorem dX0_init_30 : decode cX0_init 30 = .ok (.dup, 1) := dk_89 (dk_at dksX0_init_1 7 rfl rfl)
theorem dX0_init_31 : decode cX0_init 31 = .ok (.invokespecial 25, 3) := dk_183 0 25 (dk_at dksX0_init_1 8 rfl rfl)
theorem dX0_init_34 : decode cX0_init 34 = .ok (.putfield 26, 3) := dk_181 0 26 (dk_at dksX0_init_1 11 rfl rfl)
theorem dX0_init_37 : decode cX0_init 37 = .ok (.return_, 1) := dk_177 (dk_at dksX0_init_1 14 rfl rfl)
abbrev cX0_make : ByteArray := prog_1_method_6_code
def yX0_make : MethodName := ⟨RX0, "make", "(IIII)I"⟩
def dkwX0_make_4 : List UInt8 := [182, 0, 46, 4, 100, 172]
abbrev dktX0_make_4 : List UInt8 := dkwX0_make_4 ++ []
def dkwX0_make_3 : List UInt8 := [180, 0, 58, 187, 0, 62, 89, 27, 28, 29, 25, 5, 183, 0, 64, 182, 0, 67, 87, 42, 180, 0, 10]
abbrev dktX0_make_3 : List UInt8 := dkwX0_make_3 ++ dktX0_make_4
def dkwX0_make_2 : List UInt8 := [180, 0, 10, 182, 0, 46, 16, 12, 160, 0, 6, 16, 253, 172, 42, 182, 0, 55, 42, 180, 0, 10]
abbrev dktX0_make_2 : List UInt8 := dkwX0_make_2 ++ dktX0_make_3
def dkwX0_make_1 : List UInt8 := [184, 0, 47, 153, 0, 18, 29, 3, 16, 15, 184, 0, 47, 153, 0, 8, 25, 5, 199, 0, 5, 2, 172, 42]
abbrev dktX0_make_1 : List UInt8 := dkwX0_make_1 ++ dktX0_make_2
def dkwX0_make_0 : List UInt8 := [21, 4, 184, 0, 51, 58, 5, 27, 4, 16, 60, 184, 0, 47, 153, 0, 29, 28, 3, 27, 4, 100]
abbrev dktX0_make_0 : List UInt8 := dkwX0_make_0 ++ dktX0_make_1
theorem dksX0_make_0 : cX0_make.data.toList.drop 0 = dktX0_make_0 := by decide +kernel
theorem dksX0_make_1 : cX0_make.data.toList.drop 22 = dktX0_make_1 := dk_seg dksX0_make_0 22 rfl rfl
theorem dksX0_make_2 : cX0_make.data.toList.drop 46 = dktX0_make_2 := dk_seg dksX0_make_1 24 rfl rfl
theorem dksX0_make_3 : cX0_make.data.toList.drop 68 = dktX0_make_3 := dk_seg dksX0_make_2 22 rfl rfl
theorem dksX0_make_4 : cX0_make.data.toList.drop 91 = dktX0_make_4 := dk_seg dksX0_make_3 23 rfl rfl
theorem dX0_make_0 : decode cX0_make 0 = .ok (.iload 4, 2) := dk_21 4 (dk_at dksX0_make_0 0 rfl rfl)
theorem dX0_make_2 : decode cX0_make 2 = .ok (.invokestatic 51, 3) := dk_184 0 51 (dk_at dksX0_make_0 2 rfl rfl)
theorem dX0_make_5 : decode cX0_make 5 = .ok (.astore 5, 2) := dk_58 5 (dk_at dksX0_make_0 5 rfl rfl)
theorem dX0_make_7 : decode cX0_make 7 = .ok (.iload_n 1, 1) := dk_27 (dk_at dksX0_make_0 7 rfl rfl)
theorem dX0_make_8 : decode cX0_make 8 = .ok (.iconst 1, 1) := dk_4 (dk_at dksX0_make_0 8 rfl rfl)
theorem dX0_make_9 : decode cX0_make 9 = .ok (.bipush 60, 2) := dk_16 60 (dk_at dksX0_make_0 9 rfl rfl)
theorem dX0_make_11 : decode cX0_make 11 = .ok (.invokestatic 47, 3) := dk_184 0 47 (dk_at dksX0_make_0 11 rfl rfl)
theorem dX0_make_14 : decode cX0_make 14 = .ok (.ifCond .eq 29, 3) := dk_153 0 29 (dk_at dksX0_make_0 14 rfl rfl)
theorem dX0_make_17 : decode cX0_make 17 = .ok (.iload_n 2, 1) := dk_28 (dk_at dksX0_make_0 17 rfl rfl)
theorem dX0_make_18 : decode cX0_make 18 = .ok (.iconst 0, 1) := dk_3 (dk_at dksX0_make_0 18 rfl rfl)
theorem dX0_make_19 : decode cX0_make 19 = .ok (.iload_n 1, 1) := dk_27 (dk_at dksX0_make_0 19 rfl rfl)
theorem dX0_make_20 : decode cX0_make 20 = .ok (.iconst 1, 1) := dk_4 (dk_at dksX0_make_0 20 rfl rfl)
theorem dX0_make_21 : decode cX0_make 21 = .ok (.isub, 1) := dk_100 (dk_at dksX0_make_0 21 rfl rfl)
theorem dX0_make_22 : decode cX0_make 22 = .ok (.invokestatic 47, 3) := dk_184 0 47 (dk_at dksX0_make_1 0 rfl rfl)
theorem dX0_make_25 : decode cX0_make 25 = .ok (.ifCond .eq 18, 3) := dk_153 0 18 (dk_at dksX0_make_1 3 rfl rfl)
theorem dX0_make_28 : decode cX0_make 28 = .ok (.iload_n 3, 1) := dk_29 (dk_at dksX0_make_1 6 rfl rfl)
theorem dX0_make_29 : decode cX0_make 29 = .ok (.iconst 0, 1) := dk_3 (dk_at dksX0_make_1 7 rfl rfl)
theorem dX0_make_30 : decode cX0_make 30 = .ok (.bipush 15, 2) := dk_16 15 (dk_at dksX0_make_1 8 rfl rfl)
theorem dX0_make_32 : decode cX0_make 32 = .ok (.invokestatic 47, 3) := dk_184 0 47 (dk_at dksX0_make_1 10 rfl rfl)
theorem dX0_make_35 : decode cX0_make 35 = .ok (.ifCond .eq 8, 3) := dk_153 0 8 (dk_at dksX0_make_1 13 rfl rfl)
theorem dX0_make_38 : decode cX0_make 38 = .ok (.aload 5, 2) := dk_25 5 (dk_at dksX0_make_1 16 rfl rfl)
theorem dX0_make_40 : decode cX0_make 40 = .ok (.ifnonnull 5, 3) := dk_199 0 5 (dk_at dksX0_make_1 18 rfl rfl)
theorem dX0_make_43 : decode cX0_make 43 = .ok (.iconst (-1), 1) := dk_2 (dk_at dksX0_make_1 21 rfl rfl)
theorem dX0_make_44 : decode cX0_make 44 = .ok (.ireturn, 1) := dk_172 (dk_at dksX0_make_1 22 rfl rfl)
theorem dX0_make_45 : decode cX0_make 45 = .ok (.aload_n 0, 1) := dk_42 (dk_at dksX0_make_1 23 rfl rfl)
theorem dX0_make_46 : decode cX0_make 46 = .ok (.getfield 10, 3) := dk_180 0 10 (dk_at dksX0_make_2 0 rfl rfl)
theorem dX0_make_49 : decode cX0_make 49 = .ok (.invokevirtual 46, 3) := dk_182 0 46 (dk_at dksX0_make_2 3 rfl rfl)
theorem dX0_make_52 : decode cX0_make 52 = .ok (.bipush 12, 2) := dk_16 12 (dk_at dksX0_make_2 6 rfl rfl)
theorem dX0_make_54 : decode cX0_make 54 = .ok (.if_icmp .ne 6, 3) := dk_160 0 6 (dk_at dksX0_make_2 8 rfl rfl)
theorem dX0_make_57 : decode cX0_make 57 = .ok (.bipush (-3), 2) := dk_16 253 (dk_at dksX0_make_2 11 rfl rfl)
theorem dX0_make_59 : decode cX0_make 59 = .ok (.ireturn, 1) := dk_172 (dk_at dksX0_make_2 13 rfl rfl)
theorem dX0_make_60 : decode cX0_make 60 = .ok (.aload_n 0, 1) := dk_42 (dk_at dksX0_make_2 14 rfl rfl)
theorem dX0_make_61 : decode cX0_make 61 = .ok (.invokevirtual 55, 3) := dk_182 0 55 (dk_at dksX0_make_2 15 rfl rfl)
theorem dX0_make_64 : decode cX0_make 64 = .ok (.aload_n 0, 1) := dk_42 (dk_at dksX0_make_2 18 rfl rfl)
theorem dX0_make_65 : decode cX0_make 65 = .ok (.getfield 10, 3) := dk_180 0 10 (dk_at dksX0_make_2 19 rfl rfl)
theorem dX0_make_68 : decode cX0_make 68 = .ok (.getfield 58, 3) := dk_180 0 58 (dk_at dksX0_make_3 0 rfl rfl)
theorem dX0_make_71 : decode cX0_make 71 = .ok (.new 62, 3) := dk_187 0 62 (dk_at dksX0_make_3 3 rfl rfl)
theorem dX0_make_74 : decode cX0_make 74 = .ok (.dup, 1) := dk_89 (dk_at dksX0_make_3 6 rfl rfl)
theorem dX0_make_75 : decode cX0_make 75 = .ok (.iload_n 1, 1) := dk_27 (dk_at dksX0_make_3 7 rfl rfl)
theorem dX0_make_76 : decode cX0_make 76 = .ok (.iload_n 2, 1) := dk_28 (dk_at dksX0_make_3 8 rfl rfl)
theorem dX0_make_77 : decode cX0_make 77 = .ok (.iload_n 3, 1) := dk_29 (dk_at dksX0_make_3 9 rfl rfl)
theorem dX0_make_78 : decode cX0_make 78 = .ok (.aload 5, 2) := dk_25 5 (dk_at dksX0_make_3 10 rfl rfl)
theorem dX0_make_80 : decode cX0_make 80 = .ok (.invokespecial 64, 3) := dk_183 0 64 (dk_at dksX0_make_3 12 rfl rfl)
theorem dX0_make_83 : decode cX0_make 83 = .ok (.invokevirtual 67, 3) := dk_182 0 67 (dk_at dksX0_make_3 15 rfl rfl)
theorem dX0_make_86 : decode cX0_make 86 = .ok (.pop, 1) := dk_87 (dk_at dksX0_make_3 18 rfl rfl)
theorem dX0_make_87 : decode cX0_make 87 = .ok (.aload_n 0, 1) := dk_42 (dk_at dksX0_make_3 19 rfl rfl)
theorem dX0_make_88 : decode cX0_make 88 = .ok (.getfield 10, 3) := dk_180 0 10 (dk_at dksX0_make_3 20 rfl rfl)
theorem dX0_make_91 : decode cX0_make 91 = .ok (.invokevirtual 46, 3) := dk_182 0 46 (dk_at dksX0_make_4 0 rfl rfl)
theorem dX0_make_94 : decode cX0_make 94 = .ok (.iconst 1, 1) := dk_4 (dk_at dksX0_make_4 3 rfl rfl)
theorem dX0_make_95 : decode cX0_make 95 = .ok (.isub, 1) := dk_100 (dk_at dksX0_make_4 4 rfl rfl)
theorem dX0_make_96 : decode cX0_make 96 = .ok (.ireturn, 1) := dk_172 (dk_at dksX0_make_4 5 rfl rfl)
abbrev cX0_labelOf : ByteArray := prog_1_method_5_code
def yX0_labelOf : MethodName := ⟨RX0, "labelOf", "(I)[I"⟩
def dkwX0_labelOf_3 : List UInt8 := [27, 154, 0, 7, 1, 167, 0, 4, 44, 176]
abbrev dktX0_labelOf_3 : List UInt8 := dkwX0_labelOf_3 ++ []
def dkwX0_labelOf_2 : List UInt8 := [162, 0, 24, 44, 21, 4, 29, 16, 27, 112, 4, 100, 79, 29, 16, 27, 108, 62, 132, 4, 1, 167, 255, 232]
abbrev dktX0_labelOf_2 : List UInt8 := dkwX0_labelOf_2 ++ dktX0_labelOf_3
def dkwX0_labelOf_1 : List UInt8 := [132, 1, 1, 28, 16, 27, 108, 61, 167, 255, 230, 27, 188, 10, 77, 26, 62, 3, 54, 4, 21, 4, 27]
abbrev dktX0_labelOf_1 : List UInt8 := dkwX0_labelOf_1 ++ dktX0_labelOf_2
def dkwX0_labelOf_0 : List UInt8 := [3, 60, 26, 61, 28, 158, 0, 28, 28, 16, 27, 112, 153, 0, 8, 27, 7, 160, 0, 5, 1, 176]
abbrev dktX0_labelOf_0 : List UInt8 := dkwX0_labelOf_0 ++ dktX0_labelOf_1
theorem dksX0_labelOf_0 : cX0_labelOf.data.toList.drop 0 = dktX0_labelOf_0 := by decide +kernel
theorem dksX0_labelOf_1 : cX0_labelOf.data.toList.drop 22 = dktX0_labelOf_1 := dk_seg dksX0_labelOf_0 22 rfl rfl
theorem dksX0_labelOf_2 : cX0_labelOf.data.toList.drop 45 = dktX0_labelOf_2 := dk_seg dksX0_labelOf_1 23 rfl rfl
theorem dksX0_labelOf_3 : cX0_labelOf.data.toList.drop 69 = dktX0_labelOf_3 := dk_seg dksX0_labelOf_2 24 rfl rfl
theorem dX0_labelOf_0 : decode cX0_labelOf 0 = .ok (.iconst 0, 1) := dk_3 (dk_at dksX0_labelOf_0 0 rfl rfl)
theorem dX0_labelOf_1 : decode cX0_labelOf 1 = .ok (.istore_n 1, 1) := dk_60 (dk_at dksX0_labelOf_0 1 rfl rfl)
theorem dX0_labelOf_2 : decode cX0_labelOf 2 = .ok (.iload_n 0, 1) := dk_26 (dk_at dksX0_labelOf_0 2 rfl rfl)
theorem dX0_labelOf_3 : decode cX0_labelOf 3 = .ok (.istore_n 2, 1) := dk_61 (dk_at dksX0_labelOf_0 3 rfl rfl)
theorem dX0_labelOf_4 : decode cX0_labelOf 4 = .ok (.iload_n 2, 1) := dk_28 (dk_at dksX0_labelOf_0 4 rfl rfl)
theorem dX0_labelOf_5 : decode cX0_labelOf 5 = .ok (.ifCond .le 28, 3) := dk_158 0 28 (dk_at dksX0_labelOf_0 5 rfl rfl)
theorem dX0_labelOf_8 : decode cX0_labelOf 8 = .ok (.iload_n 2, 1) := dk_28 (dk_at dksX0_labelOf_0 8 rfl rfl)
theorem dX0_labelOf_9 : decode cX0_labelOf 9 = .ok (.bipush 27, 2) := dk_16 27 (dk_at dksX0_labelOf_0 9 rfl rfl)
theorem dX0_labelOf_11 : decode cX0_labelOf 11 = .ok (.irem, 1) := dk_112 (dk_at dksX0_labelOf_0 11 rfl rfl)
theorem dX0_labelOf_12 : decode cX0_labelOf 12 = .ok (.ifCond .eq 8, 3) := dk_153 0 8 (dk_at dksX0_labelOf_0 12 rfl rfl)
theorem dX0_labelOf_15 : decode cX0_labelOf 15 = .ok (.iload_n 1, 1) := dk_27 (dk_at dksX0_labelOf_0 15 rfl rfl)
theorem dX0_labelOf_16 : decode cX0_labelOf 16 = .ok (.iconst 4, 1) := dk_7 (dk_at dksX0_labelOf_0 16 rfl rfl)
theorem dX0_labelOf_17 : decode cX0_labelOf 17 = .ok (.if_icmp .ne 5, 3) := dk_160 0 5 (dk_at dksX0_labelOf_0 17 rfl rfl)
theorem dX0_labelOf_20 : decode cX0_labelOf 20 = .ok (.aconst_null, 1) := dk_1 (dk_at dksX0_labelOf_0 20 rfl rfl)
theorem dX0_labelOf_21 : decode cX0_labelOf 21 = .ok (.areturn, 1) := dk_176 (dk_at dksX0_labelOf_0 21 rfl rfl)
theorem dX0_labelOf_22 : decode cX0_labelOf 22 = .ok (.iinc 1 1, 3) := dk_132 1 1 (dk_at dksX0_labelOf_1 0 rfl rfl)
theorem dX0_labelOf_25 : decode cX0_labelOf 25 = .ok (.iload_n 2, 1) := dk_28 (dk_at dksX0_labelOf_1 3 rfl rfl)
theorem dX0_labelOf_26 : decode cX0_labelOf 26 = .ok (.bipush 27, 2) := dk_16 27 (dk_at dksX0_labelOf_1 4 rfl rfl)
theorem dX0_labelOf_28 : decode cX0_labelOf 28 = .ok (.idiv, 1) := dk_108 (dk_at dksX0_labelOf_1 6 rfl rfl)
theorem dX0_labelOf_29 : decode cX0_labelOf 29 = .ok (.istore_n 2, 1) := dk_61 (dk_at dksX0_labelOf_1 7 rfl rfl)
theorem dX0_labelOf_30 : decode cX0_labelOf 30 = .ok (.goto (-26), 3) := dk_167 255 230 (dk_at dksX0_labelOf_1 8 rfl rfl)
theorem dX0_labelOf_33 : decode cX0_labelOf 33 = .ok (.iload_n 1, 1) := dk_27 (dk_at dksX0_labelOf_1 11 rfl rfl)
theorem dX0_labelOf_34 : decode cX0_labelOf 34 = .ok (.newarray .int, 2) := dk_188_10 (dk_at dksX0_labelOf_1 12 rfl rfl)
theorem dX0_labelOf_36 : decode cX0_labelOf 36 = .ok (.astore_n 2, 1) := dk_77 (dk_at dksX0_labelOf_1 14 rfl rfl)
theorem dX0_labelOf_37 : decode cX0_labelOf 37 = .ok (.iload_n 0, 1) := dk_26 (dk_at dksX0_labelOf_1 15 rfl rfl)
theorem dX0_labelOf_38 : decode cX0_labelOf 38 = .ok (.istore_n 3, 1) := dk_62 (dk_at dksX0_labelOf_1 16 rfl rfl)
theorem dX0_labelOf_39 : decode cX0_labelOf 39 = .ok (.iconst 0, 1) := dk_3 (dk_at dksX0_labelOf_1 17 rfl rfl)
theorem dX0_labelOf_40 : decode cX0_labelOf 40 = .ok (.istore 4, 2) := dk_54 4 (dk_at dksX0_labelOf_1 18 rfl rfl)
theorem dX0_labelOf_42 : decode cX0_labelOf 42 = .ok (.iload 4, 2) := dk_21 4 (dk_at dksX0_labelOf_1 20 rfl rfl)
theorem dX0_labelOf_44 : decode cX0_labelOf 44 = .ok (.iload_n 1, 1) := dk_27 (dk_at dksX0_labelOf_1 22 rfl rfl)
theorem dX0_labelOf_45 : decode cX0_labelOf 45 = .ok (.if_icmp .ge 24, 3) := dk_162 0 24 (dk_at dksX0_labelOf_2 0 rfl rfl)
theorem dX0_labelOf_48 : decode cX0_labelOf 48 = .ok (.aload_n 2, 1) := dk_44 (dk_at dksX0_labelOf_2 3 rfl rfl)
theorem dX0_labelOf_49 : decode cX0_labelOf 49 = .ok (.iload 4, 2) := dk_21 4 (dk_at dksX0_labelOf_2 4 rfl rfl)
theorem dX0_labelOf_51 : decode cX0_labelOf 51 = .ok (.iload_n 3, 1) := dk_29 (dk_at dksX0_labelOf_2 6 rfl rfl)
theorem dX0_labelOf_52 : decode cX0_labelOf 52 = .ok (.bipush 27, 2) := dk_16 27 (dk_at dksX0_labelOf_2 7 rfl rfl)
theorem dX0_labelOf_54 : decode cX0_labelOf 54 = .ok (.irem, 1) := dk_112 (dk_at dksX0_labelOf_2 9 rfl rfl)
theorem dX0_labelOf_55 : decode cX0_labelOf 55 = .ok (.iconst 1, 1) := dk_4 (dk_at dksX0_labelOf_2 10 rfl rfl)
theorem dX0_labelOf_56 : decode cX0_labelOf 56 = .ok (.isub, 1) := dk_100 (dk_at dksX0_labelOf_2 11 rfl rfl)
theorem dX0_labelOf_57 : decode cX0_labelOf 57 = .ok (.iastore, 1) := dk_79 (dk_at dksX0_labelOf_2 12 rfl rfl)
theorem dX0_labelOf_58 : decode cX0_labelOf 58 = .ok (.iload_n 3, 1) := dk_29 (dk_at dksX0_labelOf_2 13 rfl rfl)
theorem dX0_labelOf_59 : decode cX0_labelOf 59 = .ok (.bipush 27, 2) := dk_16 27 (dk_at dksX0_labelOf_2 14 rfl rfl)
theorem dX0_labelOf_61 : decode cX0_labelOf 61 = .ok (.idiv, 1) := dk_108 (dk_at dksX0_labelOf_2 16 rfl rfl)
theorem dX0_labelOf_62 : decode cX0_labelOf 62 = .ok (.istore_n 3, 1) := dk_62 (dk_at dksX0_labelOf_2 17 rfl rfl)
theorem dX0_labelOf_63 : decode cX0_labelOf 63 = .ok (.iinc 4 1, 3) := dk_132 4 1 (dk_at dksX0_labelOf_2 18 rfl rfl)
theorem dX0_labelOf_66 : decode cX0_labelOf 66 = .ok (.goto (-24), 3) := dk_167 255 232 (dk_at dksX0_labelOf_2 21 rfl rfl)
theorem dX0_labelOf_69 : decode cX0_labelOf 69 = .ok (.iload_n 1, 1) := dk_27 (dk_at dksX0_labelOf_3 0 rfl rfl)
theorem dX0_labelOf_70 : decode cX0_labelOf 70 = .ok (.ifCond .ne 7, 3) := dk_154 0 7 (dk_at dksX0_labelOf_3 1 rfl rfl)
theorem dX0_labelOf_73 : decode cX0_labelOf 73 = .ok (.aconst_null, 1) := dk_1 (dk_at dksX0_labelOf_3 4 rfl rfl)
theorem dX0_labelOf_74 : decode cX0_labelOf 74 = .ok (.goto 4, 3) := dk_167 0 4 (dk_at dksX0_labelOf_3 5 rfl rfl)
theorem dX0_labelOf_77 : decode cX0_labelOf 77 = .ok (.aload_n 2, 1) := dk_44 (dk_at dksX0_labelOf_3 8 rfl rfl)
theorem dX0_labelOf_78 : decode cX0_labelOf 78 = .ok (.areturn, 1) := dk_176 (dk_at dksX0_labelOf_3 9 rfl rfl)
abbrev cX0_inRange : ByteArray := prog_1_method_1_code
def yX0_inRange : MethodName := ⟨RX0, "inRange", "(III)Z"⟩
def dkwX0_inRange_0 : List UInt8 := [26, 27, 161, 0, 12, 26, 28, 163, 0, 7, 4, 167, 0, 4, 3, 172]
abbrev dktX0_inRange_0 : List UInt8 := dkwX0_inRange_0 ++ []
theorem dksX0_inRange_0 : cX0_inRange.data.toList.drop 0 = dktX0_inRange_0 := by decide +kernel
theorem dX0_inRange_0 : decode cX0_inRange 0 = .ok (.iload_n 0, 1) := dk_26 (dk_at dksX0_inRange_0 0 rfl rfl)
theorem dX0_inRange_1 : decode cX0_inRange 1 = .ok (.iload_n 1, 1) := dk_27 (dk_at dksX0_inRange_0 1 rfl rfl)
theorem dX0_inRange_2 : decode cX0_inRange 2 = .ok (.if_icmp .lt 12, 3) := dk_161 0 12 (dk_at dksX0_inRange_0 2 rfl rfl)
theorem dX0_inRange_5 : decode cX0_inRange 5 = .ok (.iload_n 0, 1) := dk_26 (dk_at dksX0_inRange_0 5 rfl rfl)
theorem dX0_inRange_6 : decode cX0_inRange 6 = .ok (.iload_n 2, 1) := dk_28 (dk_at dksX0_inRange_0 6 rfl rfl)
theorem dX0_inRange_7 : decode cX0_inRange 7 = .ok (.if_icmp .gt 7, 3) := dk_163 0 7 (dk_at dksX0_inRange_0 7 rfl rfl)
theorem dX0_inRange_10 : decode cX0_inRange 10 = .ok (.iconst 1, 1) := dk_4 (dk_at dksX0_inRange_0 10 rfl rfl)
theorem dX0_inRange_11 : decode cX0_inRange 11 = .ok (.goto 4, 3) := dk_167 0 4 (dk_at dksX0_inRange_0 11 rfl rfl)
theorem dX0_inRange_14 : decode cX0_inRange 14 = .ok (.iconst 0, 1) := dk_3 (dk_at dksX0_inRange_0 14 rfl rfl)
theorem dX0_inRange_15 : decode cX0_inRange 15 = .ok (.ireturn, 1) := dk_172 (dk_at dksX0_inRange_0 15 rfl rfl)
abbrev cX0_records : ByteArray := prog_1_method_3_code
def yX0_records : MethodName := ⟨RX0, "records", "()V"⟩
def dkwX0_records_1 : List UInt8 := [180, 0, 10, 182, 0, 38, 182, 0, 42, 177]
abbrev dktX0_records_1 : List UInt8 := dkwX0_records_1 ++ []
def dkwX0_records_0 : List UInt8 := [42, 180, 0, 19, 182, 0, 30, 7, 160, 0, 11, 42, 180, 0, 19, 182, 0, 34, 87, 42, 180, 0, 19, 42]
abbrev dktX0_records_0 : List UInt8 := dkwX0_records_0 ++ dktX0_records_1
theorem dksX0_records_0 : cX0_records.data.toList.drop 0 = dktX0_records_0 := by decide +kernel
theorem dksX0_records_1 : cX0_records.data.toList.drop 24 = dktX0_records_1 := dk_seg dksX0_records_0 24 rfl rfl
theorem dX0_records_0 : decode cX0_records 0 = .ok (.aload_n 0, 1) := dk_42 (dk_at dksX0_records_0 0 rfl rfl)
theorem dX0_records_1 : decode cX0_records 1 = .ok (.getfield 19, 3) := dk_180 0 19 (dk_at dksX0_records_0 1 rfl rfl)
theorem dX0_records_4 : decode cX0_records 4 = .ok (.invokevirtual 30, 3) := dk_182 0 30 (dk_at dksX0_records_0 4 rfl rfl)
theorem dX0_records_7 : decode cX0_records 7 = .ok (.iconst 4, 1) := dk_7 (dk_at dksX0_records_0 7 rfl rfl)
theorem dX0_records_8 : decode cX0_records 8 = .ok (.if_icmp .ne 11, 3) := dk_160 0 11 (dk_at dksX0_records_0 8 rfl rfl)
theorem dX0_records_11 : decode cX0_records 11 = .ok (.aload_n 0, 1) := dk_42 (dk_at dksX0_records_0 11 rfl rfl)
theorem dX0_records_12 : decode cX0_records 12 = .ok (.getfield 19, 3) := dk_180 0 19 (dk_at dksX0_records_0 12 rfl rfl)
theorem dX0_records_15 : decode cX0_records 15 = .ok (.invokevirtual 34, 3) := dk_182 0 34 (dk_at dksX0_records_0 15 rfl rfl)
theorem dX0_records_18 : decode cX0_records 18 = .ok (.pop, 1) := dk_87 (dk_at dksX0_records_0 18 rfl rfl)
theorem dX0_records_19 : decode cX0_records 19 = .ok (.aload_n 0, 1) := dk_42 (dk_at dksX0_records_0 19 rfl rfl)
theorem dX0_records_20 : decode cX0_records 20 = .ok (.getfield 19, 3) := dk_180 0 19 (dk_at dksX0_records_0 20 rfl rfl)
theorem dX0_records_23 : decode cX0_records 23 = .ok (.aload_n 0, 1) := dk_42 (dk_at dksX0_records_0 23 rfl rfl)
theorem dX0_records_24 : decode cX0_records 24 = .ok (.getfield 10, 3) := dk_180 0 10 (dk_at dksX0_records_1 0 rfl rfl)
theorem dX0_records_27 : decode cX0_records 27 = .ok (.invokevirtual 38, 3) := dk_182 0 38 (dk_at dksX0_records_1 3 rfl rfl)
theorem dX0_records_30 : decode cX0_records 30 = .ok (.invokevirtual 42, 3) := dk_182 0 42 (dk_at dksX0_records_1 6 rfl rfl)
theorem dX0_records_33 : decode cX0_records 33 = .ok (.return_, 1) := dk_177 (dk_at dksX0_records_1 9 rfl rfl)
abbrev cX0_put : ByteArray := prog_1_method_8_code
def yX0_put : MethodName := ⟨RX0, "put", "(II)I"⟩
def dkwX0_put_2 : List UInt8 := [28, 182, 0, 89, 16, 10, 42, 180, 0, 10, 27, 182, 0, 93, 96, 172]
abbrev dktX0_put_2 : List UInt8 := dkwX0_put_2 ++ []
def dkwX0_put_1 : List UInt8 := [180, 0, 10, 27, 28, 182, 0, 81, 62, 29, 158, 0, 9, 42, 29, 182, 0, 85, 172, 42, 180, 0, 10, 27]
abbrev dktX0_put_1 : List UInt8 := dkwX0_put_1 ++ dktX0_put_2
def dkwX0_put_0 : List UInt8 := [42, 27, 182, 0, 77, 153, 0, 11, 42, 28, 182, 0, 77, 154, 0, 5, 2, 172, 42, 182, 0, 55, 42]
abbrev dktX0_put_0 : List UInt8 := dkwX0_put_0 ++ dktX0_put_1
theorem dksX0_put_0 : cX0_put.data.toList.drop 0 = dktX0_put_0 := by decide +kernel
theorem dksX0_put_1 : cX0_put.data.toList.drop 23 = dktX0_put_1 := dk_seg dksX0_put_0 23 rfl rfl
theorem dksX0_put_2 : cX0_put.data.toList.drop 47 = dktX0_put_2 := dk_seg dksX0_put_1 24 rfl rfl
theorem dX0_put_0 : decode cX0_put 0 = .ok (.aload_n 0, 1) := dk_42 (dk_at dksX0_put_0 0 rfl rfl)
theorem dX0_put_1 : decode cX0_put 1 = .ok (.iload_n 1, 1) := dk_27 (dk_at dksX0_put_0 1 rfl rfl)
theorem dX0_put_2 : decode cX0_put 2 = .ok (.invokevirtual 77, 3) := dk_182 0 77 (dk_at dksX0_put_0 2 rfl rfl)
theorem dX0_put_5 : decode cX0_put 5 = .ok (.ifCond .eq 11, 3) := dk_153 0 11 (dk_at dksX0_put_0 5 rfl rfl)
theorem dX0_put_8 : decode cX0_put 8 = .ok (.aload_n 0, 1) := dk_42 (dk_at dksX0_put_0 8 rfl rfl)
theorem dX0_put_9 : decode cX0_put 9 = .ok (.iload_n 2, 1) := dk_28 (dk_at dksX0_put_0 9 rfl rfl)
theorem dX0_put_10 : decode cX0_put 10 = .ok (.invokevirtual 77, 3) := dk_182 0 77 (dk_at dksX0_put_0 10 rfl rfl)
theorem dX0_put_13 : decode cX0_put 13 = .ok (.ifCond .ne 5, 3) := dk_154 0 5 (dk_at dksX0_put_0 13 rfl rfl)
theorem dX0_put_16 : decode cX0_put 16 = .ok (.iconst (-1), 1) := dk_2 (dk_at dksX0_put_0 16 rfl rfl)
theorem dX0_put_17 : decode cX0_put 17 = .ok (.ireturn, 1) := dk_172 (dk_at dksX0_put_0 17 rfl rfl)
theorem dX0_put_18 : decode cX0_put 18 = .ok (.aload_n 0, 1) := dk_42 (dk_at dksX0_put_0 18 rfl rfl)
theorem dX0_put_19 : decode cX0_put 19 = .ok (.invokevirtual 55, 3) := dk_182 0 55 (dk_at dksX0_put_0 19 rfl rfl)
theorem dX0_put_22 : decode cX0_put 22 = .ok (.aload_n 0, 1) := dk_42 (dk_at dksX0_put_0 22 rfl rfl)
theorem dX0_put_23 : decode cX0_put 23 = .ok (.getfield 10, 3) := dk_180 0 10 (dk_at dksX0_put_1 0 rfl rfl)
theorem dX0_put_26 : decode cX0_put 26 = .ok (.iload_n 1, 1) := dk_27 (dk_at dksX0_put_1 3 rfl rfl)
theorem dX0_put_27 : decode cX0_put 27 = .ok (.iload_n 2, 1) := dk_28 (dk_at dksX0_put_1 4 rfl rfl)
theorem dX0_put_28 : decode cX0_put 28 = .ok (.invokevirtual 81, 3) := dk_182 0 81 (dk_at dksX0_put_1 5 rfl rfl)
theorem dX0_put_31 : decode cX0_put 31 = .ok (.istore_n 3, 1) := dk_62 (dk_at dksX0_put_1 8 rfl rfl)
theorem dX0_put_32 : decode cX0_put 32 = .ok (.iload_n 3, 1) := dk_29 (dk_at dksX0_put_1 9 rfl rfl)
theorem dX0_put_33 : decode cX0_put 33 = .ok (.ifCond .le 9, 3) := dk_158 0 9 (dk_at dksX0_put_1 10 rfl rfl)
theorem dX0_put_36 : decode cX0_put 36 = .ok (.aload_n 0, 1) := dk_42 (dk_at dksX0_put_1 13 rfl rfl)
theorem dX0_put_37 : decode cX0_put 37 = .ok (.iload_n 3, 1) := dk_29 (dk_at dksX0_put_1 14 rfl rfl)
theorem dX0_put_38 : decode cX0_put 38 = .ok (.invokevirtual 85, 3) := dk_182 0 85 (dk_at dksX0_put_1 15 rfl rfl)
theorem dX0_put_41 : decode cX0_put 41 = .ok (.ireturn, 1) := dk_172 (dk_at dksX0_put_1 18 rfl rfl)
theorem dX0_put_42 : decode cX0_put 42 = .ok (.aload_n 0, 1) := dk_42 (dk_at dksX0_put_1 19 rfl rfl)
theorem dX0_put_43 : decode cX0_put 43 = .ok (.getfield 10, 3) := dk_180 0 10 (dk_at dksX0_put_1 20 rfl rfl)
theorem dX0_put_46 : decode cX0_put 46 = .ok (.iload_n 1, 1) := dk_27 (dk_at dksX0_put_1 23 rfl rfl)
theorem dX0_put_47 : decode cX0_put 47 = .ok (.iload_n 2, 1) := dk_28 (dk_at dksX0_put_2 0 rfl rfl)
theorem dX0_put_48 : decode cX0_put 48 = .ok (.invokevirtual 89, 3) := dk_182 0 89 (dk_at dksX0_put_2 1 rfl rfl)
theorem dX0_put_51 : decode cX0_put 51 = .ok (.bipush 10, 2) := dk_16 10 (dk_at dksX0_put_2 4 rfl rfl)
theorem dX0_put_53 : decode cX0_put 53 = .ok (.aload_n 0, 1) := dk_42 (dk_at dksX0_put_2 6 rfl rfl)
theorem dX0_put_54 : decode cX0_put 54 = .ok (.getfield 10, 3) := dk_180 0 10 (dk_at dksX0_put_2 7 rfl rfl)
theorem dX0_put_57 : decode cX0_put 57 = .ok (.iload_n 1, 1) := dk_27 (dk_at dksX0_put_2 10 rfl rfl)
theorem dX0_put_58 : decode cX0_put 58 = .ok (.invokevirtual 93, 3) := dk_182 0 93 (dk_at dksX0_put_2 11 rfl rfl)
theorem dX0_put_61 : decode cX0_put 61 = .ok (.iadd, 1) := dk_96 (dk_at dksX0_put_2 14 rfl rfl)
theorem dX0_put_62 : decode cX0_put 62 = .ok (.ireturn, 1) := dk_172 (dk_at dksX0_put_2 15 rfl rfl)
abbrev cX0_isCrate : ByteArray := prog_1_method_4_code
def yX0_isCrate : MethodName := ⟨RX0, "isCrate", "(I)Z"⟩
def dkwX0_isCrate_0 : List UInt8 := [27, 3, 42, 180, 0, 10, 182, 0, 46, 4, 100, 184, 0, 47, 172]
abbrev dktX0_isCrate_0 : List UInt8 := dkwX0_isCrate_0 ++ []
theorem dksX0_isCrate_0 : cX0_isCrate.data.toList.drop 0 = dktX0_isCrate_0 := by decide +kernel
theorem dX0_isCrate_0 : decode cX0_isCrate 0 = .ok (.iload_n 1, 1) := dk_27 (dk_at dksX0_isCrate_0 0 rfl rfl)
theorem dX0_isCrate_1 : decode cX0_isCrate 1 = .ok (.iconst 0, 1) := dk_3 (dk_at dksX0_isCrate_0 1 rfl rfl)
theorem dX0_isCrate_2 : decode cX0_isCrate 2 = .ok (.aload_n 0, 1) := dk_42 (dk_at dksX0_isCrate_0 2 rfl rfl)
theorem dX0_isCrate_3 : decode cX0_isCrate 3 = .ok (.getfield 10, 3) := dk_180 0 10 (dk_at dksX0_isCrate_0 3 rfl rfl)
theorem dX0_isCrate_6 : decode cX0_isCrate 6 = .ok (.invokevirtual 46, 3) := dk_182 0 46 (dk_at dksX0_isCrate_0 6 rfl rfl)
theorem dX0_isCrate_9 : decode cX0_isCrate 9 = .ok (.iconst 1, 1) := dk_4 (dk_at dksX0_isCrate_0 9 rfl rfl)
theorem dX0_isCrate_10 : decode cX0_isCrate 10 = .ok (.isub, 1) := dk_100 (dk_at dksX0_isCrate_0 10 rfl rfl)
theorem dX0_isCrate_11 : decode cX0_isCrate 11 = .ok (.invokestatic 47, 3) := dk_184 0 47 (dk_at dksX0_isCrate_0 11 rfl rfl)
theorem dX0_isCrate_14 : decode cX0_isCrate 14 = .ok (.ireturn, 1) := dk_172 (dk_at dksX0_isCrate_0 14 rfl rfl)
abbrev cX0_refuses : ByteArray := prog_1_method_7_code
def yX0_refuses : MethodName := ⟨RX0, "refuses", "(I)I"⟩
def dkwX0_refuses_0 : List UInt8 := [42, 180, 0, 10, 89, 180, 0, 73, 4, 96, 181, 0, 73, 27, 172]
abbrev dktX0_refuses_0 : List UInt8 := dkwX0_refuses_0 ++ []
theorem dksX0_refuses_0 : cX0_refuses.data.toList.drop 0 = dktX0_refuses_0 := by decide +kernel
theorem dX0_refuses_0 : decode cX0_refuses 0 = .ok (.aload_n 0, 1) := dk_42 (dk_at dksX0_refuses_0 0 rfl rfl)
theorem dX0_refuses_1 : decode cX0_refuses 1 = .ok (.getfield 10, 3) := dk_180 0 10 (dk_at dksX0_refuses_0 1 rfl rfl)
theorem dX0_refuses_4 : decode cX0_refuses 4 = .ok (.dup, 1) := dk_89 (dk_at dksX0_refuses_0 4 rfl rfl)
theorem dX0_refuses_5 : decode cX0_refuses 5 = .ok (.getfield 73, 3) := dk_180 0 73 (dk_at dksX0_refuses_0 5 rfl rfl)
theorem dX0_refuses_8 : decode cX0_refuses 8 = .ok (.iconst 1, 1) := dk_4 (dk_at dksX0_refuses_0 8 rfl rfl)
theorem dX0_refuses_9 : decode cX0_refuses 9 = .ok (.iadd, 1) := dk_96 (dk_at dksX0_refuses_0 9 rfl rfl)
theorem dX0_refuses_10 : decode cX0_refuses 10 = .ok (.putfield 73, 3) := dk_181 0 73 (dk_at dksX0_refuses_0 10 rfl rfl)
theorem dX0_refuses_13 : decode cX0_refuses 13 = .ok (.iload_n 1, 1) := dk_27 (dk_at dksX0_refuses_0 13 rfl rfl)
theorem dX0_refuses_14 : decode cX0_refuses 14 = .ok (.ireturn, 1) := dk_172 (dk_at dksX0_refuses_0 14 rfl rfl)
abbrev cX0_ground : ByteArray := prog_1_method_9_code
def yX0_ground : MethodName := ⟨RX0, "ground", "(I)I"⟩
def dkwX0_ground_1 : List UInt8 := [158, 0, 9, 42, 28, 182, 0, 85, 172, 42, 180, 0, 10, 27, 182, 0, 99, 16, 10, 172]
abbrev dktX0_ground_1 : List UInt8 := dkwX0_ground_1 ++ []
def dkwX0_ground_0 : List UInt8 := [42, 27, 182, 0, 77, 154, 0, 5, 2, 172, 42, 182, 0, 55, 42, 180, 0, 10, 27, 182, 0, 96, 61, 28]
abbrev dktX0_ground_0 : List UInt8 := dkwX0_ground_0 ++ dktX0_ground_1
theorem dksX0_ground_0 : cX0_ground.data.toList.drop 0 = dktX0_ground_0 := by decide +kernel
theorem dksX0_ground_1 : cX0_ground.data.toList.drop 24 = dktX0_ground_1 := dk_seg dksX0_ground_0 24 rfl rfl
theorem dX0_ground_0 : decode cX0_ground 0 = .ok (.aload_n 0, 1) := dk_42 (dk_at dksX0_ground_0 0 rfl rfl)
theorem dX0_ground_1 : decode cX0_ground 1 = .ok (.iload_n 1, 1) := dk_27 (dk_at dksX0_ground_0 1 rfl rfl)
theorem dX0_ground_2 : decode cX0_ground 2 = .ok (.invokevirtual 77, 3) := dk_182 0 77 (dk_at dksX0_ground_0 2 rfl rfl)
theorem dX0_ground_5 : decode cX0_ground 5 = .ok (.ifCond .ne 5, 3) := dk_154 0 5 (dk_at dksX0_ground_0 5 rfl rfl)
theorem dX0_ground_8 : decode cX0_ground 8 = .ok (.iconst (-1), 1) := dk_2 (dk_at dksX0_ground_0 8 rfl rfl)
theorem dX0_ground_9 : decode cX0_ground 9 = .ok (.ireturn, 1) := dk_172 (dk_at dksX0_ground_0 9 rfl rfl)
theorem dX0_ground_10 : decode cX0_ground 10 = .ok (.aload_n 0, 1) := dk_42 (dk_at dksX0_ground_0 10 rfl rfl)
theorem dX0_ground_11 : decode cX0_ground 11 = .ok (.invokevirtual 55, 3) := dk_182 0 55 (dk_at dksX0_ground_0 11 rfl rfl)
theorem dX0_ground_14 : decode cX0_ground 14 = .ok (.aload_n 0, 1) := dk_42 (dk_at dksX0_ground_0 14 rfl rfl)
theorem dX0_ground_15 : decode cX0_ground 15 = .ok (.getfield 10, 3) := dk_180 0 10 (dk_at dksX0_ground_0 15 rfl rfl)
theorem dX0_ground_18 : decode cX0_ground 18 = .ok (.iload_n 1, 1) := dk_27 (dk_at dksX0_ground_0 18 rfl rfl)
theorem dX0_ground_19 : decode cX0_ground 19 = .ok (.invokevirtual 96, 3) := dk_182 0 96 (dk_at dksX0_ground_0 19 rfl rfl)
theorem dX0_ground_22 : decode cX0_ground 22 = .ok (.istore_n 2, 1) := dk_61 (dk_at dksX0_ground_0 22 rfl rfl)
theorem dX0_ground_23 : decode cX0_ground 23 = .ok (.iload_n 2, 1) := dk_28 (dk_at dksX0_ground_0 23 rfl rfl)
theorem dX0_ground_24 : decode cX0_ground 24 = .ok (.ifCond .le 9, 3) := dk_158 0 9 (dk_at dksX0_ground_1 0 rfl rfl)
theorem dX0_ground_27 : decode cX0_ground 27 = .ok (.aload_n 0, 1) := dk_42 (dk_at dksX0_ground_1 3 rfl rfl)
theorem dX0_ground_28 : decode cX0_ground 28 = .ok (.iload_n 2, 1) := dk_28 (dk_at dksX0_ground_1 4 rfl rfl)
theorem dX0_ground_29 : decode cX0_ground 29 = .ok (.invokevirtual 85, 3) := dk_182 0 85 (dk_at dksX0_ground_1 5 rfl rfl)
theorem dX0_ground_32 : decode cX0_ground 32 = .ok (.ireturn, 1) := dk_172 (dk_at dksX0_ground_1 8 rfl rfl)
theorem dX0_ground_33 : decode cX0_ground 33 = .ok (.aload_n 0, 1) := dk_42 (dk_at dksX0_ground_1 9 rfl rfl)
theorem dX0_ground_34 : decode cX0_ground 34 = .ok (.getfield 10, 3) := dk_180 0 10 (dk_at dksX0_ground_1 10 rfl rfl)
theorem dX0_ground_37 : decode cX0_ground 37 = .ok (.iload_n 1, 1) := dk_27 (dk_at dksX0_ground_1 13 rfl rfl)
theorem dX0_ground_38 : decode cX0_ground 38 = .ok (.invokevirtual 99, 3) := dk_182 0 99 (dk_at dksX0_ground_1 14 rfl rfl)
theorem dX0_ground_41 : decode cX0_ground 41 = .ok (.bipush 10, 2) := dk_16 10 (dk_at dksX0_ground_1 17 rfl rfl)
theorem dX0_ground_43 : decode cX0_ground 43 = .ok (.ireturn, 1) := dk_172 (dk_at dksX0_ground_1 19 rfl rfl)
abbrev cX0_turn : ByteArray := prog_1_method_10_code
def yX0_turn : MethodName := ⟨RX0, "turn", "(I)I"⟩
def dkwX0_turn_1 : List UInt8 := [182, 0, 107, 42, 180, 0, 10, 27, 182, 0, 103, 180, 0, 110, 172]
abbrev dktX0_turn_1 : List UInt8 := dkwX0_turn_1 ++ []
def dkwX0_turn_0 : List UInt8 := [42, 27, 182, 0, 77, 154, 0, 5, 2, 172, 42, 182, 0, 55, 42, 180, 0, 10, 27, 182, 0, 103]
abbrev dktX0_turn_0 : List UInt8 := dkwX0_turn_0 ++ dktX0_turn_1
theorem dksX0_turn_0 : cX0_turn.data.toList.drop 0 = dktX0_turn_0 := by decide +kernel
theorem dksX0_turn_1 : cX0_turn.data.toList.drop 22 = dktX0_turn_1 := dk_seg dksX0_turn_0 22 rfl rfl
theorem dX0_turn_0 : decode cX0_turn 0 = .ok (.aload_n 0, 1) := dk_42 (dk_at dksX0_turn_0 0 rfl rfl)
theorem dX0_turn_1 : decode cX0_turn 1 = .ok (.iload_n 1, 1) := dk_27 (dk_at dksX0_turn_0 1 rfl rfl)
theorem dX0_turn_2 : decode cX0_turn 2 = .ok (.invokevirtual 77, 3) := dk_182 0 77 (dk_at dksX0_turn_0 2 rfl rfl)
theorem dX0_turn_5 : decode cX0_turn 5 = .ok (.ifCond .ne 5, 3) := dk_154 0 5 (dk_at dksX0_turn_0 5 rfl rfl)
theorem dX0_turn_8 : decode cX0_turn 8 = .ok (.iconst (-1), 1) := dk_2 (dk_at dksX0_turn_0 8 rfl rfl)
theorem dX0_turn_9 : decode cX0_turn 9 = .ok (.ireturn, 1) := dk_172 (dk_at dksX0_turn_0 9 rfl rfl)
theorem dX0_turn_10 : decode cX0_turn 10 = .ok (.aload_n 0, 1) := dk_42 (dk_at dksX0_turn_0 10 rfl rfl)
theorem dX0_turn_11 : decode cX0_turn 11 = .ok (.invokevirtual 55, 3) := dk_182 0 55 (dk_at dksX0_turn_0 11 rfl rfl)
theorem dX0_turn_14 : decode cX0_turn 14 = .ok (.aload_n 0, 1) := dk_42 (dk_at dksX0_turn_0 14 rfl rfl)
theorem dX0_turn_15 : decode cX0_turn 15 = .ok (.getfield 10, 3) := dk_180 0 10 (dk_at dksX0_turn_0 15 rfl rfl)
theorem dX0_turn_18 : decode cX0_turn 18 = .ok (.iload_n 1, 1) := dk_27 (dk_at dksX0_turn_0 18 rfl rfl)
theorem dX0_turn_19 : decode cX0_turn 19 = .ok (.invokevirtual 103, 3) := dk_182 0 103 (dk_at dksX0_turn_0 19 rfl rfl)
theorem dX0_turn_22 : decode cX0_turn 22 = .ok (.invokevirtual 107, 3) := dk_182 0 107 (dk_at dksX0_turn_1 0 rfl rfl)
theorem dX0_turn_25 : decode cX0_turn 25 = .ok (.aload_n 0, 1) := dk_42 (dk_at dksX0_turn_1 3 rfl rfl)
theorem dX0_turn_26 : decode cX0_turn 26 = .ok (.getfield 10, 3) := dk_180 0 10 (dk_at dksX0_turn_1 4 rfl rfl)
theorem dX0_turn_29 : decode cX0_turn 29 = .ok (.iload_n 1, 1) := dk_27 (dk_at dksX0_turn_1 7 rfl rfl)
theorem dX0_turn_30 : decode cX0_turn 30 = .ok (.invokevirtual 103, 3) := dk_182 0 103 (dk_at dksX0_turn_1 8 rfl rfl)
theorem dX0_turn_33 : decode cX0_turn 33 = .ok (.getfield 110, 3) := dk_180 0 110 (dk_at dksX0_turn_1 11 rfl rfl)
theorem dX0_turn_36 : decode cX0_turn 36 = .ok (.ireturn, 1) := dk_172 (dk_at dksX0_turn_1 14 rfl rfl)
abbrev cX0_breakUp : ByteArray := prog_1_method_11_code
def yX0_breakUp : MethodName := ⟨RX0, "breakUp", "(I)I"⟩
def dkwX0_breakUp_2 : List UInt8 := [182, 0, 46, 96, 172]
abbrev dktX0_breakUp_2 : List UInt8 := dkwX0_breakUp_2 ++ []
def dkwX0_breakUp_1 : List UInt8 := [158, 0, 9, 42, 28, 182, 0, 85, 172, 42, 180, 0, 10, 27, 182, 0, 116, 16, 10, 42, 180, 0, 10]
abbrev dktX0_breakUp_1 : List UInt8 := dkwX0_breakUp_1 ++ dktX0_breakUp_2
def dkwX0_breakUp_0 : List UInt8 := [42, 27, 182, 0, 77, 154, 0, 5, 2, 172, 42, 182, 0, 55, 42, 180, 0, 10, 27, 182, 0, 113, 61, 28]
abbrev dktX0_breakUp_0 : List UInt8 := dkwX0_breakUp_0 ++ dktX0_breakUp_1
theorem dksX0_breakUp_0 : cX0_breakUp.data.toList.drop 0 = dktX0_breakUp_0 := by decide +kernel
theorem dksX0_breakUp_1 : cX0_breakUp.data.toList.drop 24 = dktX0_breakUp_1 := dk_seg dksX0_breakUp_0 24 rfl rfl
theorem dksX0_breakUp_2 : cX0_breakUp.data.toList.drop 47 = dktX0_breakUp_2 := dk_seg dksX0_breakUp_1 23 rfl rfl
theorem dX0_breakUp_0 : decode cX0_breakUp 0 = .ok (.aload_n 0, 1) := dk_42 (dk_at dksX0_breakUp_0 0 rfl rfl)
theorem dX0_breakUp_1 : decode cX0_breakUp 1 = .ok (.iload_n 1, 1) := dk_27 (dk_at dksX0_breakUp_0 1 rfl rfl)
theorem dX0_breakUp_2 : decode cX0_breakUp 2 = .ok (.invokevirtual 77, 3) := dk_182 0 77 (dk_at dksX0_breakUp_0 2 rfl rfl)
theorem dX0_breakUp_5 : decode cX0_breakUp 5 = .ok (.ifCond .ne 5, 3) := dk_154 0 5 (dk_at dksX0_breakUp_0 5 rfl rfl)
theorem dX0_breakUp_8 : decode cX0_breakUp 8 = .ok (.iconst (-1), 1) := dk_2 (dk_at dksX0_breakUp_0 8 rfl rfl)
theorem dX0_breakUp_9 : decode cX0_breakUp 9 = .ok (.ireturn, 1) := dk_172 (dk_at dksX0_breakUp_0 9 rfl rfl)
theorem dX0_breakUp_10 : decode cX0_breakUp 10 = .ok (.aload_n 0, 1) := dk_42 (dk_at dksX0_breakUp_0 10 rfl rfl)
theorem dX0_breakUp_11 : decode cX0_breakUp 11 = .ok (.invokevirtual 55, 3) := dk_182 0 55 (dk_at dksX0_breakUp_0 11 rfl rfl)
theorem dX0_breakUp_14 : decode cX0_breakUp 14 = .ok (.aload_n 0, 1) := dk_42 (dk_at dksX0_breakUp_0 14 rfl rfl)
theorem dX0_breakUp_15 : decode cX0_breakUp 15 = .ok (.getfield 10, 3) := dk_180 0 10 (dk_at dksX0_breakUp_0 15 rfl rfl)
theorem dX0_breakUp_18 : decode cX0_breakUp 18 = .ok (.iload_n 1, 1) := dk_27 (dk_at dksX0_breakUp_0 18 rfl rfl)
theorem dX0_breakUp_19 : decode cX0_breakUp 19 = .ok (.invokevirtual 113, 3) := dk_182 0 113 (dk_at dksX0_breakUp_0 19 rfl rfl)
theorem dX0_breakUp_22 : decode cX0_breakUp 22 = .ok (.istore_n 2, 1) := dk_61 (dk_at dksX0_breakUp_0 22 rfl rfl)
theorem dX0_breakUp_23 : decode cX0_breakUp 23 = .ok (.iload_n 2, 1) := dk_28 (dk_at dksX0_breakUp_0 23 rfl rfl)
theorem dX0_breakUp_24 : decode cX0_breakUp 24 = .ok (.ifCond .le 9, 3) := dk_158 0 9 (dk_at dksX0_breakUp_1 0 rfl rfl)
theorem dX0_breakUp_27 : decode cX0_breakUp 27 = .ok (.aload_n 0, 1) := dk_42 (dk_at dksX0_breakUp_1 3 rfl rfl)
theorem dX0_breakUp_28 : decode cX0_breakUp 28 = .ok (.iload_n 2, 1) := dk_28 (dk_at dksX0_breakUp_1 4 rfl rfl)
theorem dX0_breakUp_29 : decode cX0_breakUp 29 = .ok (.invokevirtual 85, 3) := dk_182 0 85 (dk_at dksX0_breakUp_1 5 rfl rfl)
theorem dX0_breakUp_32 : decode cX0_breakUp 32 = .ok (.ireturn, 1) := dk_172 (dk_at dksX0_breakUp_1 8 rfl rfl)
theorem dX0_breakUp_33 : decode cX0_breakUp 33 = .ok (.aload_n 0, 1) := dk_42 (dk_at dksX0_breakUp_1 9 rfl rfl)
theorem dX0_breakUp_34 : decode cX0_breakUp 34 = .ok (.getfield 10, 3) := dk_180 0 10 (dk_at dksX0_breakUp_1 10 rfl rfl)
theorem dX0_breakUp_37 : decode cX0_breakUp 37 = .ok (.iload_n 1, 1) := dk_27 (dk_at dksX0_breakUp_1 13 rfl rfl)
theorem dX0_breakUp_38 : decode cX0_breakUp 38 = .ok (.invokevirtual 116, 3) := dk_182 0 116 (dk_at dksX0_breakUp_1 14 rfl rfl)
theorem dX0_breakUp_41 : decode cX0_breakUp 41 = .ok (.bipush 10, 2) := dk_16 10 (dk_at dksX0_breakUp_1 17 rfl rfl)
theorem dX0_breakUp_43 : decode cX0_breakUp 43 = .ok (.aload_n 0, 1) := dk_42 (dk_at dksX0_breakUp_1 19 rfl rfl)
theorem dX0_breakUp_44 : decode cX0_breakUp 44 = .ok (.getfield 10, 3) := dk_180 0 10 (dk_at dksX0_breakUp_1 20 rfl rfl)
theorem dX0_breakUp_47 : decode cX0_breakUp 47 = .ok (.invokevirtual 46, 3) := dk_182 0 46 (dk_at dksX0_breakUp_2 0 rfl rfl)
theorem dX0_breakUp_50 : decode cX0_breakUp 50 = .ok (.iadd, 1) := dk_96 (dk_at dksX0_breakUp_2 3 rfl rfl)
theorem dX0_breakUp_51 : decode cX0_breakUp 51 = .ok (.ireturn, 1) := dk_172 (dk_at dksX0_breakUp_2 4 rfl rfl)
abbrev cX0_append : ByteArray := prog_1_method_12_code
def yX0_append : MethodName := ⟨RX0, "append", "(I)I"⟩
def dkwX0_append_1 : List UInt8 := [160, 0, 6, 16, 253, 172, 42, 180, 0, 26, 27, 146, 182, 0, 122, 87, 42, 180, 0, 26, 182, 0, 119, 172]
abbrev dktX0_append_1 : List UInt8 := dkwX0_append_1 ++ []
def dkwX0_append_0 : List UInt8 := [27, 16, 33, 16, 126, 184, 0, 47, 154, 0, 5, 2, 172, 42, 180, 0, 26, 182, 0, 119, 16, 80]
abbrev dktX0_append_0 : List UInt8 := dkwX0_append_0 ++ dktX0_append_1
theorem dksX0_append_0 : cX0_append.data.toList.drop 0 = dktX0_append_0 := by decide +kernel
theorem dksX0_append_1 : cX0_append.data.toList.drop 22 = dktX0_append_1 := dk_seg dksX0_append_0 22 rfl rfl
theorem dX0_append_0 : decode cX0_append 0 = .ok (.iload_n 1, 1) := dk_27 (dk_at dksX0_append_0 0 rfl rfl)
theorem dX0_append_1 : decode cX0_append 1 = .ok (.bipush 33, 2) := dk_16 33 (dk_at dksX0_append_0 1 rfl rfl)
theorem dX0_append_3 : decode cX0_append 3 = .ok (.bipush 126, 2) := dk_16 126 (dk_at dksX0_append_0 3 rfl rfl)
theorem dX0_append_5 : decode cX0_append 5 = .ok (.invokestatic 47, 3) := dk_184 0 47 (dk_at dksX0_append_0 5 rfl rfl)
theorem dX0_append_8 : decode cX0_append 8 = .ok (.ifCond .ne 5, 3) := dk_154 0 5 (dk_at dksX0_append_0 8 rfl rfl)
theorem dX0_append_11 : decode cX0_append 11 = .ok (.iconst (-1), 1) := dk_2 (dk_at dksX0_append_0 11 rfl rfl)
theorem dX0_append_12 : decode cX0_append 12 = .ok (.ireturn, 1) := dk_172 (dk_at dksX0_append_0 12 rfl rfl)
theorem dX0_append_13 : decode cX0_append 13 = .ok (.aload_n 0, 1) := dk_42 (dk_at dksX0_append_0 13 rfl rfl)
theorem dX0_append_14 : decode cX0_append 14 = .ok (.getfield 26, 3) := dk_180 0 26 (dk_at dksX0_append_0 14 rfl rfl)
theorem dX0_append_17 : decode cX0_append 17 = .ok (.invokevirtual 119, 3) := dk_182 0 119 (dk_at dksX0_append_0 17 rfl rfl)
theorem dX0_append_20 : decode cX0_append 20 = .ok (.bipush 80, 2) := dk_16 80 (dk_at dksX0_append_0 20 rfl rfl)
theorem dX0_append_22 : decode cX0_append 22 = .ok (.if_icmp .ne 6, 3) := dk_160 0 6 (dk_at dksX0_append_1 0 rfl rfl)
theorem dX0_append_25 : decode cX0_append 25 = .ok (.bipush (-3), 2) := dk_16 253 (dk_at dksX0_append_1 3 rfl rfl)
theorem dX0_append_27 : decode cX0_append 27 = .ok (.ireturn, 1) := dk_172 (dk_at dksX0_append_1 5 rfl rfl)
theorem dX0_append_28 : decode cX0_append 28 = .ok (.aload_n 0, 1) := dk_42 (dk_at dksX0_append_1 6 rfl rfl)
theorem dX0_append_29 : decode cX0_append 29 = .ok (.getfield 26, 3) := dk_180 0 26 (dk_at dksX0_append_1 7 rfl rfl)
theorem dX0_append_32 : decode cX0_append 32 = .ok (.iload_n 1, 1) := dk_27 (dk_at dksX0_append_1 10 rfl rfl)
theorem dX0_append_33 : decode cX0_append 33 = .ok (.i2c, 1) := dk_146 (dk_at dksX0_append_1 11 rfl rfl)
theorem dX0_append_34 : decode cX0_append 34 = .ok (.invokevirtual 122, 3) := dk_182 0 122 (dk_at dksX0_append_1 12 rfl rfl)
theorem dX0_append_37 : decode cX0_append 37 = .ok (.pop, 1) := dk_87 (dk_at dksX0_append_1 15 rfl rfl)
theorem dX0_append_38 : decode cX0_append 38 = .ok (.aload_n 0, 1) := dk_42 (dk_at dksX0_append_1 16 rfl rfl)
theorem dX0_append_39 : decode cX0_append 39 = .ok (.getfield 26, 3) := dk_180 0 26 (dk_at dksX0_append_1 17 rfl rfl)
theorem dX0_append_42 : decode cX0_append 42 = .ok (.invokevirtual 119, 3) := dk_182 0 119 (dk_at dksX0_append_1 20 rfl rfl)
theorem dX0_append_45 : decode cX0_append 45 = .ok (.ireturn, 1) := dk_172 (dk_at dksX0_append_1 23 rfl rfl)
abbrev cX0_clear : ByteArray := prog_1_method_13_code
def yX0_clear : MethodName := ⟨RX0, "clear", "()I"⟩
def dkwX0_clear_0 : List UInt8 := [42, 180, 0, 26, 182, 0, 119, 60, 42, 180, 0, 26, 3, 182, 0, 126, 27, 172]
abbrev dktX0_clear_0 : List UInt8 := dkwX0_clear_0 ++ []
theorem dksX0_clear_0 : cX0_clear.data.toList.drop 0 = dktX0_clear_0 := by decide +kernel
theorem dX0_clear_0 : decode cX0_clear 0 = .ok (.aload_n 0, 1) := dk_42 (dk_at dksX0_clear_0 0 rfl rfl)
theorem dX0_clear_1 : decode cX0_clear 1 = .ok (.getfield 26, 3) := dk_180 0 26 (dk_at dksX0_clear_0 1 rfl rfl)
theorem dX0_clear_4 : decode cX0_clear 4 = .ok (.invokevirtual 119, 3) := dk_182 0 119 (dk_at dksX0_clear_0 4 rfl rfl)
theorem dX0_clear_7 : decode cX0_clear 7 = .ok (.istore_n 1, 1) := dk_60 (dk_at dksX0_clear_0 7 rfl rfl)
theorem dX0_clear_8 : decode cX0_clear 8 = .ok (.aload_n 0, 1) := dk_42 (dk_at dksX0_clear_0 8 rfl rfl)
theorem dX0_clear_9 : decode cX0_clear 9 = .ok (.getfield 26, 3) := dk_180 0 26 (dk_at dksX0_clear_0 9 rfl rfl)
theorem dX0_clear_12 : decode cX0_clear 12 = .ok (.iconst 0, 1) := dk_3 (dk_at dksX0_clear_0 12 rfl rfl)
theorem dX0_clear_13 : decode cX0_clear 13 = .ok (.invokevirtual 126, 3) := dk_182 0 126 (dk_at dksX0_clear_0 13 rfl rfl)
theorem dX0_clear_16 : decode cX0_clear 16 = .ok (.iload_n 1, 1) := dk_27 (dk_at dksX0_clear_0 16 rfl rfl)
theorem dX0_clear_17 : decode cX0_clear 17 = .ok (.ireturn, 1) := dk_172 (dk_at dksX0_clear_0 17 rfl rfl)
abbrev cX0_fault : ByteArray := prog_1_method_14_code
def yX0_fault : MethodName := ⟨RX0, "fault", "()I"⟩
def dkwX0_fault_0 : List UInt8 := [187, 0, 129, 89, 42, 180, 0, 26, 3, 183, 0, 131, 182, 0, 134, 172]
abbrev dktX0_fault_0 : List UInt8 := dkwX0_fault_0 ++ []
theorem dksX0_fault_0 : cX0_fault.data.toList.drop 0 = dktX0_fault_0 := by decide +kernel
theorem dX0_fault_0 : decode cX0_fault 0 = .ok (.new 129, 3) := dk_187 0 129 (dk_at dksX0_fault_0 0 rfl rfl)
theorem dX0_fault_3 : decode cX0_fault 3 = .ok (.dup, 1) := dk_89 (dk_at dksX0_fault_0 3 rfl rfl)
theorem dX0_fault_4 : decode cX0_fault 4 = .ok (.aload_n 0, 1) := dk_42 (dk_at dksX0_fault_0 4 rfl rfl)
theorem dX0_fault_5 : decode cX0_fault 5 = .ok (.getfield 26, 3) := dk_180 0 26 (dk_at dksX0_fault_0 5 rfl rfl)
theorem dX0_fault_8 : decode cX0_fault 8 = .ok (.iconst 0, 1) := dk_3 (dk_at dksX0_fault_0 8 rfl rfl)
theorem dX0_fault_9 : decode cX0_fault 9 = .ok (.invokespecial 131, 3) := dk_183 0 131 (dk_at dksX0_fault_0 9 rfl rfl)
theorem dX0_fault_12 : decode cX0_fault 12 = .ok (.invokevirtual 134, 3) := dk_182 0 134 (dk_at dksX0_fault_0 12 rfl rfl)
theorem dX0_fault_15 : decode cX0_fault 15 = .ok (.ireturn, 1) := dk_172 (dk_at dksX0_fault_0 15 rfl rfl)
abbrev cX0_load : ByteArray := prog_1_method_16_code
def yX0_load : MethodName := ⟨RX0, "load", "()I"⟩
def dkwX0_load_4 : List UInt8 := [182, 0, 126, 42, 180, 0, 10, 182, 0, 46, 172]
abbrev dktX0_load_4 : List UInt8 := dkwX0_load_4 ++ []
def dkwX0_load_3 : List UInt8 := [182, 0, 55, 42, 180, 0, 10, 180, 0, 58, 43, 180, 0, 167, 182, 0, 173, 87, 42, 180, 0, 26, 3]
abbrev dktX0_load_3 : List UInt8 := dkwX0_load_3 ++ dktX0_load_4
def dkwX0_load_2 : List UInt8 := [180, 0, 10, 182, 0, 46, 43, 180, 0, 167, 182, 0, 172, 96, 16, 12, 164, 0, 6, 16, 253, 172, 42]
abbrev dktX0_load_2 : List UInt8 := dkwX0_load_2 ++ dktX0_load_3
def dkwX0_load_1 : List UInt8 := [156, 0, 20, 43, 180, 0, 167, 42, 180, 0, 10, 182, 0, 46, 184, 0, 168, 154, 0, 6, 16, 254, 172, 42]
abbrev dktX0_load_1 : List UInt8 := dkwX0_load_1 ++ dktX0_load_2
def dkwX0_load_0 : List UInt8 := [187, 0, 129, 89, 42, 180, 0, 26, 42, 180, 0, 10, 182, 0, 46, 183, 0, 131, 76, 43, 182, 0, 134]
abbrev dktX0_load_0 : List UInt8 := dkwX0_load_0 ++ dktX0_load_1
theorem dksX0_load_0 : cX0_load.data.toList.drop 0 = dktX0_load_0 := by decide +kernel
theorem dksX0_load_1 : cX0_load.data.toList.drop 23 = dktX0_load_1 := dk_seg dksX0_load_0 23 rfl rfl
theorem dksX0_load_2 : cX0_load.data.toList.drop 47 = dktX0_load_2 := dk_seg dksX0_load_1 24 rfl rfl
theorem dksX0_load_3 : cX0_load.data.toList.drop 70 = dktX0_load_3 := dk_seg dksX0_load_2 23 rfl rfl
theorem dksX0_load_4 : cX0_load.data.toList.drop 93 = dktX0_load_4 := dk_seg dksX0_load_3 23 rfl rfl
theorem dX0_load_0 : decode cX0_load 0 = .ok (.new 129, 3) := dk_187 0 129 (dk_at dksX0_load_0 0 rfl rfl)
theorem dX0_load_3 : decode cX0_load 3 = .ok (.dup, 1) := dk_89 (dk_at dksX0_load_0 3 rfl rfl)
theorem dX0_load_4 : decode cX0_load 4 = .ok (.aload_n 0, 1) := dk_42 (dk_at dksX0_load_0 4 rfl rfl)
theorem dX0_load_5 : decode cX0_load 5 = .ok (.getfield 26, 3) := dk_180 0 26 (dk_at dksX0_load_0 5 rfl rfl)
theorem dX0_load_8 : decode cX0_load 8 = .ok (.aload_n 0, 1) := dk_42 (dk_at dksX0_load_0 8 rfl rfl)
theorem dX0_load_9 : decode cX0_load 9 = .ok (.getfield 10, 3) := dk_180 0 10 (dk_at dksX0_load_0 9 rfl rfl)
theorem dX0_load_12 : decode cX0_load 12 = .ok (.invokevirtual 46, 3) := dk_182 0 46 (dk_at dksX0_load_0 12 rfl rfl)
theorem dX0_load_15 : decode cX0_load 15 = .ok (.invokespecial 131, 3) := dk_183 0 131 (dk_at dksX0_load_0 15 rfl rfl)
theorem dX0_load_18 : decode cX0_load 18 = .ok (.astore_n 1, 1) := dk_76 (dk_at dksX0_load_0 18 rfl rfl)
theorem dX0_load_19 : decode cX0_load 19 = .ok (.aload_n 1, 1) := dk_43 (dk_at dksX0_load_0 19 rfl rfl)
theorem dX0_load_20 : decode cX0_load 20 = .ok (.invokevirtual 134, 3) := dk_182 0 134 (dk_at dksX0_load_0 20 rfl rfl)
theorem dX0_load_23 : decode cX0_load 23 = .ok (.ifCond .ge 20, 3) := dk_156 0 20 (dk_at dksX0_load_1 0 rfl rfl)
theorem dX0_load_26 : decode cX0_load 26 = .ok (.aload_n 1, 1) := dk_43 (dk_at dksX0_load_1 3 rfl rfl)
theorem dX0_load_27 : decode cX0_load 27 = .ok (.getfield 167, 3) := dk_180 0 167 (dk_at dksX0_load_1 4 rfl rfl)
theorem dX0_load_30 : decode cX0_load 30 = .ok (.aload_n 0, 1) := dk_42 (dk_at dksX0_load_1 7 rfl rfl)
theorem dX0_load_31 : decode cX0_load 31 = .ok (.getfield 10, 3) := dk_180 0 10 (dk_at dksX0_load_1 8 rfl rfl)
theorem dX0_load_34 : decode cX0_load 34 = .ok (.invokevirtual 46, 3) := dk_182 0 46 (dk_at dksX0_load_1 11 rfl rfl)
theorem dX0_load_37 : decode cX0_load 37 = .ok (.invokestatic 168, 3) := dk_184 0 168 (dk_at dksX0_load_1 14 rfl rfl)
theorem dX0_load_40 : decode cX0_load 40 = .ok (.ifCond .ne 6, 3) := dk_154 0 6 (dk_at dksX0_load_1 17 rfl rfl)
theorem dX0_load_43 : decode cX0_load 43 = .ok (.bipush (-2), 2) := dk_16 254 (dk_at dksX0_load_1 20 rfl rfl)
theorem dX0_load_45 : decode cX0_load 45 = .ok (.ireturn, 1) := dk_172 (dk_at dksX0_load_1 22 rfl rfl)
theorem dX0_load_46 : decode cX0_load 46 = .ok (.aload_n 0, 1) := dk_42 (dk_at dksX0_load_1 23 rfl rfl)
theorem dX0_load_47 : decode cX0_load 47 = .ok (.getfield 10, 3) := dk_180 0 10 (dk_at dksX0_load_2 0 rfl rfl)
theorem dX0_load_50 : decode cX0_load 50 = .ok (.invokevirtual 46, 3) := dk_182 0 46 (dk_at dksX0_load_2 3 rfl rfl)
theorem dX0_load_53 : decode cX0_load 53 = .ok (.aload_n 1, 1) := dk_43 (dk_at dksX0_load_2 6 rfl rfl)
theorem dX0_load_54 : decode cX0_load 54 = .ok (.getfield 167, 3) := dk_180 0 167 (dk_at dksX0_load_2 7 rfl rfl)
theorem dX0_load_57 : decode cX0_load 57 = .ok (.invokevirtual 172, 3) := dk_182 0 172 (dk_at dksX0_load_2 10 rfl rfl)
theorem dX0_load_60 : decode cX0_load 60 = .ok (.iadd, 1) := dk_96 (dk_at dksX0_load_2 13 rfl rfl)
theorem dX0_load_61 : decode cX0_load 61 = .ok (.bipush 12, 2) := dk_16 12 (dk_at dksX0_load_2 14 rfl rfl)
theorem dX0_load_63 : decode cX0_load 63 = .ok (.if_icmp .le 6, 3) := dk_164 0 6 (dk_at dksX0_load_2 16 rfl rfl)
theorem dX0_load_66 : decode cX0_load 66 = .ok (.bipush (-3), 2) := dk_16 253 (dk_at dksX0_load_2 19 rfl rfl)
theorem dX0_load_68 : decode cX0_load 68 = .ok (.ireturn, 1) := dk_172 (dk_at dksX0_load_2 21 rfl rfl)
theorem dX0_load_69 : decode cX0_load 69 = .ok (.aload_n 0, 1) := dk_42 (dk_at dksX0_load_2 22 rfl rfl)
theorem dX0_load_70 : decode cX0_load 70 = .ok (.invokevirtual 55, 3) := dk_182 0 55 (dk_at dksX0_load_3 0 rfl rfl)
theorem dX0_load_73 : decode cX0_load 73 = .ok (.aload_n 0, 1) := dk_42 (dk_at dksX0_load_3 3 rfl rfl)
theorem dX0_load_74 : decode cX0_load 74 = .ok (.getfield 10, 3) := dk_180 0 10 (dk_at dksX0_load_3 4 rfl rfl)
theorem dX0_load_77 : decode cX0_load 77 = .ok (.getfield 58, 3) := dk_180 0 58 (dk_at dksX0_load_3 7 rfl rfl)
theorem dX0_load_80 : decode cX0_load 80 = .ok (.aload_n 1, 1) := dk_43 (dk_at dksX0_load_3 10 rfl rfl)
theorem dX0_load_81 : decode cX0_load 81 = .ok (.getfield 167, 3) := dk_180 0 167 (dk_at dksX0_load_3 11 rfl rfl)
theorem dX0_load_84 : decode cX0_load 84 = .ok (.invokevirtual 173, 3) := dk_182 0 173 (dk_at dksX0_load_3 14 rfl rfl)
theorem dX0_load_87 : decode cX0_load 87 = .ok (.pop, 1) := dk_87 (dk_at dksX0_load_3 17 rfl rfl)
theorem dX0_load_88 : decode cX0_load 88 = .ok (.aload_n 0, 1) := dk_42 (dk_at dksX0_load_3 18 rfl rfl)
theorem dX0_load_89 : decode cX0_load 89 = .ok (.getfield 26, 3) := dk_180 0 26 (dk_at dksX0_load_3 19 rfl rfl)
theorem dX0_load_92 : decode cX0_load 92 = .ok (.iconst 0, 1) := dk_3 (dk_at dksX0_load_3 22 rfl rfl)
theorem dX0_load_93 : decode cX0_load 93 = .ok (.invokevirtual 126, 3) := dk_182 0 126 (dk_at dksX0_load_4 0 rfl rfl)
theorem dX0_load_96 : decode cX0_load 96 = .ok (.aload_n 0, 1) := dk_42 (dk_at dksX0_load_4 3 rfl rfl)
theorem dX0_load_97 : decode cX0_load 97 = .ok (.getfield 10, 3) := dk_180 0 10 (dk_at dksX0_load_4 4 rfl rfl)
theorem dX0_load_100 : decode cX0_load 100 = .ok (.invokevirtual 46, 3) := dk_182 0 46 (dk_at dksX0_load_4 7 rfl rfl)
theorem dX0_load_103 : decode cX0_load 103 = .ok (.ireturn, 1) := dk_172 (dk_at dksX0_load_4 10 rfl rfl)
abbrev cX0_canStand : ByteArray := prog_1_method_15_code
def yX0_canStand : MethodName := ⟨RX0, "canStand", "(Ljava/util/ArrayList;I)Z"⟩
def dkwX0_canStand_4 : List UInt8 := [21, 4, 45, 180, 0, 164, 164, 0, 5, 3, 172, 167, 255, 156, 4, 172]
abbrev dktX0_canStand_4 : List UInt8 := dkwX0_canStand_4 ++ []
def dkwX0_canStand_3 : List UInt8 := [192, 0, 62, 180, 0, 162, 96, 54, 4, 167, 255, 212, 45, 180, 0, 164, 45, 180, 0, 162, 162, 0, 12]
abbrev dktX0_canStand_3 : List UInt8 := dkwX0_canStand_3 ++ dktX0_canStand_4
def dkwX0_canStand_2 : List UInt8 := [185, 0, 147, 1, 0, 192, 0, 153, 182, 0, 155, 54, 6, 21, 4, 42, 21, 6, 27, 100, 182, 0, 158]
abbrev dktX0_canStand_2 : List UInt8 := dkwX0_canStand_2 ++ dktX0_canStand_3
def dkwX0_canStand_1 : List UInt8 := [3, 54, 4, 45, 180, 0, 150, 182, 0, 137, 58, 5, 25, 5, 185, 0, 141, 1, 0, 153, 0, 40, 25, 5]
abbrev dktX0_canStand_1 : List UInt8 := dkwX0_canStand_1 ++ dktX0_canStand_2
def dkwX0_canStand_0 : List UInt8 := [42, 182, 0, 137, 77, 44, 185, 0, 141, 1, 0, 153, 0, 97, 44, 185, 0, 147, 1, 0, 192, 0, 62, 78]
abbrev dktX0_canStand_0 : List UInt8 := dkwX0_canStand_0 ++ dktX0_canStand_1
theorem dksX0_canStand_0 : cX0_canStand.data.toList.drop 0 = dktX0_canStand_0 := by decide +kernel
theorem dksX0_canStand_1 : cX0_canStand.data.toList.drop 24 = dktX0_canStand_1 := dk_seg dksX0_canStand_0 24 rfl rfl
theorem dksX0_canStand_2 : cX0_canStand.data.toList.drop 48 = dktX0_canStand_2 := dk_seg dksX0_canStand_1 24 rfl rfl
theorem dksX0_canStand_3 : cX0_canStand.data.toList.drop 71 = dktX0_canStand_3 := dk_seg dksX0_canStand_2 23 rfl rfl
theorem dksX0_canStand_4 : cX0_canStand.data.toList.drop 94 = dktX0_canStand_4 := dk_seg dksX0_canStand_3 23 rfl rfl
theorem dX0_canStand_0 : decode cX0_canStand 0 = .ok (.aload_n 0, 1) := dk_42 (dk_at dksX0_canStand_0 0 rfl rfl)
theorem dX0_canStand_1 : decode cX0_canStand 1 = .ok (.invokevirtual 137, 3) := dk_182 0 137 (dk_at dksX0_canStand_0 1 rfl rfl)
theorem dX0_canStand_4 : decode cX0_canStand 4 = .ok (.astore_n 2, 1) := dk_77 (dk_at dksX0_canStand_0 4 rfl rfl)
theorem dX0_canStand_5 : decode cX0_canStand 5 = .ok (.aload_n 2, 1) := dk_44 (dk_at dksX0_canStand_0 5 rfl rfl)
theorem dX0_canStand_6 : decode cX0_canStand 6 = .ok (.invokeinterface 141 1, 5) := by decide +kernel
theorem dX0_canStand_11 : decode cX0_canStand 11 = .ok (.ifCond .eq 97, 3) := dk_153 0 97 (dk_at dksX0_canStand_0 11 rfl rfl)
theorem dX0_canStand_14 : decode cX0_canStand 14 = .ok (.aload_n 2, 1) := dk_44 (dk_at dksX0_canStand_0 14 rfl rfl)
theorem dX0_canStand_15 : decode cX0_canStand 15 = .ok (.invokeinterface 147 1, 5) := by decide +kernel
theorem dX0_canStand_20 : decode cX0_canStand 20 = .ok (.checkcast 62, 3) := dk_192 0 62 (dk_at dksX0_canStand_0 20 rfl rfl)
theorem dX0_canStand_23 : decode cX0_canStand 23 = .ok (.astore_n 3, 1) := dk_78 (dk_at dksX0_canStand_0 23 rfl rfl)
theorem dX0_canStand_24 : decode cX0_canStand 24 = .ok (.iconst 0, 1) := dk_3 (dk_at dksX0_canStand_1 0 rfl rfl)
theorem dX0_canStand_25 : decode cX0_canStand 25 = .ok (.istore 4, 2) := dk_54 4 (dk_at dksX0_canStand_1 1 rfl rfl)
theorem dX0_canStand_27 : decode cX0_canStand 27 = .ok (.aload_n 3, 1) := dk_45 (dk_at dksX0_canStand_1 3 rfl rfl)
theorem dX0_canStand_28 : decode cX0_canStand 28 = .ok (.getfield 150, 3) := dk_180 0 150 (dk_at dksX0_canStand_1 4 rfl rfl)
theorem dX0_canStand_31 : decode cX0_canStand 31 = .ok (.invokevirtual 137, 3) := dk_182 0 137 (dk_at dksX0_canStand_1 7 rfl rfl)
theorem dX0_canStand_34 : decode cX0_canStand 34 = .ok (.astore 5, 2) := dk_58 5 (dk_at dksX0_canStand_1 10 rfl rfl)
theorem dX0_canStand_36 : decode cX0_canStand 36 = .ok (.aload 5, 2) := dk_25 5 (dk_at dksX0_canStand_1 12 rfl rfl)
theorem dX0_canStand_38 : decode cX0_canStand 38 = .ok (.invokeinterface 141 1, 5) := by decide +kernel
theorem dX0_canStand_43 : decode cX0_canStand 43 = .ok (.ifCond .eq 40, 3) := dk_153 0 40 (dk_at dksX0_canStand_1 19 rfl rfl)
theorem dX0_canStand_46 : decode cX0_canStand 46 = .ok (.aload 5, 2) := dk_25 5 (dk_at dksX0_canStand_1 22 rfl rfl)
theorem dX0_canStand_48 : decode cX0_canStand 48 = .ok (.invokeinterface 147 1, 5) := by decide +kernel
theorem dX0_canStand_53 : decode cX0_canStand 53 = .ok (.checkcast 153, 3) := dk_192 0 153 (dk_at dksX0_canStand_2 5 rfl rfl)
theorem dX0_canStand_56 : decode cX0_canStand 56 = .ok (.invokevirtual 155, 3) := dk_182 0 155 (dk_at dksX0_canStand_2 8 rfl rfl)
theorem dX0_canStand_59 : decode cX0_canStand 59 = .ok (.istore 6, 2) := dk_54 6 (dk_at dksX0_canStand_2 11 rfl rfl)
theorem dX0_canStand_61 : decode cX0_canStand 61 = .ok (.iload 4, 2) := dk_21 4 (dk_at dksX0_canStand_2 13 rfl rfl)
theorem dX0_canStand_63 : decode cX0_canStand 63 = .ok (.aload_n 0, 1) := dk_42 (dk_at dksX0_canStand_2 15 rfl rfl)
theorem dX0_canStand_64 : decode cX0_canStand 64 = .ok (.iload 6, 2) := dk_21 6 (dk_at dksX0_canStand_2 16 rfl rfl)
theorem dX0_canStand_66 : decode cX0_canStand 66 = .ok (.iload_n 1, 1) := dk_27 (dk_at dksX0_canStand_2 18 rfl rfl)
theorem dX0_canStand_67 : decode cX0_canStand 67 = .ok (.isub, 1) := dk_100 (dk_at dksX0_canStand_2 19 rfl rfl)
theorem dX0_canStand_68 : decode cX0_canStand 68 = .ok (.invokevirtual 158, 3) := dk_182 0 158 (dk_at dksX0_canStand_2 20 rfl rfl)
theorem dX0_canStand_71 : decode cX0_canStand 71 = .ok (.checkcast 62, 3) := dk_192 0 62 (dk_at dksX0_canStand_3 0 rfl rfl)
theorem dX0_canStand_74 : decode cX0_canStand 74 = .ok (.getfield 162, 3) := dk_180 0 162 (dk_at dksX0_canStand_3 3 rfl rfl)
theorem dX0_canStand_77 : decode cX0_canStand 77 = .ok (.iadd, 1) := dk_96 (dk_at dksX0_canStand_3 6 rfl rfl)
theorem dX0_canStand_78 : decode cX0_canStand 78 = .ok (.istore 4, 2) := dk_54 4 (dk_at dksX0_canStand_3 7 rfl rfl)
theorem dX0_canStand_80 : decode cX0_canStand 80 = .ok (.goto (-44), 3) := dk_167 255 212 (dk_at dksX0_canStand_3 9 rfl rfl)
theorem dX0_canStand_83 : decode cX0_canStand 83 = .ok (.aload_n 3, 1) := dk_45 (dk_at dksX0_canStand_3 12 rfl rfl)
theorem dX0_canStand_84 : decode cX0_canStand 84 = .ok (.getfield 164, 3) := dk_180 0 164 (dk_at dksX0_canStand_3 13 rfl rfl)
theorem dX0_canStand_87 : decode cX0_canStand 87 = .ok (.aload_n 3, 1) := dk_45 (dk_at dksX0_canStand_3 16 rfl rfl)
theorem dX0_canStand_88 : decode cX0_canStand 88 = .ok (.getfield 162, 3) := dk_180 0 162 (dk_at dksX0_canStand_3 17 rfl rfl)
theorem dX0_canStand_91 : decode cX0_canStand 91 = .ok (.if_icmp .ge 12, 3) := dk_162 0 12 (dk_at dksX0_canStand_3 20 rfl rfl)
theorem dX0_canStand_94 : decode cX0_canStand 94 = .ok (.iload 4, 2) := dk_21 4 (dk_at dksX0_canStand_4 0 rfl rfl)
theorem dX0_canStand_96 : decode cX0_canStand 96 = .ok (.aload_n 3, 1) := dk_45 (dk_at dksX0_canStand_4 2 rfl rfl)
theorem dX0_canStand_97 : decode cX0_canStand 97 = .ok (.getfield 164, 3) := dk_180 0 164 (dk_at dksX0_canStand_4 3 rfl rfl)
theorem dX0_canStand_100 : decode cX0_canStand 100 = .ok (.if_icmp .le 5, 3) := dk_164 0 5 (dk_at dksX0_canStand_4 6 rfl rfl)
theorem dX0_canStand_103 : decode cX0_canStand 103 = .ok (.iconst 0, 1) := dk_3 (dk_at dksX0_canStand_4 9 rfl rfl)
theorem dX0_canStand_104 : decode cX0_canStand 104 = .ok (.ireturn, 1) := dk_172 (dk_at dksX0_canStand_4 10 rfl rfl)
theorem dX0_canStand_105 : decode cX0_canStand 105 = .ok (.goto (-100), 3) := dk_167 255 156 (dk_at dksX0_canStand_4 11 rfl rfl)
theorem dX0_canStand_108 : decode cX0_canStand 108 = .ok (.iconst 1, 1) := dk_4 (dk_at dksX0_canStand_4 14 rfl rfl)
theorem dX0_canStand_109 : decode cX0_canStand 109 = .ok (.ireturn, 1) := dk_172 (dk_at dksX0_canStand_4 15 rfl rfl)
abbrev cX0_sign : ByteArray := prog_1_method_17_code
def yX0_sign : MethodName := ⟨RX0, "sign", "(II)I"⟩
def dkwX0_sign_2 : List UInt8 := [16, 252, 172]
abbrev dktX0_sign_2 : List UInt8 := dkwX0_sign_2 ++ []
def dkwX0_sign_1 : List UInt8 := [180, 0, 10, 27, 45, 182, 0, 177, 28, 45, 182, 0, 119, 162, 0, 11, 45, 28, 182, 0, 181, 167, 0, 5]
abbrev dktX0_sign_1 : List UInt8 := dkwX0_sign_1 ++ dktX0_sign_2
def dkwX0_sign_0 : List UInt8 := [42, 27, 182, 0, 77, 153, 0, 7, 28, 156, 0, 5, 2, 172, 187, 0, 23, 89, 183, 0, 25, 78, 42]
abbrev dktX0_sign_0 : List UInt8 := dkwX0_sign_0 ++ dktX0_sign_1
theorem dksX0_sign_0 : cX0_sign.data.toList.drop 0 = dktX0_sign_0 := by decide +kernel
theorem dksX0_sign_1 : cX0_sign.data.toList.drop 23 = dktX0_sign_1 := dk_seg dksX0_sign_0 23 rfl rfl
theorem dksX0_sign_2 : cX0_sign.data.toList.drop 47 = dktX0_sign_2 := dk_seg dksX0_sign_1 24 rfl rfl
theorem dX0_sign_0 : decode cX0_sign 0 = .ok (.aload_n 0, 1) := dk_42 (dk_at dksX0_sign_0 0 rfl rfl)
theorem dX0_sign_1 : decode cX0_sign 1 = .ok (.iload_n 1, 1) := dk_27 (dk_at dksX0_sign_0 1 rfl rfl)
theorem dX0_sign_2 : decode cX0_sign 2 = .ok (.invokevirtual 77, 3) := dk_182 0 77 (dk_at dksX0_sign_0 2 rfl rfl)
theorem dX0_sign_5 : decode cX0_sign 5 = .ok (.ifCond .eq 7, 3) := dk_153 0 7 (dk_at dksX0_sign_0 5 rfl rfl)
theorem dX0_sign_8 : decode cX0_sign 8 = .ok (.iload_n 2, 1) := dk_28 (dk_at dksX0_sign_0 8 rfl rfl)
theorem dX0_sign_9 : decode cX0_sign 9 = .ok (.ifCond .ge 5, 3) := dk_156 0 5 (dk_at dksX0_sign_0 9 rfl rfl)
theorem dX0_sign_12 : decode cX0_sign 12 = .ok (.iconst (-1), 1) := dk_2 (dk_at dksX0_sign_0 12 rfl rfl)
theorem dX0_sign_13 : decode cX0_sign 13 = .ok (.ireturn, 1) := dk_172 (dk_at dksX0_sign_0 13 rfl rfl)
theorem dX0_sign_14 : decode cX0_sign 14 = .ok (.new 23, 3) := dk_187 0 23 (dk_at dksX0_sign_0 14 rfl rfl)
theorem dX0_sign_17 : decode cX0_sign 17 = .ok (.dup, 1) := dk_89 (dk_at dksX0_sign_0 17 rfl rfl)
theorem dX0_sign_18 : decode cX0_sign 18 = .ok (.invokespecial 25, 3) := dk_183 0 25 (dk_at dksX0_sign_0 18 rfl rfl)
theorem dX0_sign_21 : decode cX0_sign 21 = .ok (.astore_n 3, 1) := dk_78 (dk_at dksX0_sign_0 21 rfl rfl)
theorem dX0_sign_22 : decode cX0_sign 22 = .ok (.aload_n 0, 1) := dk_42 (dk_at dksX0_sign_0 22 rfl rfl)
theorem dX0_sign_23 : decode cX0_sign 23 = .ok (.getfield 10, 3) := dk_180 0 10 (dk_at dksX0_sign_1 0 rfl rfl)
theorem dX0_sign_26 : decode cX0_sign 26 = .ok (.iload_n 1, 1) := dk_27 (dk_at dksX0_sign_1 3 rfl rfl)
theorem dX0_sign_27 : decode cX0_sign 27 = .ok (.aload_n 3, 1) := dk_45 (dk_at dksX0_sign_1 4 rfl rfl)
theorem dX0_sign_28 : decode cX0_sign 28 = .ok (.invokevirtual 177, 3) := dk_182 0 177 (dk_at dksX0_sign_1 5 rfl rfl)
theorem dX0_sign_31 : decode cX0_sign 31 = .ok (.iload_n 2, 1) := dk_28 (dk_at dksX0_sign_1 8 rfl rfl)
theorem dX0_sign_32 : decode cX0_sign 32 = .ok (.aload_n 3, 1) := dk_45 (dk_at dksX0_sign_1 9 rfl rfl)
theorem dX0_sign_33 : decode cX0_sign 33 = .ok (.invokevirtual 119, 3) := dk_182 0 119 (dk_at dksX0_sign_1 10 rfl rfl)
theorem dX0_sign_36 : decode cX0_sign 36 = .ok (.if_icmp .ge 11, 3) := dk_162 0 11 (dk_at dksX0_sign_1 13 rfl rfl)
theorem dX0_sign_39 : decode cX0_sign 39 = .ok (.aload_n 3, 1) := dk_45 (dk_at dksX0_sign_1 16 rfl rfl)
theorem dX0_sign_40 : decode cX0_sign 40 = .ok (.iload_n 2, 1) := dk_28 (dk_at dksX0_sign_1 17 rfl rfl)
theorem dX0_sign_41 : decode cX0_sign 41 = .ok (.invokevirtual 181, 3) := dk_182 0 181 (dk_at dksX0_sign_1 18 rfl rfl)
theorem dX0_sign_44 : decode cX0_sign 44 = .ok (.goto 5, 3) := dk_167 0 5 (dk_at dksX0_sign_1 21 rfl rfl)
theorem dX0_sign_47 : decode cX0_sign 47 = .ok (.bipush (-4), 2) := dk_16 252 (dk_at dksX0_sign_2 0 rfl rfl)
theorem dX0_sign_49 : decode cX0_sign 49 = .ok (.ireturn, 1) := dk_172 (dk_at dksX0_sign_2 2 rfl rfl)
abbrev cX0_crate : ByteArray := prog_1_method_18_code
def yX0_crate : MethodName := ⟨RX0, "crate", "(II)I"⟩
def dkwX0_crate_8 : List UInt8 := [182, 0, 96, 172, 2, 172]
abbrev dktX0_crate_8 : List UInt8 := dkwX0_crate_8 ++ []
def dkwX0_crate_7 : List UInt8 := [180, 0, 10, 27, 182, 0, 210, 172, 42, 180, 0, 10, 27, 182, 0, 213, 172, 42, 180, 0, 10, 27]
abbrev dktX0_crate_7 : List UInt8 := dkwX0_crate_7 ++ dktX0_crate_8
def dkwX0_crate_6 : List UInt8 := [182, 0, 204, 172, 42, 180, 0, 10, 27, 182, 0, 207, 153, 0, 7, 4, 167, 0, 4, 3, 172, 42]
abbrev dktX0_crate_6 : List UInt8 := dkwX0_crate_6 ++ dktX0_crate_7
def dkwX0_crate_5 : List UInt8 := [180, 0, 10, 27, 182, 0, 198, 172, 42, 180, 0, 10, 27, 182, 0, 201, 172, 42, 180, 0, 10, 27]
abbrev dktX0_crate_5 : List UInt8 := dkwX0_crate_5 ++ dktX0_crate_6
def dkwX0_crate_4 : List UInt8 := [27, 182, 0, 93, 172, 45, 180, 0, 150, 182, 0, 172, 172, 42, 180, 0, 10, 27, 182, 0, 195, 172, 42]
abbrev dktX0_crate_4 : List UInt8 := dkwX0_crate_4 ++ dktX0_crate_5
def dkwX0_crate_3 : List UInt8 := [180, 0, 10, 27, 182, 0, 189, 153, 0, 8, 16, 252, 167, 0, 7, 45, 180, 0, 192, 172, 42, 180, 0, 10]
abbrev dktX0_crate_3 : List UInt8 := dkwX0_crate_3 ++ dktX0_crate_4
def dkwX0_crate_2 : List UInt8 := [45, 180, 0, 162, 172, 45, 180, 0, 164, 172, 45, 180, 0, 110, 172, 45, 180, 0, 185, 190, 172, 42]
abbrev dktX0_crate_2 : List UInt8 := dkwX0_crate_2 ++ dktX0_crate_3
def dkwX0_crate_1 : List UInt8 := [170, 0, 0, 0, 0, 0, 0, 215, 0, 0, 0, 0, 0, 0, 0, 14, 0, 0, 0, 76, 0, 0, 0, 81, 0, 0, 0, 86, 0, 0, 0, 91, 0, 0, 0, 97, 0, 0, 0, 118, 0, 0, 0, 127, 0, 0, 0, 135, 0, 0, 0, 144, 0, 0, 0, 153, 0, 0, 0, 162, 0, 0, 0, 171, 0, 0, 0, 188, 0, 0, 0, 197, 0, 0, 0, 206]
abbrev dktX0_crate_1 : List UInt8 := dkwX0_crate_1 ++ dktX0_crate_2
def dkwX0_crate_0 : List UInt8 := [42, 27, 182, 0, 77, 154, 0, 5, 2, 172, 42, 180, 0, 10, 27, 182, 0, 103, 78, 28]
abbrev dktX0_crate_0 : List UInt8 := dkwX0_crate_0 ++ dktX0_crate_1
theorem dksX0_crate_0 : cX0_crate.data.toList.drop 0 = dktX0_crate_0 := by decide +kernel
theorem dksX0_crate_1 : cX0_crate.data.toList.drop 20 = dktX0_crate_1 := dk_seg dksX0_crate_0 20 rfl rfl
theorem dksX0_crate_2 : cX0_crate.data.toList.drop 96 = dktX0_crate_2 := dk_seg dksX0_crate_1 76 rfl rfl
theorem dksX0_crate_3 : cX0_crate.data.toList.drop 118 = dktX0_crate_3 := dk_seg dksX0_crate_2 22 rfl rfl
theorem dksX0_crate_4 : cX0_crate.data.toList.drop 142 = dktX0_crate_4 := dk_seg dksX0_crate_3 24 rfl rfl
theorem dksX0_crate_5 : cX0_crate.data.toList.drop 165 = dktX0_crate_5 := dk_seg dksX0_crate_4 23 rfl rfl
theorem dksX0_crate_6 : cX0_crate.data.toList.drop 187 = dktX0_crate_6 := dk_seg dksX0_crate_5 22 rfl rfl
theorem dksX0_crate_7 : cX0_crate.data.toList.drop 209 = dktX0_crate_7 := dk_seg dksX0_crate_6 22 rfl rfl
theorem dksX0_crate_8 : cX0_crate.data.toList.drop 231 = dktX0_crate_8 := dk_seg dksX0_crate_7 22 rfl rfl
theorem dX0_crate_0 : decode cX0_crate 0 = .ok (.aload_n 0, 1) := dk_42 (dk_at dksX0_crate_0 0 rfl rfl)
theorem dX0_crate_1 : decode cX0_crate 1 = .ok (.iload_n 1, 1) := dk_27 (dk_at dksX0_crate_0 1 rfl rfl)
theorem dX0_crate_2 : decode cX0_crate 2 = .ok (.invokevirtual 77, 3) := dk_182 0 77 (dk_at dksX0_crate_0 2 rfl rfl)
theorem dX0_crate_5 : decode cX0_crate 5 = .ok (.ifCond .ne 5, 3) := dk_154 0 5 (dk_at dksX0_crate_0 5 rfl rfl)
theorem dX0_crate_8 : decode cX0_crate 8 = .ok (.iconst (-1), 1) := dk_2 (dk_at dksX0_crate_0 8 rfl rfl)
theorem dX0_crate_9 : decode cX0_crate 9 = .ok (.ireturn, 1) := dk_172 (dk_at dksX0_crate_0 9 rfl rfl)
theorem dX0_crate_10 : decode cX0_crate 10 = .ok (.aload_n 0, 1) := dk_42 (dk_at dksX0_crate_0 10 rfl rfl)
theorem dX0_crate_11 : decode cX0_crate 11 = .ok (.getfield 10, 3) := dk_180 0 10 (dk_at dksX0_crate_0 11 rfl rfl)
theorem dX0_crate_14 : decode cX0_crate 14 = .ok (.iload_n 1, 1) := dk_27 (dk_at dksX0_crate_0 14 rfl rfl)
theorem dX0_crate_15 : decode cX0_crate 15 = .ok (.invokevirtual 103, 3) := dk_182 0 103 (dk_at dksX0_crate_0 15 rfl rfl)
theorem dX0_crate_18 : decode cX0_crate 18 = .ok (.astore_n 3, 1) := dk_78 (dk_at dksX0_crate_0 18 rfl rfl)
theorem dX0_crate_19 : decode cX0_crate 19 = .ok (.iload_n 2, 1) := dk_28 (dk_at dksX0_crate_0 19 rfl rfl)
theorem dX0_crate_20 : decode cX0_crate 20 = .ok (.tableswitch 215 0 14 #[76, 81, 86, 91, 97, 118, 127, 135, 144, 153, 162, 171, 188, 197, 206], 76) := by decide +kernel
theorem dX0_crate_96 : decode cX0_crate 96 = .ok (.aload_n 3, 1) := dk_45 (dk_at dksX0_crate_2 0 rfl rfl)
theorem dX0_crate_97 : decode cX0_crate 97 = .ok (.getfield 162, 3) := dk_180 0 162 (dk_at dksX0_crate_2 1 rfl rfl)
theorem dX0_crate_100 : decode cX0_crate 100 = .ok (.ireturn, 1) := dk_172 (dk_at dksX0_crate_2 4 rfl rfl)
theorem dX0_crate_101 : decode cX0_crate 101 = .ok (.aload_n 3, 1) := dk_45 (dk_at dksX0_crate_2 5 rfl rfl)
theorem dX0_crate_102 : decode cX0_crate 102 = .ok (.getfield 164, 3) := dk_180 0 164 (dk_at dksX0_crate_2 6 rfl rfl)
theorem dX0_crate_105 : decode cX0_crate 105 = .ok (.ireturn, 1) := dk_172 (dk_at dksX0_crate_2 9 rfl rfl)
theorem dX0_crate_106 : decode cX0_crate 106 = .ok (.aload_n 3, 1) := dk_45 (dk_at dksX0_crate_2 10 rfl rfl)
theorem dX0_crate_107 : decode cX0_crate 107 = .ok (.getfield 110, 3) := dk_180 0 110 (dk_at dksX0_crate_2 11 rfl rfl)
theorem dX0_crate_110 : decode cX0_crate 110 = .ok (.ireturn, 1) := dk_172 (dk_at dksX0_crate_2 14 rfl rfl)
theorem dX0_crate_111 : decode cX0_crate 111 = .ok (.aload_n 3, 1) := dk_45 (dk_at dksX0_crate_2 15 rfl rfl)
theorem dX0_crate_112 : decode cX0_crate 112 = .ok (.getfield 185, 3) := dk_180 0 185 (dk_at dksX0_crate_2 16 rfl rfl)
theorem dX0_crate_115 : decode cX0_crate 115 = .ok (.arraylength, 1) := dk_190 (dk_at dksX0_crate_2 19 rfl rfl)
theorem dX0_crate_116 : decode cX0_crate 116 = .ok (.ireturn, 1) := dk_172 (dk_at dksX0_crate_2 20 rfl rfl)
theorem dX0_crate_117 : decode cX0_crate 117 = .ok (.aload_n 0, 1) := dk_42 (dk_at dksX0_crate_2 21 rfl rfl)
theorem dX0_crate_118 : decode cX0_crate 118 = .ok (.getfield 10, 3) := dk_180 0 10 (dk_at dksX0_crate_3 0 rfl rfl)
theorem dX0_crate_121 : decode cX0_crate 121 = .ok (.iload_n 1, 1) := dk_27 (dk_at dksX0_crate_3 3 rfl rfl)
theorem dX0_crate_122 : decode cX0_crate 122 = .ok (.invokevirtual 189, 3) := dk_182 0 189 (dk_at dksX0_crate_3 4 rfl rfl)
theorem dX0_crate_125 : decode cX0_crate 125 = .ok (.ifCond .eq 8, 3) := dk_153 0 8 (dk_at dksX0_crate_3 7 rfl rfl)
theorem dX0_crate_128 : decode cX0_crate 128 = .ok (.bipush (-4), 2) := dk_16 252 (dk_at dksX0_crate_3 10 rfl rfl)
theorem dX0_crate_130 : decode cX0_crate 130 = .ok (.goto 7, 3) := dk_167 0 7 (dk_at dksX0_crate_3 12 rfl rfl)
theorem dX0_crate_133 : decode cX0_crate 133 = .ok (.aload_n 3, 1) := dk_45 (dk_at dksX0_crate_3 15 rfl rfl)
theorem dX0_crate_134 : decode cX0_crate 134 = .ok (.getfield 192, 3) := dk_180 0 192 (dk_at dksX0_crate_3 16 rfl rfl)
theorem dX0_crate_137 : decode cX0_crate 137 = .ok (.ireturn, 1) := dk_172 (dk_at dksX0_crate_3 19 rfl rfl)
theorem dX0_crate_138 : decode cX0_crate 138 = .ok (.aload_n 0, 1) := dk_42 (dk_at dksX0_crate_3 20 rfl rfl)
theorem dX0_crate_139 : decode cX0_crate 139 = .ok (.getfield 10, 3) := dk_180 0 10 (dk_at dksX0_crate_3 21 rfl rfl)
theorem dX0_crate_142 : decode cX0_crate 142 = .ok (.iload_n 1, 1) := dk_27 (dk_at dksX0_crate_4 0 rfl rfl)
theorem dX0_crate_143 : decode cX0_crate 143 = .ok (.invokevirtual 93, 3) := dk_182 0 93 (dk_at dksX0_crate_4 1 rfl rfl)
theorem dX0_crate_146 : decode cX0_crate 146 = .ok (.ireturn, 1) := dk_172 (dk_at dksX0_crate_4 4 rfl rfl)
theorem dX0_crate_147 : decode cX0_crate 147 = .ok (.aload_n 3, 1) := dk_45 (dk_at dksX0_crate_4 5 rfl rfl)
theorem dX0_crate_148 : decode cX0_crate 148 = .ok (.getfield 150, 3) := dk_180 0 150 (dk_at dksX0_crate_4 6 rfl rfl)
theorem dX0_crate_151 : decode cX0_crate 151 = .ok (.invokevirtual 172, 3) := dk_182 0 172 (dk_at dksX0_crate_4 9 rfl rfl)
theorem dX0_crate_154 : decode cX0_crate 154 = .ok (.ireturn, 1) := dk_172 (dk_at dksX0_crate_4 12 rfl rfl)
theorem dX0_crate_155 : decode cX0_crate 155 = .ok (.aload_n 0, 1) := dk_42 (dk_at dksX0_crate_4 13 rfl rfl)
theorem dX0_crate_156 : decode cX0_crate 156 = .ok (.getfield 10, 3) := dk_180 0 10 (dk_at dksX0_crate_4 14 rfl rfl)
theorem dX0_crate_159 : decode cX0_crate 159 = .ok (.iload_n 1, 1) := dk_27 (dk_at dksX0_crate_4 17 rfl rfl)
theorem dX0_crate_160 : decode cX0_crate 160 = .ok (.invokevirtual 195, 3) := dk_182 0 195 (dk_at dksX0_crate_4 18 rfl rfl)
theorem dX0_crate_163 : decode cX0_crate 163 = .ok (.ireturn, 1) := dk_172 (dk_at dksX0_crate_4 21 rfl rfl)
theorem dX0_crate_164 : decode cX0_crate 164 = .ok (.aload_n 0, 1) := dk_42 (dk_at dksX0_crate_4 22 rfl rfl)
theorem dX0_crate_165 : decode cX0_crate 165 = .ok (.getfield 10, 3) := dk_180 0 10 (dk_at dksX0_crate_5 0 rfl rfl)
theorem dX0_crate_168 : decode cX0_crate 168 = .ok (.iload_n 1, 1) := dk_27 (dk_at dksX0_crate_5 3 rfl rfl)
theorem dX0_crate_169 : decode cX0_crate 169 = .ok (.invokevirtual 198, 3) := dk_182 0 198 (dk_at dksX0_crate_5 4 rfl rfl)
theorem dX0_crate_172 : decode cX0_crate 172 = .ok (.ireturn, 1) := dk_172 (dk_at dksX0_crate_5 7 rfl rfl)
theorem dX0_crate_173 : decode cX0_crate 173 = .ok (.aload_n 0, 1) := dk_42 (dk_at dksX0_crate_5 8 rfl rfl)
theorem dX0_crate_174 : decode cX0_crate 174 = .ok (.getfield 10, 3) := dk_180 0 10 (dk_at dksX0_crate_5 9 rfl rfl)
theorem dX0_crate_177 : decode cX0_crate 177 = .ok (.iload_n 1, 1) := dk_27 (dk_at dksX0_crate_5 12 rfl rfl)
theorem dX0_crate_178 : decode cX0_crate 178 = .ok (.invokevirtual 201, 3) := dk_182 0 201 (dk_at dksX0_crate_5 13 rfl rfl)
theorem dX0_crate_181 : decode cX0_crate 181 = .ok (.ireturn, 1) := dk_172 (dk_at dksX0_crate_5 16 rfl rfl)
theorem dX0_crate_182 : decode cX0_crate 182 = .ok (.aload_n 0, 1) := dk_42 (dk_at dksX0_crate_5 17 rfl rfl)
theorem dX0_crate_183 : decode cX0_crate 183 = .ok (.getfield 10, 3) := dk_180 0 10 (dk_at dksX0_crate_5 18 rfl rfl)
theorem dX0_crate_186 : decode cX0_crate 186 = .ok (.iload_n 1, 1) := dk_27 (dk_at dksX0_crate_5 21 rfl rfl)
theorem dX0_crate_187 : decode cX0_crate 187 = .ok (.invokevirtual 204, 3) := dk_182 0 204 (dk_at dksX0_crate_6 0 rfl rfl)
theorem dX0_crate_190 : decode cX0_crate 190 = .ok (.ireturn, 1) := dk_172 (dk_at dksX0_crate_6 3 rfl rfl)
theorem dX0_crate_191 : decode cX0_crate 191 = .ok (.aload_n 0, 1) := dk_42 (dk_at dksX0_crate_6 4 rfl rfl)
theorem dX0_crate_192 : decode cX0_crate 192 = .ok (.getfield 10, 3) := dk_180 0 10 (dk_at dksX0_crate_6 5 rfl rfl)
theorem dX0_crate_195 : decode cX0_crate 195 = .ok (.iload_n 1, 1) := dk_27 (dk_at dksX0_crate_6 8 rfl rfl)
theorem dX0_crate_196 : decode cX0_crate 196 = .ok (.invokevirtual 207, 3) := dk_182 0 207 (dk_at dksX0_crate_6 9 rfl rfl)
theorem dX0_crate_199 : decode cX0_crate 199 = .ok (.ifCond .eq 7, 3) := dk_153 0 7 (dk_at dksX0_crate_6 12 rfl rfl)
theorem dX0_crate_202 : decode cX0_crate 202 = .ok (.iconst 1, 1) := dk_4 (dk_at dksX0_crate_6 15 rfl rfl)
theorem dX0_crate_203 : decode cX0_crate 203 = .ok (.goto 4, 3) := dk_167 0 4 (dk_at dksX0_crate_6 16 rfl rfl)
theorem dX0_crate_206 : decode cX0_crate 206 = .ok (.iconst 0, 1) := dk_3 (dk_at dksX0_crate_6 19 rfl rfl)
theorem dX0_crate_207 : decode cX0_crate 207 = .ok (.ireturn, 1) := dk_172 (dk_at dksX0_crate_6 20 rfl rfl)
theorem dX0_crate_208 : decode cX0_crate 208 = .ok (.aload_n 0, 1) := dk_42 (dk_at dksX0_crate_6 21 rfl rfl)
theorem dX0_crate_209 : decode cX0_crate 209 = .ok (.getfield 10, 3) := dk_180 0 10 (dk_at dksX0_crate_7 0 rfl rfl)
theorem dX0_crate_212 : decode cX0_crate 212 = .ok (.iload_n 1, 1) := dk_27 (dk_at dksX0_crate_7 3 rfl rfl)
theorem dX0_crate_213 : decode cX0_crate 213 = .ok (.invokevirtual 210, 3) := dk_182 0 210 (dk_at dksX0_crate_7 4 rfl rfl)
theorem dX0_crate_216 : decode cX0_crate 216 = .ok (.ireturn, 1) := dk_172 (dk_at dksX0_crate_7 7 rfl rfl)
theorem dX0_crate_217 : decode cX0_crate 217 = .ok (.aload_n 0, 1) := dk_42 (dk_at dksX0_crate_7 8 rfl rfl)
theorem dX0_crate_218 : decode cX0_crate 218 = .ok (.getfield 10, 3) := dk_180 0 10 (dk_at dksX0_crate_7 9 rfl rfl)
theorem dX0_crate_221 : decode cX0_crate 221 = .ok (.iload_n 1, 1) := dk_27 (dk_at dksX0_crate_7 12 rfl rfl)
theorem dX0_crate_222 : decode cX0_crate 222 = .ok (.invokevirtual 213, 3) := dk_182 0 213 (dk_at dksX0_crate_7 13 rfl rfl)
theorem dX0_crate_225 : decode cX0_crate 225 = .ok (.ireturn, 1) := dk_172 (dk_at dksX0_crate_7 16 rfl rfl)
theorem dX0_crate_226 : decode cX0_crate 226 = .ok (.aload_n 0, 1) := dk_42 (dk_at dksX0_crate_7 17 rfl rfl)
theorem dX0_crate_227 : decode cX0_crate 227 = .ok (.getfield 10, 3) := dk_180 0 10 (dk_at dksX0_crate_7 18 rfl rfl)
theorem dX0_crate_230 : decode cX0_crate 230 = .ok (.iload_n 1, 1) := dk_27 (dk_at dksX0_crate_7 21 rfl rfl)
theorem dX0_crate_231 : decode cX0_crate 231 = .ok (.invokevirtual 96, 3) := dk_182 0 96 (dk_at dksX0_crate_8 0 rfl rfl)
theorem dX0_crate_234 : decode cX0_crate 234 = .ok (.ireturn, 1) := dk_172 (dk_at dksX0_crate_8 3 rfl rfl)
theorem dX0_crate_235 : decode cX0_crate 235 = .ok (.iconst (-1), 1) := dk_2 (dk_at dksX0_crate_8 4 rfl rfl)
theorem dX0_crate_236 : decode cX0_crate 236 = .ok (.ireturn, 1) := dk_172 (dk_at dksX0_crate_8 5 rfl rfl)
abbrev cX0_letter : ByteArray := prog_1_method_20_code
def yX0_letter : MethodName := ⟨RX0, "letter", "(II)I"⟩
def dkwX0_letter_1 : List UInt8 := [182, 0, 103, 180, 0, 185, 78, 28, 45, 190, 162, 0, 9, 45, 28, 46, 167, 0, 5, 16, 252, 172]
abbrev dktX0_letter_1 : List UInt8 := dkwX0_letter_1 ++ []
def dkwX0_letter_0 : List UInt8 := [42, 27, 182, 0, 77, 153, 0, 10, 28, 184, 0, 216, 154, 0, 5, 2, 172, 42, 180, 0, 10, 27]
abbrev dktX0_letter_0 : List UInt8 := dkwX0_letter_0 ++ dktX0_letter_1
theorem dksX0_letter_0 : cX0_letter.data.toList.drop 0 = dktX0_letter_0 := by decide +kernel
theorem dksX0_letter_1 : cX0_letter.data.toList.drop 22 = dktX0_letter_1 := dk_seg dksX0_letter_0 22 rfl rfl
theorem dX0_letter_0 : decode cX0_letter 0 = .ok (.aload_n 0, 1) := dk_42 (dk_at dksX0_letter_0 0 rfl rfl)
theorem dX0_letter_1 : decode cX0_letter 1 = .ok (.iload_n 1, 1) := dk_27 (dk_at dksX0_letter_0 1 rfl rfl)
theorem dX0_letter_2 : decode cX0_letter 2 = .ok (.invokevirtual 77, 3) := dk_182 0 77 (dk_at dksX0_letter_0 2 rfl rfl)
theorem dX0_letter_5 : decode cX0_letter 5 = .ok (.ifCond .eq 10, 3) := dk_153 0 10 (dk_at dksX0_letter_0 5 rfl rfl)
theorem dX0_letter_8 : decode cX0_letter 8 = .ok (.iload_n 2, 1) := dk_28 (dk_at dksX0_letter_0 8 rfl rfl)
theorem dX0_letter_9 : decode cX0_letter 9 = .ok (.invokestatic 216, 3) := dk_184 0 216 (dk_at dksX0_letter_0 9 rfl rfl)
theorem dX0_letter_12 : decode cX0_letter 12 = .ok (.ifCond .ne 5, 3) := dk_154 0 5 (dk_at dksX0_letter_0 12 rfl rfl)
theorem dX0_letter_15 : decode cX0_letter 15 = .ok (.iconst (-1), 1) := dk_2 (dk_at dksX0_letter_0 15 rfl rfl)
theorem dX0_letter_16 : decode cX0_letter 16 = .ok (.ireturn, 1) := dk_172 (dk_at dksX0_letter_0 16 rfl rfl)
theorem dX0_letter_17 : decode cX0_letter 17 = .ok (.aload_n 0, 1) := dk_42 (dk_at dksX0_letter_0 17 rfl rfl)
theorem dX0_letter_18 : decode cX0_letter 18 = .ok (.getfield 10, 3) := dk_180 0 10 (dk_at dksX0_letter_0 18 rfl rfl)
theorem dX0_letter_21 : decode cX0_letter 21 = .ok (.iload_n 1, 1) := dk_27 (dk_at dksX0_letter_0 21 rfl rfl)
theorem dX0_letter_22 : decode cX0_letter 22 = .ok (.invokevirtual 103, 3) := dk_182 0 103 (dk_at dksX0_letter_1 0 rfl rfl)
theorem dX0_letter_25 : decode cX0_letter 25 = .ok (.getfield 185, 3) := dk_180 0 185 (dk_at dksX0_letter_1 3 rfl rfl)
theorem dX0_letter_28 : decode cX0_letter 28 = .ok (.astore_n 3, 1) := dk_78 (dk_at dksX0_letter_1 6 rfl rfl)
theorem dX0_letter_29 : decode cX0_letter 29 = .ok (.iload_n 2, 1) := dk_28 (dk_at dksX0_letter_1 7 rfl rfl)
theorem dX0_letter_30 : decode cX0_letter 30 = .ok (.aload_n 3, 1) := dk_45 (dk_at dksX0_letter_1 8 rfl rfl)
theorem dX0_letter_31 : decode cX0_letter 31 = .ok (.arraylength, 1) := dk_190 (dk_at dksX0_letter_1 9 rfl rfl)
theorem dX0_letter_32 : decode cX0_letter 32 = .ok (.if_icmp .ge 9, 3) := dk_162 0 9 (dk_at dksX0_letter_1 10 rfl rfl)
theorem dX0_letter_35 : decode cX0_letter 35 = .ok (.aload_n 3, 1) := dk_45 (dk_at dksX0_letter_1 13 rfl rfl)
theorem dX0_letter_36 : decode cX0_letter 36 = .ok (.iload_n 2, 1) := dk_28 (dk_at dksX0_letter_1 14 rfl rfl)
theorem dX0_letter_37 : decode cX0_letter 37 = .ok (.iaload, 1) := dk_46 (dk_at dksX0_letter_1 15 rfl rfl)
theorem dX0_letter_38 : decode cX0_letter 38 = .ok (.goto 5, 3) := dk_167 0 5 (dk_at dksX0_letter_1 16 rfl rfl)
theorem dX0_letter_41 : decode cX0_letter 41 = .ok (.bipush (-4), 2) := dk_16 252 (dk_at dksX0_letter_1 19 rfl rfl)
theorem dX0_letter_43 : decode cX0_letter 43 = .ok (.ireturn, 1) := dk_172 (dk_at dksX0_letter_1 21 rfl rfl)
abbrev cX0_isPlace : ByteArray := prog_1_method_19_code
def yX0_isPlace : MethodName := ⟨RX0, "isPlace", "(I)Z"⟩
def dkwX0_isPlace_0 : List UInt8 := [26, 3, 6, 184, 0, 47, 172]
abbrev dktX0_isPlace_0 : List UInt8 := dkwX0_isPlace_0 ++ []
theorem dksX0_isPlace_0 : cX0_isPlace.data.toList.drop 0 = dktX0_isPlace_0 := by decide +kernel
theorem dX0_isPlace_0 : decode cX0_isPlace 0 = .ok (.iload_n 0, 1) := dk_26 (dk_at dksX0_isPlace_0 0 rfl rfl)
theorem dX0_isPlace_1 : decode cX0_isPlace 1 = .ok (.iconst 0, 1) := dk_3 (dk_at dksX0_isPlace_0 1 rfl rfl)
theorem dX0_isPlace_2 : decode cX0_isPlace 2 = .ok (.iconst 3, 1) := dk_6 (dk_at dksX0_isPlace_0 2 rfl rfl)
theorem dX0_isPlace_3 : decode cX0_isPlace 3 = .ok (.invokestatic 47, 3) := dk_184 0 47 (dk_at dksX0_isPlace_0 3 rfl rfl)
theorem dX0_isPlace_6 : decode cX0_isPlace 6 = .ok (.ireturn, 1) := dk_172 (dk_at dksX0_isPlace_0 6 rfl rfl)
abbrev cX0_seen : ByteArray := prog_1_method_21_code
def yX0_seen : MethodName := ⟨RX0, "seen", "(II)I"⟩
def dkwX0_seen_1 : List UInt8 := [182, 0, 223, 167, 0, 4, 2, 172]
abbrev dktX0_seen_1 : List UInt8 := dkwX0_seen_1 ++ []
def dkwX0_seen_0 : List UInt8 := [42, 27, 182, 0, 77, 153, 0, 25, 28, 184, 0, 216, 153, 0, 18, 42, 180, 0, 10, 27, 182, 0, 219, 28]
abbrev dktX0_seen_0 : List UInt8 := dkwX0_seen_0 ++ dktX0_seen_1
theorem dksX0_seen_0 : cX0_seen.data.toList.drop 0 = dktX0_seen_0 := by decide +kernel
theorem dksX0_seen_1 : cX0_seen.data.toList.drop 24 = dktX0_seen_1 := dk_seg dksX0_seen_0 24 rfl rfl
theorem dX0_seen_0 : decode cX0_seen 0 = .ok (.aload_n 0, 1) := dk_42 (dk_at dksX0_seen_0 0 rfl rfl)
theorem dX0_seen_1 : decode cX0_seen 1 = .ok (.iload_n 1, 1) := dk_27 (dk_at dksX0_seen_0 1 rfl rfl)
theorem dX0_seen_2 : decode cX0_seen 2 = .ok (.invokevirtual 77, 3) := dk_182 0 77 (dk_at dksX0_seen_0 2 rfl rfl)
theorem dX0_seen_5 : decode cX0_seen 5 = .ok (.ifCond .eq 25, 3) := dk_153 0 25 (dk_at dksX0_seen_0 5 rfl rfl)
theorem dX0_seen_8 : decode cX0_seen 8 = .ok (.iload_n 2, 1) := dk_28 (dk_at dksX0_seen_0 8 rfl rfl)
theorem dX0_seen_9 : decode cX0_seen 9 = .ok (.invokestatic 216, 3) := dk_184 0 216 (dk_at dksX0_seen_0 9 rfl rfl)
theorem dX0_seen_12 : decode cX0_seen 12 = .ok (.ifCond .eq 18, 3) := dk_153 0 18 (dk_at dksX0_seen_0 12 rfl rfl)
theorem dX0_seen_15 : decode cX0_seen 15 = .ok (.aload_n 0, 1) := dk_42 (dk_at dksX0_seen_0 15 rfl rfl)
theorem dX0_seen_16 : decode cX0_seen 16 = .ok (.getfield 10, 3) := dk_180 0 10 (dk_at dksX0_seen_0 16 rfl rfl)
theorem dX0_seen_19 : decode cX0_seen 19 = .ok (.iload_n 1, 1) := dk_27 (dk_at dksX0_seen_0 19 rfl rfl)
theorem dX0_seen_20 : decode cX0_seen 20 = .ok (.invokevirtual 219, 3) := dk_182 0 219 (dk_at dksX0_seen_0 20 rfl rfl)
theorem dX0_seen_23 : decode cX0_seen 23 = .ok (.iload_n 2, 1) := dk_28 (dk_at dksX0_seen_0 23 rfl rfl)
theorem dX0_seen_24 : decode cX0_seen 24 = .ok (.invokevirtual 223, 3) := dk_182 0 223 (dk_at dksX0_seen_1 0 rfl rfl)
theorem dX0_seen_27 : decode cX0_seen 27 = .ok (.goto 4, 3) := dk_167 0 4 (dk_at dksX0_seen_1 3 rfl rfl)
theorem dX0_seen_30 : decode cX0_seen 30 = .ok (.iconst (-1), 1) := dk_2 (dk_at dksX0_seen_1 6 rfl rfl)
theorem dX0_seen_31 : decode cX0_seen 31 = .ok (.ireturn, 1) := dk_172 (dk_at dksX0_seen_1 7 rfl rfl)
abbrev cX0_whyNot : ByteArray := prog_1_method_22_code
def yX0_whyNot : MethodName := ⟨RX0, "whyNot", "(II)I"⟩
def dkwX0_whyNot_1 : List UInt8 := [182, 0, 81, 167, 0, 4, 2, 172]
abbrev dktX0_whyNot_1 : List UInt8 := dkwX0_whyNot_1 ++ []
def dkwX0_whyNot_0 : List UInt8 := [42, 27, 182, 0, 77, 153, 0, 23, 42, 28, 182, 0, 77, 153, 0, 15, 42, 180, 0, 10, 27, 28]
abbrev dktX0_whyNot_0 : List UInt8 := dkwX0_whyNot_0 ++ dktX0_whyNot_1
theorem dksX0_whyNot_0 : cX0_whyNot.data.toList.drop 0 = dktX0_whyNot_0 := by decide +kernel
theorem dksX0_whyNot_1 : cX0_whyNot.data.toList.drop 22 = dktX0_whyNot_1 := dk_seg dksX0_whyNot_0 22 rfl rfl
theorem dX0_whyNot_0 : decode cX0_whyNot 0 = .ok (.aload_n 0, 1) := dk_42 (dk_at dksX0_whyNot_0 0 rfl rfl)
theorem dX0_whyNot_1 : decode cX0_whyNot 1 = .ok (.iload_n 1, 1) := dk_27 (dk_at dksX0_whyNot_0 1 rfl rfl)
theorem dX0_whyNot_2 : decode cX0_whyNot 2 = .ok (.invokevirtual 77, 3) := dk_182 0 77 (dk_at dksX0_whyNot_0 2 rfl rfl)
theorem dX0_whyNot_5 : decode cX0_whyNot 5 = .ok (.ifCond .eq 23, 3) := dk_153 0 23 (dk_at dksX0_whyNot_0 5 rfl rfl)
theorem dX0_whyNot_8 : decode cX0_whyNot 8 = .ok (.aload_n 0, 1) := dk_42 (dk_at dksX0_whyNot_0 8 rfl rfl)
theorem dX0_whyNot_9 : decode cX0_whyNot 9 = .ok (.iload_n 2, 1) := dk_28 (dk_at dksX0_whyNot_0 9 rfl rfl)
theorem dX0_whyNot_10 : decode cX0_whyNot 10 = .ok (.invokevirtual 77, 3) := dk_182 0 77 (dk_at dksX0_whyNot_0 10 rfl rfl)
theorem dX0_whyNot_13 : decode cX0_whyNot 13 = .ok (.ifCond .eq 15, 3) := dk_153 0 15 (dk_at dksX0_whyNot_0 13 rfl rfl)
theorem dX0_whyNot_16 : decode cX0_whyNot 16 = .ok (.aload_n 0, 1) := dk_42 (dk_at dksX0_whyNot_0 16 rfl rfl)
theorem dX0_whyNot_17 : decode cX0_whyNot 17 = .ok (.getfield 10, 3) := dk_180 0 10 (dk_at dksX0_whyNot_0 17 rfl rfl)
theorem dX0_whyNot_20 : decode cX0_whyNot 20 = .ok (.iload_n 1, 1) := dk_27 (dk_at dksX0_whyNot_0 20 rfl rfl)
theorem dX0_whyNot_21 : decode cX0_whyNot 21 = .ok (.iload_n 2, 1) := dk_28 (dk_at dksX0_whyNot_0 21 rfl rfl)
theorem dX0_whyNot_22 : decode cX0_whyNot 22 = .ok (.invokevirtual 81, 3) := dk_182 0 81 (dk_at dksX0_whyNot_1 0 rfl rfl)
theorem dX0_whyNot_25 : decode cX0_whyNot 25 = .ok (.goto 4, 3) := dk_167 0 4 (dk_at dksX0_whyNot_1 3 rfl rfl)
theorem dX0_whyNot_28 : decode cX0_whyNot 28 = .ok (.iconst (-1), 1) := dk_2 (dk_at dksX0_whyNot_1 6 rfl rfl)
theorem dX0_whyNot_29 : decode cX0_whyNot 29 = .ok (.ireturn, 1) := dk_172 (dk_at dksX0_whyNot_1 7 rfl rfl)
abbrev cX0_effort : ByteArray := prog_1_method_23_code
def yX0_effort : MethodName := ⟨RX0, "effort", "(II)I"⟩
def dkwX0_effort_1 : List UInt8 := [154, 0, 14, 42, 180, 0, 10, 27, 182, 0, 228, 167, 0, 11, 42, 180, 0, 10, 27, 182, 0, 231, 172]
abbrev dktX0_effort_1 : List UInt8 := dkwX0_effort_1 ++ []
def dkwX0_effort_0 : List UInt8 := [27, 4, 16, 60, 184, 0, 47, 153, 0, 12, 28, 3, 4, 184, 0, 47, 154, 0, 5, 2, 172, 28]
abbrev dktX0_effort_0 : List UInt8 := dkwX0_effort_0 ++ dktX0_effort_1
theorem dksX0_effort_0 : cX0_effort.data.toList.drop 0 = dktX0_effort_0 := by decide +kernel
theorem dksX0_effort_1 : cX0_effort.data.toList.drop 22 = dktX0_effort_1 := dk_seg dksX0_effort_0 22 rfl rfl
theorem dX0_effort_0 : decode cX0_effort 0 = .ok (.iload_n 1, 1) := dk_27 (dk_at dksX0_effort_0 0 rfl rfl)
theorem dX0_effort_1 : decode cX0_effort 1 = .ok (.iconst 1, 1) := dk_4 (dk_at dksX0_effort_0 1 rfl rfl)
theorem dX0_effort_2 : decode cX0_effort 2 = .ok (.bipush 60, 2) := dk_16 60 (dk_at dksX0_effort_0 2 rfl rfl)
theorem dX0_effort_4 : decode cX0_effort 4 = .ok (.invokestatic 47, 3) := dk_184 0 47 (dk_at dksX0_effort_0 4 rfl rfl)
theorem dX0_effort_7 : decode cX0_effort 7 = .ok (.ifCond .eq 12, 3) := dk_153 0 12 (dk_at dksX0_effort_0 7 rfl rfl)
theorem dX0_effort_10 : decode cX0_effort 10 = .ok (.iload_n 2, 1) := dk_28 (dk_at dksX0_effort_0 10 rfl rfl)
theorem dX0_effort_11 : decode cX0_effort 11 = .ok (.iconst 0, 1) := dk_3 (dk_at dksX0_effort_0 11 rfl rfl)
theorem dX0_effort_12 : decode cX0_effort 12 = .ok (.iconst 1, 1) := dk_4 (dk_at dksX0_effort_0 12 rfl rfl)
theorem dX0_effort_13 : decode cX0_effort 13 = .ok (.invokestatic 47, 3) := dk_184 0 47 (dk_at dksX0_effort_0 13 rfl rfl)
theorem dX0_effort_16 : decode cX0_effort 16 = .ok (.ifCond .ne 5, 3) := dk_154 0 5 (dk_at dksX0_effort_0 16 rfl rfl)
theorem dX0_effort_19 : decode cX0_effort 19 = .ok (.iconst (-1), 1) := dk_2 (dk_at dksX0_effort_0 19 rfl rfl)
theorem dX0_effort_20 : decode cX0_effort 20 = .ok (.ireturn, 1) := dk_172 (dk_at dksX0_effort_0 20 rfl rfl)
theorem dX0_effort_21 : decode cX0_effort 21 = .ok (.iload_n 2, 1) := dk_28 (dk_at dksX0_effort_0 21 rfl rfl)
theorem dX0_effort_22 : decode cX0_effort 22 = .ok (.ifCond .ne 14, 3) := dk_154 0 14 (dk_at dksX0_effort_1 0 rfl rfl)
theorem dX0_effort_25 : decode cX0_effort 25 = .ok (.aload_n 0, 1) := dk_42 (dk_at dksX0_effort_1 3 rfl rfl)
theorem dX0_effort_26 : decode cX0_effort 26 = .ok (.getfield 10, 3) := dk_180 0 10 (dk_at dksX0_effort_1 4 rfl rfl)
theorem dX0_effort_29 : decode cX0_effort 29 = .ok (.iload_n 1, 1) := dk_27 (dk_at dksX0_effort_1 7 rfl rfl)
theorem dX0_effort_30 : decode cX0_effort 30 = .ok (.invokevirtual 228, 3) := dk_182 0 228 (dk_at dksX0_effort_1 8 rfl rfl)
theorem dX0_effort_33 : decode cX0_effort 33 = .ok (.goto 11, 3) := dk_167 0 11 (dk_at dksX0_effort_1 11 rfl rfl)
theorem dX0_effort_36 : decode cX0_effort 36 = .ok (.aload_n 0, 1) := dk_42 (dk_at dksX0_effort_1 14 rfl rfl)
theorem dX0_effort_37 : decode cX0_effort 37 = .ok (.getfield 10, 3) := dk_180 0 10 (dk_at dksX0_effort_1 15 rfl rfl)
theorem dX0_effort_40 : decode cX0_effort 40 = .ok (.iload_n 1, 1) := dk_27 (dk_at dksX0_effort_1 18 rfl rfl)
theorem dX0_effort_41 : decode cX0_effort 41 = .ok (.invokevirtual 231, 3) := dk_182 0 231 (dk_at dksX0_effort_1 19 rfl rfl)
theorem dX0_effort_44 : decode cX0_effort 44 = .ok (.ireturn, 1) := dk_172 (dk_at dksX0_effort_1 22 rfl rfl)
abbrev cX0_alike : ByteArray := prog_1_method_26_code
def yX0_alike : MethodName := ⟨RX0, "alike", "(IIII)I"⟩
def dkwX0_alike_5 : List UInt8 := [167, 255, 179, 21, 5, 172]
abbrev dktX0_alike_5 : List UInt8 := dkwX0_alike_5 ++ []
def dkwX0_alike_4 : List UInt8 := [25, 7, 6, 21, 4, 184, 0, 237, 153, 0, 7, 4, 167, 0, 4, 3, 96, 54, 5, 132, 6, 1]
abbrev dktX0_alike_4 : List UInt8 := dkwX0_alike_4 ++ dktX0_alike_5
def dkwX0_alike_3 : List UInt8 := [153, 0, 38, 25, 7, 4, 28, 184, 0, 237, 153, 0, 28, 25, 7, 5, 29, 184, 0, 237, 153, 0, 18]
abbrev dktX0_alike_3 : List UInt8 := dkwX0_alike_3 ++ dktX0_alike_4
def dkwX0_alike_2 : List UInt8 := [162, 0, 71, 42, 180, 0, 10, 21, 6, 182, 0, 219, 58, 7, 21, 5, 25, 7, 3, 27, 184, 0, 237]
abbrev dktX0_alike_2 : List UInt8 := dkwX0_alike_2 ++ dktX0_alike_3
def dkwX0_alike_1 : List UInt8 := [184, 0, 234, 154, 0, 5, 2, 172, 3, 54, 5, 3, 54, 6, 21, 6, 42, 180, 0, 10, 182, 0, 46]
abbrev dktX0_alike_1 : List UInt8 := dkwX0_alike_1 ++ dktX0_alike_2
def dkwX0_alike_0 : List UInt8 := [27, 184, 0, 234, 153, 0, 25, 28, 184, 0, 234, 153, 0, 18, 29, 184, 0, 234, 153, 0, 11, 21, 4]
abbrev dktX0_alike_0 : List UInt8 := dkwX0_alike_0 ++ dktX0_alike_1
theorem dksX0_alike_0 : cX0_alike.data.toList.drop 0 = dktX0_alike_0 := by decide +kernel
theorem dksX0_alike_1 : cX0_alike.data.toList.drop 23 = dktX0_alike_1 := dk_seg dksX0_alike_0 23 rfl rfl
theorem dksX0_alike_2 : cX0_alike.data.toList.drop 46 = dktX0_alike_2 := dk_seg dksX0_alike_1 23 rfl rfl
theorem dksX0_alike_3 : cX0_alike.data.toList.drop 69 = dktX0_alike_3 := dk_seg dksX0_alike_2 23 rfl rfl
theorem dksX0_alike_4 : cX0_alike.data.toList.drop 92 = dktX0_alike_4 := dk_seg dksX0_alike_3 23 rfl rfl
theorem dksX0_alike_5 : cX0_alike.data.toList.drop 114 = dktX0_alike_5 := dk_seg dksX0_alike_4 22 rfl rfl
theorem dX0_alike_0 : decode cX0_alike 0 = .ok (.iload_n 1, 1) := dk_27 (dk_at dksX0_alike_0 0 rfl rfl)
theorem dX0_alike_1 : decode cX0_alike 1 = .ok (.invokestatic 234, 3) := dk_184 0 234 (dk_at dksX0_alike_0 1 rfl rfl)
theorem dX0_alike_4 : decode cX0_alike 4 = .ok (.ifCond .eq 25, 3) := dk_153 0 25 (dk_at dksX0_alike_0 4 rfl rfl)
theorem dX0_alike_7 : decode cX0_alike 7 = .ok (.iload_n 2, 1) := dk_28 (dk_at dksX0_alike_0 7 rfl rfl)
theorem dX0_alike_8 : decode cX0_alike 8 = .ok (.invokestatic 234, 3) := dk_184 0 234 (dk_at dksX0_alike_0 8 rfl rfl)
theorem dX0_alike_11 : decode cX0_alike 11 = .ok (.ifCond .eq 18, 3) := dk_153 0 18 (dk_at dksX0_alike_0 11 rfl rfl)
theorem dX0_alike_14 : decode cX0_alike 14 = .ok (.iload_n 3, 1) := dk_29 (dk_at dksX0_alike_0 14 rfl rfl)
theorem dX0_alike_15 : decode cX0_alike 15 = .ok (.invokestatic 234, 3) := dk_184 0 234 (dk_at dksX0_alike_0 15 rfl rfl)
theorem dX0_alike_18 : decode cX0_alike 18 = .ok (.ifCond .eq 11, 3) := dk_153 0 11 (dk_at dksX0_alike_0 18 rfl rfl)
theorem dX0_alike_21 : decode cX0_alike 21 = .ok (.iload 4, 2) := dk_21 4 (dk_at dksX0_alike_0 21 rfl rfl)
theorem dX0_alike_23 : decode cX0_alike 23 = .ok (.invokestatic 234, 3) := dk_184 0 234 (dk_at dksX0_alike_1 0 rfl rfl)
theorem dX0_alike_26 : decode cX0_alike 26 = .ok (.ifCond .ne 5, 3) := dk_154 0 5 (dk_at dksX0_alike_1 3 rfl rfl)
theorem dX0_alike_29 : decode cX0_alike 29 = .ok (.iconst (-1), 1) := dk_2 (dk_at dksX0_alike_1 6 rfl rfl)
theorem dX0_alike_30 : decode cX0_alike 30 = .ok (.ireturn, 1) := dk_172 (dk_at dksX0_alike_1 7 rfl rfl)
theorem dX0_alike_31 : decode cX0_alike 31 = .ok (.iconst 0, 1) := dk_3 (dk_at dksX0_alike_1 8 rfl rfl)
theorem dX0_alike_32 : decode cX0_alike 32 = .ok (.istore 5, 2) := dk_54 5 (dk_at dksX0_alike_1 9 rfl rfl)
theorem dX0_alike_34 : decode cX0_alike 34 = .ok (.iconst 0, 1) := dk_3 (dk_at dksX0_alike_1 11 rfl rfl)
theorem dX0_alike_35 : decode cX0_alike 35 = .ok (.istore 6, 2) := dk_54 6 (dk_at dksX0_alike_1 12 rfl rfl)
theorem dX0_alike_37 : decode cX0_alike 37 = .ok (.iload 6, 2) := dk_21 6 (dk_at dksX0_alike_1 14 rfl rfl)
theorem dX0_alike_39 : decode cX0_alike 39 = .ok (.aload_n 0, 1) := dk_42 (dk_at dksX0_alike_1 16 rfl rfl)
theorem dX0_alike_40 : decode cX0_alike 40 = .ok (.getfield 10, 3) := dk_180 0 10 (dk_at dksX0_alike_1 17 rfl rfl)
theorem dX0_alike_43 : decode cX0_alike 43 = .ok (.invokevirtual 46, 3) := dk_182 0 46 (dk_at dksX0_alike_1 20 rfl rfl)
theorem dX0_alike_46 : decode cX0_alike 46 = .ok (.if_icmp .ge 71, 3) := dk_162 0 71 (dk_at dksX0_alike_2 0 rfl rfl)
theorem dX0_alike_49 : decode cX0_alike 49 = .ok (.aload_n 0, 1) := dk_42 (dk_at dksX0_alike_2 3 rfl rfl)
theorem dX0_alike_50 : decode cX0_alike 50 = .ok (.getfield 10, 3) := dk_180 0 10 (dk_at dksX0_alike_2 4 rfl rfl)
theorem dX0_alike_53 : decode cX0_alike 53 = .ok (.iload 6, 2) := dk_21 6 (dk_at dksX0_alike_2 7 rfl rfl)
theorem dX0_alike_55 : decode cX0_alike 55 = .ok (.invokevirtual 219, 3) := dk_182 0 219 (dk_at dksX0_alike_2 9 rfl rfl)
theorem dX0_alike_58 : decode cX0_alike 58 = .ok (.astore 7, 2) := dk_58 7 (dk_at dksX0_alike_2 12 rfl rfl)
theorem dX0_alike_60 : decode cX0_alike 60 = .ok (.iload 5, 2) := dk_21 5 (dk_at dksX0_alike_2 14 rfl rfl)
theorem dX0_alike_62 : decode cX0_alike 62 = .ok (.aload 7, 2) := dk_25 7 (dk_at dksX0_alike_2 16 rfl rfl)
theorem dX0_alike_64 : decode cX0_alike 64 = .ok (.iconst 0, 1) := dk_3 (dk_at dksX0_alike_2 18 rfl rfl)
theorem dX0_alike_65 : decode cX0_alike 65 = .ok (.iload_n 1, 1) := dk_27 (dk_at dksX0_alike_2 19 rfl rfl)
theorem dX0_alike_66 : decode cX0_alike 66 = .ok (.invokestatic 237, 3) := dk_184 0 237 (dk_at dksX0_alike_2 20 rfl rfl)
theorem dX0_alike_69 : decode cX0_alike 69 = .ok (.ifCond .eq 38, 3) := dk_153 0 38 (dk_at dksX0_alike_3 0 rfl rfl)
theorem dX0_alike_72 : decode cX0_alike 72 = .ok (.aload 7, 2) := dk_25 7 (dk_at dksX0_alike_3 3 rfl rfl)
theorem dX0_alike_74 : decode cX0_alike 74 = .ok (.iconst 1, 1) := dk_4 (dk_at dksX0_alike_3 5 rfl rfl)
theorem dX0_alike_75 : decode cX0_alike 75 = .ok (.iload_n 2, 1) := dk_28 (dk_at dksX0_alike_3 6 rfl rfl)
theorem dX0_alike_76 : decode cX0_alike 76 = .ok (.invokestatic 237, 3) := dk_184 0 237 (dk_at dksX0_alike_3 7 rfl rfl)
theorem dX0_alike_79 : decode cX0_alike 79 = .ok (.ifCond .eq 28, 3) := dk_153 0 28 (dk_at dksX0_alike_3 10 rfl rfl)
theorem dX0_alike_82 : decode cX0_alike 82 = .ok (.aload 7, 2) := dk_25 7 (dk_at dksX0_alike_3 13 rfl rfl)
theorem dX0_alike_84 : decode cX0_alike 84 = .ok (.iconst 2, 1) := dk_5 (dk_at dksX0_alike_3 15 rfl rfl)
theorem dX0_alike_85 : decode cX0_alike 85 = .ok (.iload_n 3, 1) := dk_29 (dk_at dksX0_alike_3 16 rfl rfl)
theorem dX0_alike_86 : decode cX0_alike 86 = .ok (.invokestatic 237, 3) := dk_184 0 237 (dk_at dksX0_alike_3 17 rfl rfl)
theorem dX0_alike_89 : decode cX0_alike 89 = .ok (.ifCond .eq 18, 3) := dk_153 0 18 (dk_at dksX0_alike_3 20 rfl rfl)
theorem dX0_alike_92 : decode cX0_alike 92 = .ok (.aload 7, 2) := dk_25 7 (dk_at dksX0_alike_4 0 rfl rfl)
theorem dX0_alike_94 : decode cX0_alike 94 = .ok (.iconst 3, 1) := dk_6 (dk_at dksX0_alike_4 2 rfl rfl)
theorem dX0_alike_95 : decode cX0_alike 95 = .ok (.iload 4, 2) := dk_21 4 (dk_at dksX0_alike_4 3 rfl rfl)
theorem dX0_alike_97 : decode cX0_alike 97 = .ok (.invokestatic 237, 3) := dk_184 0 237 (dk_at dksX0_alike_4 5 rfl rfl)
theorem dX0_alike_100 : decode cX0_alike 100 = .ok (.ifCond .eq 7, 3) := dk_153 0 7 (dk_at dksX0_alike_4 8 rfl rfl)
theorem dX0_alike_103 : decode cX0_alike 103 = .ok (.iconst 1, 1) := dk_4 (dk_at dksX0_alike_4 11 rfl rfl)
theorem dX0_alike_104 : decode cX0_alike 104 = .ok (.goto 4, 3) := dk_167 0 4 (dk_at dksX0_alike_4 12 rfl rfl)
theorem dX0_alike_107 : decode cX0_alike 107 = .ok (.iconst 0, 1) := dk_3 (dk_at dksX0_alike_4 15 rfl rfl)
theorem dX0_alike_108 : decode cX0_alike 108 = .ok (.iadd, 1) := dk_96 (dk_at dksX0_alike_4 16 rfl rfl)
theorem dX0_alike_109 : decode cX0_alike 109 = .ok (.istore 5, 2) := dk_54 5 (dk_at dksX0_alike_4 17 rfl rfl)
theorem dX0_alike_111 : decode cX0_alike 111 = .ok (.iinc 6 1, 3) := dk_132 6 1 (dk_at dksX0_alike_4 19 rfl rfl)
theorem dX0_alike_114 : decode cX0_alike 114 = .ok (.goto (-77), 3) := dk_167 255 179 (dk_at dksX0_alike_5 0 rfl rfl)
theorem dX0_alike_117 : decode cX0_alike 117 = .ok (.iload 5, 2) := dk_21 5 (dk_at dksX0_alike_5 3 rfl rfl)
theorem dX0_alike_119 : decode cX0_alike 119 = .ok (.ireturn, 1) := dk_172 (dk_at dksX0_alike_5 5 rfl rfl)
abbrev cX0_isSign : ByteArray := prog_1_method_25_code
def yX0_isSign : MethodName := ⟨RX0, "isSign", "(I)Z"⟩
def dkwX0_isSign_0 : List UInt8 := [26, 3, 16, 28, 184, 0, 47, 172]
abbrev dktX0_isSign_0 : List UInt8 := dkwX0_isSign_0 ++ []
theorem dksX0_isSign_0 : cX0_isSign.data.toList.drop 0 = dktX0_isSign_0 := by decide +kernel
theorem dX0_isSign_0 : decode cX0_isSign 0 = .ok (.iload_n 0, 1) := dk_26 (dk_at dksX0_isSign_0 0 rfl rfl)
theorem dX0_isSign_1 : decode cX0_isSign 1 = .ok (.iconst 0, 1) := dk_3 (dk_at dksX0_isSign_0 1 rfl rfl)
theorem dX0_isSign_2 : decode cX0_isSign 2 = .ok (.bipush 28, 2) := dk_16 28 (dk_at dksX0_isSign_0 2 rfl rfl)
theorem dX0_isSign_4 : decode cX0_isSign 4 = .ok (.invokestatic 47, 3) := dk_184 0 47 (dk_at dksX0_isSign_0 4 rfl rfl)
theorem dX0_isSign_7 : decode cX0_isSign 7 = .ok (.ireturn, 1) := dk_172 (dk_at dksX0_isSign_0 7 rfl rfl)
abbrev cX0_isAs : ByteArray := prog_1_method_24_code
def yX0_isAs : MethodName := ⟨RX0, "isAs", "(LSlatCrates$Seen;II)Z"⟩
def dkwX0_isAs_0 : List UInt8 := [28, 16, 28, 159, 0, 12, 42, 27, 182, 0, 223, 28, 160, 0, 7, 4, 167, 0, 4, 3, 172]
abbrev dktX0_isAs_0 : List UInt8 := dkwX0_isAs_0 ++ []
theorem dksX0_isAs_0 : cX0_isAs.data.toList.drop 0 = dktX0_isAs_0 := by decide +kernel
theorem dX0_isAs_0 : decode cX0_isAs 0 = .ok (.iload_n 2, 1) := dk_28 (dk_at dksX0_isAs_0 0 rfl rfl)
theorem dX0_isAs_1 : decode cX0_isAs 1 = .ok (.bipush 28, 2) := dk_16 28 (dk_at dksX0_isAs_0 1 rfl rfl)
theorem dX0_isAs_3 : decode cX0_isAs 3 = .ok (.if_icmp .eq 12, 3) := dk_159 0 12 (dk_at dksX0_isAs_0 3 rfl rfl)
theorem dX0_isAs_6 : decode cX0_isAs 6 = .ok (.aload_n 0, 1) := dk_42 (dk_at dksX0_isAs_0 6 rfl rfl)
theorem dX0_isAs_7 : decode cX0_isAs 7 = .ok (.iload_n 1, 1) := dk_27 (dk_at dksX0_isAs_0 7 rfl rfl)
theorem dX0_isAs_8 : decode cX0_isAs 8 = .ok (.invokevirtual 223, 3) := dk_182 0 223 (dk_at dksX0_isAs_0 8 rfl rfl)
theorem dX0_isAs_11 : decode cX0_isAs 11 = .ok (.iload_n 2, 1) := dk_28 (dk_at dksX0_isAs_0 11 rfl rfl)
theorem dX0_isAs_12 : decode cX0_isAs 12 = .ok (.if_icmp .ne 7, 3) := dk_160 0 7 (dk_at dksX0_isAs_0 12 rfl rfl)
theorem dX0_isAs_15 : decode cX0_isAs 15 = .ok (.iconst 1, 1) := dk_4 (dk_at dksX0_isAs_0 15 rfl rfl)
theorem dX0_isAs_16 : decode cX0_isAs 16 = .ok (.goto 4, 3) := dk_167 0 4 (dk_at dksX0_isAs_0 16 rfl rfl)
theorem dX0_isAs_19 : decode cX0_isAs 19 = .ok (.iconst 0, 1) := dk_3 (dk_at dksX0_isAs_0 19 rfl rfl)
theorem dX0_isAs_20 : decode cX0_isAs 20 = .ok (.ireturn, 1) := dk_172 (dk_at dksX0_isAs_0 20 rfl rfl)
abbrev cX0_nest : ByteArray := prog_1_method_27_code
def yX0_nest : MethodName := ⟨RX0, "nest", "(I)I"⟩
def dkwX0_nest_1 : List UInt8 := [182, 0, 158, 192, 0, 153, 182, 0, 155, 167, 0, 5, 16, 252, 172]
abbrev dktX0_nest_1 : List UInt8 := dkwX0_nest_1 ++ []
def dkwX0_nest_0 : List UInt8 := [27, 156, 0, 5, 2, 172, 42, 180, 0, 10, 182, 0, 241, 77, 27, 44, 182, 0, 172, 162, 0, 17, 44, 27]
abbrev dktX0_nest_0 : List UInt8 := dkwX0_nest_0 ++ dktX0_nest_1
theorem dksX0_nest_0 : cX0_nest.data.toList.drop 0 = dktX0_nest_0 := by decide +kernel
theorem dksX0_nest_1 : cX0_nest.data.toList.drop 24 = dktX0_nest_1 := dk_seg dksX0_nest_0 24 rfl rfl
theorem dX0_nest_0 : decode cX0_nest 0 = .ok (.iload_n 1, 1) := dk_27 (dk_at dksX0_nest_0 0 rfl rfl)
theorem dX0_nest_1 : decode cX0_nest 1 = .ok (.ifCond .ge 5, 3) := dk_156 0 5 (dk_at dksX0_nest_0 1 rfl rfl)
theorem dX0_nest_4 : decode cX0_nest 4 = .ok (.iconst (-1), 1) := dk_2 (dk_at dksX0_nest_0 4 rfl rfl)
theorem dX0_nest_5 : decode cX0_nest 5 = .ok (.ireturn, 1) := dk_172 (dk_at dksX0_nest_0 5 rfl rfl)
theorem dX0_nest_6 : decode cX0_nest 6 = .ok (.aload_n 0, 1) := dk_42 (dk_at dksX0_nest_0 6 rfl rfl)
theorem dX0_nest_7 : decode cX0_nest 7 = .ok (.getfield 10, 3) := dk_180 0 10 (dk_at dksX0_nest_0 7 rfl rfl)
theorem dX0_nest_10 : decode cX0_nest 10 = .ok (.invokevirtual 241, 3) := dk_182 0 241 (dk_at dksX0_nest_0 10 rfl rfl)
theorem dX0_nest_13 : decode cX0_nest 13 = .ok (.astore_n 2, 1) := dk_77 (dk_at dksX0_nest_0 13 rfl rfl)
theorem dX0_nest_14 : decode cX0_nest 14 = .ok (.iload_n 1, 1) := dk_27 (dk_at dksX0_nest_0 14 rfl rfl)
theorem dX0_nest_15 : decode cX0_nest 15 = .ok (.aload_n 2, 1) := dk_44 (dk_at dksX0_nest_0 15 rfl rfl)
theorem dX0_nest_16 : decode cX0_nest 16 = .ok (.invokevirtual 172, 3) := dk_182 0 172 (dk_at dksX0_nest_0 16 rfl rfl)
theorem dX0_nest_19 : decode cX0_nest 19 = .ok (.if_icmp .ge 17, 3) := dk_162 0 17 (dk_at dksX0_nest_0 19 rfl rfl)
theorem dX0_nest_22 : decode cX0_nest 22 = .ok (.aload_n 2, 1) := dk_44 (dk_at dksX0_nest_0 22 rfl rfl)
theorem dX0_nest_23 : decode cX0_nest 23 = .ok (.iload_n 1, 1) := dk_27 (dk_at dksX0_nest_0 23 rfl rfl)
theorem dX0_nest_24 : decode cX0_nest 24 = .ok (.invokevirtual 158, 3) := dk_182 0 158 (dk_at dksX0_nest_1 0 rfl rfl)
theorem dX0_nest_27 : decode cX0_nest 27 = .ok (.checkcast 153, 3) := dk_192 0 153 (dk_at dksX0_nest_1 3 rfl rfl)
theorem dX0_nest_30 : decode cX0_nest 30 = .ok (.invokevirtual 155, 3) := dk_182 0 155 (dk_at dksX0_nest_1 6 rfl rfl)
theorem dX0_nest_33 : decode cX0_nest 33 = .ok (.goto 5, 3) := dk_167 0 5 (dk_at dksX0_nest_1 9 rfl rfl)
theorem dX0_nest_36 : decode cX0_nest 36 = .ok (.bipush (-4), 2) := dk_16 252 (dk_at dksX0_nest_1 12 rfl rfl)
theorem dX0_nest_38 : decode cX0_nest 38 = .ok (.ireturn, 1) := dk_172 (dk_at dksX0_nest_1 14 rfl rfl)
abbrev cX0_count : ByteArray := prog_1_method_32_code
def yX0_count : MethodName := ⟨RX0, "count", "(I)I"⟩
def dkwX0_count_6 : List UInt8 := [182, 0, 30, 172, 2, 172]
abbrev dktX0_count_6 : List UInt8 := dkwX0_count_6 ++ []
def dkwX0_count_5 : List UInt8 := [182, 1, 18, 172, 42, 180, 0, 10, 180, 0, 73, 172, 42, 180, 0, 26, 182, 0, 119, 172, 42, 180, 0, 19]
abbrev dktX0_count_5 : List UInt8 := dkwX0_count_5 ++ dktX0_count_6
def dkwX0_count_4 : List UInt8 := [180, 0, 10, 182, 1, 15, 172, 42, 180, 0, 10, 182, 0, 241, 182, 0, 172, 172, 42, 180, 0, 10]
abbrev dktX0_count_4 : List UInt8 := dkwX0_count_4 ++ dktX0_count_5
def dkwX0_count_3 : List UInt8 := [27, 182, 1, 6, 172, 42, 180, 0, 10, 182, 1, 9, 172, 42, 180, 0, 10, 182, 1, 12, 172, 42]
abbrev dktX0_count_3 : List UInt8 := dkwX0_count_3 ++ dktX0_count_4
def dkwX0_count_2 : List UInt8 := [42, 180, 0, 10, 182, 0, 46, 172, 42, 182, 0, 253, 172, 42, 182, 1, 0, 172, 42, 182, 1, 3, 172, 42]
abbrev dktX0_count_2 : List UInt8 := dkwX0_count_2 ++ dktX0_count_3
def dkwX0_count_1 : List UInt8 := [170, 0, 0, 0, 0, 0, 171, 0, 0, 0, 0, 0, 0, 0, 14, 0, 0, 0, 75, 0, 0, 0, 83, 0, 0, 0, 88, 0, 0, 0, 93, 0, 0, 0, 98, 0, 0, 0, 98, 0, 0, 0, 104, 0, 0, 0, 98, 0, 0, 0, 112, 0, 0, 0, 120, 0, 0, 0, 128, 0, 0, 0, 139, 0, 0, 0, 147, 0, 0, 0, 155, 0, 0, 0, 163]
abbrev dktX0_count_1 : List UInt8 := dkwX0_count_1 ++ dktX0_count_2
def dkwX0_count_0 : List UInt8 := [27]
abbrev dktX0_count_0 : List UInt8 := dkwX0_count_0 ++ dktX0_count_1
theorem dksX0_count_0 : cX0_count.data.toList.drop 0 = dktX0_count_0 := by decide +kernel
theorem dksX0_count_1 : cX0_count.data.toList.drop 1 = dktX0_count_1 := dk_seg dksX0_count_0 1 rfl rfl
theorem dksX0_count_2 : cX0_count.data.toList.drop 76 = dktX0_count_2 := dk_seg dksX0_count_1 75 rfl rfl
theorem dksX0_count_3 : cX0_count.data.toList.drop 100 = dktX0_count_3 := dk_seg dksX0_count_2 24 rfl rfl
theorem dksX0_count_4 : cX0_count.data.toList.drop 122 = dktX0_count_4 := dk_seg dksX0_count_3 22 rfl rfl
theorem dksX0_count_5 : cX0_count.data.toList.drop 144 = dktX0_count_5 := dk_seg dksX0_count_4 22 rfl rfl
theorem dksX0_count_6 : cX0_count.data.toList.drop 168 = dktX0_count_6 := dk_seg dksX0_count_5 24 rfl rfl
theorem dX0_count_0 : decode cX0_count 0 = .ok (.iload_n 1, 1) := dk_27 (dk_at dksX0_count_0 0 rfl rfl)
theorem dX0_count_1 : decode cX0_count 1 = .ok (.tableswitch 171 0 14 #[75, 83, 88, 93, 98, 98, 104, 98, 112, 120, 128, 139, 147, 155, 163], 75) := by decide +kernel
theorem dX0_count_76 : decode cX0_count 76 = .ok (.aload_n 0, 1) := dk_42 (dk_at dksX0_count_2 0 rfl rfl)
theorem dX0_count_77 : decode cX0_count 77 = .ok (.getfield 10, 3) := dk_180 0 10 (dk_at dksX0_count_2 1 rfl rfl)
theorem dX0_count_80 : decode cX0_count 80 = .ok (.invokevirtual 46, 3) := dk_182 0 46 (dk_at dksX0_count_2 4 rfl rfl)
theorem dX0_count_83 : decode cX0_count 83 = .ok (.ireturn, 1) := dk_172 (dk_at dksX0_count_2 7 rfl rfl)
theorem dX0_count_84 : decode cX0_count 84 = .ok (.aload_n 0, 1) := dk_42 (dk_at dksX0_count_2 8 rfl rfl)
theorem dX0_count_85 : decode cX0_count 85 = .ok (.invokevirtual 253, 3) := dk_182 0 253 (dk_at dksX0_count_2 9 rfl rfl)
theorem dX0_count_88 : decode cX0_count 88 = .ok (.ireturn, 1) := dk_172 (dk_at dksX0_count_2 12 rfl rfl)
theorem dX0_count_89 : decode cX0_count 89 = .ok (.aload_n 0, 1) := dk_42 (dk_at dksX0_count_2 13 rfl rfl)
theorem dX0_count_90 : decode cX0_count 90 = .ok (.invokevirtual 256, 3) := dk_182 1 0 (dk_at dksX0_count_2 14 rfl rfl)
theorem dX0_count_93 : decode cX0_count 93 = .ok (.ireturn, 1) := dk_172 (dk_at dksX0_count_2 17 rfl rfl)
theorem dX0_count_94 : decode cX0_count 94 = .ok (.aload_n 0, 1) := dk_42 (dk_at dksX0_count_2 18 rfl rfl)
theorem dX0_count_95 : decode cX0_count 95 = .ok (.invokevirtual 259, 3) := dk_182 1 3 (dk_at dksX0_count_2 19 rfl rfl)
theorem dX0_count_98 : decode cX0_count 98 = .ok (.ireturn, 1) := dk_172 (dk_at dksX0_count_2 22 rfl rfl)
theorem dX0_count_99 : decode cX0_count 99 = .ok (.aload_n 0, 1) := dk_42 (dk_at dksX0_count_2 23 rfl rfl)
theorem dX0_count_100 : decode cX0_count 100 = .ok (.iload_n 1, 1) := dk_27 (dk_at dksX0_count_3 0 rfl rfl)
theorem dX0_count_101 : decode cX0_count 101 = .ok (.invokevirtual 262, 3) := dk_182 1 6 (dk_at dksX0_count_3 1 rfl rfl)
theorem dX0_count_104 : decode cX0_count 104 = .ok (.ireturn, 1) := dk_172 (dk_at dksX0_count_3 4 rfl rfl)
theorem dX0_count_105 : decode cX0_count 105 = .ok (.aload_n 0, 1) := dk_42 (dk_at dksX0_count_3 5 rfl rfl)
theorem dX0_count_106 : decode cX0_count 106 = .ok (.getfield 10, 3) := dk_180 0 10 (dk_at dksX0_count_3 6 rfl rfl)
theorem dX0_count_109 : decode cX0_count 109 = .ok (.invokevirtual 265, 3) := dk_182 1 9 (dk_at dksX0_count_3 9 rfl rfl)
theorem dX0_count_112 : decode cX0_count 112 = .ok (.ireturn, 1) := dk_172 (dk_at dksX0_count_3 12 rfl rfl)
theorem dX0_count_113 : decode cX0_count 113 = .ok (.aload_n 0, 1) := dk_42 (dk_at dksX0_count_3 13 rfl rfl)
theorem dX0_count_114 : decode cX0_count 114 = .ok (.getfield 10, 3) := dk_180 0 10 (dk_at dksX0_count_3 14 rfl rfl)
theorem dX0_count_117 : decode cX0_count 117 = .ok (.invokevirtual 268, 3) := dk_182 1 12 (dk_at dksX0_count_3 17 rfl rfl)
theorem dX0_count_120 : decode cX0_count 120 = .ok (.ireturn, 1) := dk_172 (dk_at dksX0_count_3 20 rfl rfl)
theorem dX0_count_121 : decode cX0_count 121 = .ok (.aload_n 0, 1) := dk_42 (dk_at dksX0_count_3 21 rfl rfl)
theorem dX0_count_122 : decode cX0_count 122 = .ok (.getfield 10, 3) := dk_180 0 10 (dk_at dksX0_count_4 0 rfl rfl)
theorem dX0_count_125 : decode cX0_count 125 = .ok (.invokevirtual 271, 3) := dk_182 1 15 (dk_at dksX0_count_4 3 rfl rfl)
theorem dX0_count_128 : decode cX0_count 128 = .ok (.ireturn, 1) := dk_172 (dk_at dksX0_count_4 6 rfl rfl)
theorem dX0_count_129 : decode cX0_count 129 = .ok (.aload_n 0, 1) := dk_42 (dk_at dksX0_count_4 7 rfl rfl)
theorem dX0_count_130 : decode cX0_count 130 = .ok (.getfield 10, 3) := dk_180 0 10 (dk_at dksX0_count_4 8 rfl rfl)
theorem dX0_count_133 : decode cX0_count 133 = .ok (.invokevirtual 241, 3) := dk_182 0 241 (dk_at dksX0_count_4 11 rfl rfl)
theorem dX0_count_136 : decode cX0_count 136 = .ok (.invokevirtual 172, 3) := dk_182 0 172 (dk_at dksX0_count_4 14 rfl rfl)
theorem dX0_count_139 : decode cX0_count 139 = .ok (.ireturn, 1) := dk_172 (dk_at dksX0_count_4 17 rfl rfl)
theorem dX0_count_140 : decode cX0_count 140 = .ok (.aload_n 0, 1) := dk_42 (dk_at dksX0_count_4 18 rfl rfl)
theorem dX0_count_141 : decode cX0_count 141 = .ok (.getfield 10, 3) := dk_180 0 10 (dk_at dksX0_count_4 19 rfl rfl)
theorem dX0_count_144 : decode cX0_count 144 = .ok (.invokevirtual 274, 3) := dk_182 1 18 (dk_at dksX0_count_5 0 rfl rfl)
theorem dX0_count_147 : decode cX0_count 147 = .ok (.ireturn, 1) := dk_172 (dk_at dksX0_count_5 3 rfl rfl)
theorem dX0_count_148 : decode cX0_count 148 = .ok (.aload_n 0, 1) := dk_42 (dk_at dksX0_count_5 4 rfl rfl)
theorem dX0_count_149 : decode cX0_count 149 = .ok (.getfield 10, 3) := dk_180 0 10 (dk_at dksX0_count_5 5 rfl rfl)
theorem dX0_count_152 : decode cX0_count 152 = .ok (.getfield 73, 3) := dk_180 0 73 (dk_at dksX0_count_5 8 rfl rfl)
theorem dX0_count_155 : decode cX0_count 155 = .ok (.ireturn, 1) := dk_172 (dk_at dksX0_count_5 11 rfl rfl)
theorem dX0_count_156 : decode cX0_count 156 = .ok (.aload_n 0, 1) := dk_42 (dk_at dksX0_count_5 12 rfl rfl)
theorem dX0_count_157 : decode cX0_count 157 = .ok (.getfield 26, 3) := dk_180 0 26 (dk_at dksX0_count_5 13 rfl rfl)
theorem dX0_count_160 : decode cX0_count 160 = .ok (.invokevirtual 119, 3) := dk_182 0 119 (dk_at dksX0_count_5 16 rfl rfl)
theorem dX0_count_163 : decode cX0_count 163 = .ok (.ireturn, 1) := dk_172 (dk_at dksX0_count_5 19 rfl rfl)
theorem dX0_count_164 : decode cX0_count 164 = .ok (.aload_n 0, 1) := dk_42 (dk_at dksX0_count_5 20 rfl rfl)
theorem dX0_count_165 : decode cX0_count 165 = .ok (.getfield 19, 3) := dk_180 0 19 (dk_at dksX0_count_5 21 rfl rfl)
theorem dX0_count_168 : decode cX0_count 168 = .ok (.invokevirtual 30, 3) := dk_182 0 30 (dk_at dksX0_count_6 0 rfl rfl)
theorem dX0_count_171 : decode cX0_count 171 = .ok (.ireturn, 1) := dk_172 (dk_at dksX0_count_6 3 rfl rfl)
theorem dX0_count_172 : decode cX0_count 172 = .ok (.iconst (-1), 1) := dk_2 (dk_at dksX0_count_6 4 rfl rfl)
theorem dX0_count_173 : decode cX0_count 173 = .ok (.ireturn, 1) := dk_172 (dk_at dksX0_count_6 5 rfl rfl)
abbrev cX0_onGround : ByteArray := prog_1_method_28_code
def yX0_onGround : MethodName := ⟨RX0, "onGround", "()I"⟩
def dkwX0_onGround_1 : List UInt8 := [153, 0, 7, 4, 167, 0, 4, 3, 96, 60, 132, 2, 1, 167, 255, 223, 27, 172]
abbrev dktX0_onGround_1 : List UInt8 := dkwX0_onGround_1 ++ []
def dkwX0_onGround_0 : List UInt8 := [3, 60, 3, 61, 28, 42, 180, 0, 10, 182, 0, 46, 162, 0, 28, 27, 42, 180, 0, 10, 28, 182, 0, 189]
abbrev dktX0_onGround_0 : List UInt8 := dkwX0_onGround_0 ++ dktX0_onGround_1
theorem dksX0_onGround_0 : cX0_onGround.data.toList.drop 0 = dktX0_onGround_0 := by decide +kernel
theorem dksX0_onGround_1 : cX0_onGround.data.toList.drop 24 = dktX0_onGround_1 := dk_seg dksX0_onGround_0 24 rfl rfl
theorem dX0_onGround_0 : decode cX0_onGround 0 = .ok (.iconst 0, 1) := dk_3 (dk_at dksX0_onGround_0 0 rfl rfl)
theorem dX0_onGround_1 : decode cX0_onGround 1 = .ok (.istore_n 1, 1) := dk_60 (dk_at dksX0_onGround_0 1 rfl rfl)
theorem dX0_onGround_2 : decode cX0_onGround 2 = .ok (.iconst 0, 1) := dk_3 (dk_at dksX0_onGround_0 2 rfl rfl)
theorem dX0_onGround_3 : decode cX0_onGround 3 = .ok (.istore_n 2, 1) := dk_61 (dk_at dksX0_onGround_0 3 rfl rfl)
theorem dX0_onGround_4 : decode cX0_onGround 4 = .ok (.iload_n 2, 1) := dk_28 (dk_at dksX0_onGround_0 4 rfl rfl)
theorem dX0_onGround_5 : decode cX0_onGround 5 = .ok (.aload_n 0, 1) := dk_42 (dk_at dksX0_onGround_0 5 rfl rfl)
theorem dX0_onGround_6 : decode cX0_onGround 6 = .ok (.getfield 10, 3) := dk_180 0 10 (dk_at dksX0_onGround_0 6 rfl rfl)
theorem dX0_onGround_9 : decode cX0_onGround 9 = .ok (.invokevirtual 46, 3) := dk_182 0 46 (dk_at dksX0_onGround_0 9 rfl rfl)
theorem dX0_onGround_12 : decode cX0_onGround 12 = .ok (.if_icmp .ge 28, 3) := dk_162 0 28 (dk_at dksX0_onGround_0 12 rfl rfl)
theorem dX0_onGround_15 : decode cX0_onGround 15 = .ok (.iload_n 1, 1) := dk_27 (dk_at dksX0_onGround_0 15 rfl rfl)
theorem dX0_onGround_16 : decode cX0_onGround 16 = .ok (.aload_n 0, 1) := dk_42 (dk_at dksX0_onGround_0 16 rfl rfl)
theorem dX0_onGround_17 : decode cX0_onGround 17 = .ok (.getfield 10, 3) := dk_180 0 10 (dk_at dksX0_onGround_0 17 rfl rfl)
theorem dX0_onGround_20 : decode cX0_onGround 20 = .ok (.iload_n 2, 1) := dk_28 (dk_at dksX0_onGround_0 20 rfl rfl)
theorem dX0_onGround_21 : decode cX0_onGround 21 = .ok (.invokevirtual 189, 3) := dk_182 0 189 (dk_at dksX0_onGround_0 21 rfl rfl)
theorem dX0_onGround_24 : decode cX0_onGround 24 = .ok (.ifCond .eq 7, 3) := dk_153 0 7 (dk_at dksX0_onGround_1 0 rfl rfl)
theorem dX0_onGround_27 : decode cX0_onGround 27 = .ok (.iconst 1, 1) := dk_4 (dk_at dksX0_onGround_1 3 rfl rfl)
theorem dX0_onGround_28 : decode cX0_onGround 28 = .ok (.goto 4, 3) := dk_167 0 4 (dk_at dksX0_onGround_1 4 rfl rfl)
theorem dX0_onGround_31 : decode cX0_onGround 31 = .ok (.iconst 0, 1) := dk_3 (dk_at dksX0_onGround_1 7 rfl rfl)
theorem dX0_onGround_32 : decode cX0_onGround 32 = .ok (.iadd, 1) := dk_96 (dk_at dksX0_onGround_1 8 rfl rfl)
theorem dX0_onGround_33 : decode cX0_onGround 33 = .ok (.istore_n 1, 1) := dk_60 (dk_at dksX0_onGround_1 9 rfl rfl)
theorem dX0_onGround_34 : decode cX0_onGround 34 = .ok (.iinc 2 1, 3) := dk_132 2 1 (dk_at dksX0_onGround_1 10 rfl rfl)
theorem dX0_onGround_37 : decode cX0_onGround 37 = .ok (.goto (-33), 3) := dk_167 255 223 (dk_at dksX0_onGround_1 13 rfl rfl)
theorem dX0_onGround_40 : decode cX0_onGround 40 = .ok (.iload_n 1, 1) := dk_27 (dk_at dksX0_onGround_1 16 rfl rfl)
theorem dX0_onGround_41 : decode cX0_onGround 41 = .ok (.ireturn, 1) := dk_172 (dk_at dksX0_onGround_1 17 rfl rfl)
abbrev cX0_loose : ByteArray := prog_1_method_29_code
def yX0_loose : MethodName := ⟨RX0, "loose", "()I"⟩
def dkwX0_loose_1 : List UInt8 := [153, 0, 7, 4, 167, 0, 4, 3, 96, 60, 132, 2, 1, 167, 255, 223, 27, 172]
abbrev dktX0_loose_1 : List UInt8 := dkwX0_loose_1 ++ []
def dkwX0_loose_0 : List UInt8 := [3, 60, 3, 61, 28, 42, 180, 0, 10, 182, 0, 46, 162, 0, 28, 27, 42, 180, 0, 10, 28, 182, 0, 245]
abbrev dktX0_loose_0 : List UInt8 := dkwX0_loose_0 ++ dktX0_loose_1
theorem dksX0_loose_0 : cX0_loose.data.toList.drop 0 = dktX0_loose_0 := by decide +kernel
theorem dksX0_loose_1 : cX0_loose.data.toList.drop 24 = dktX0_loose_1 := dk_seg dksX0_loose_0 24 rfl rfl
theorem dX0_loose_0 : decode cX0_loose 0 = .ok (.iconst 0, 1) := dk_3 (dk_at dksX0_loose_0 0 rfl rfl)
theorem dX0_loose_1 : decode cX0_loose 1 = .ok (.istore_n 1, 1) := dk_60 (dk_at dksX0_loose_0 1 rfl rfl)
theorem dX0_loose_2 : decode cX0_loose 2 = .ok (.iconst 0, 1) := dk_3 (dk_at dksX0_loose_0 2 rfl rfl)
theorem dX0_loose_3 : decode cX0_loose 3 = .ok (.istore_n 2, 1) := dk_61 (dk_at dksX0_loose_0 3 rfl rfl)
theorem dX0_loose_4 : decode cX0_loose 4 = .ok (.iload_n 2, 1) := dk_28 (dk_at dksX0_loose_0 4 rfl rfl)
theorem dX0_loose_5 : decode cX0_loose 5 = .ok (.aload_n 0, 1) := dk_42 (dk_at dksX0_loose_0 5 rfl rfl)
theorem dX0_loose_6 : decode cX0_loose 6 = .ok (.getfield 10, 3) := dk_180 0 10 (dk_at dksX0_loose_0 6 rfl rfl)
theorem dX0_loose_9 : decode cX0_loose 9 = .ok (.invokevirtual 46, 3) := dk_182 0 46 (dk_at dksX0_loose_0 9 rfl rfl)
theorem dX0_loose_12 : decode cX0_loose 12 = .ok (.if_icmp .ge 28, 3) := dk_162 0 28 (dk_at dksX0_loose_0 12 rfl rfl)
theorem dX0_loose_15 : decode cX0_loose 15 = .ok (.iload_n 1, 1) := dk_27 (dk_at dksX0_loose_0 15 rfl rfl)
theorem dX0_loose_16 : decode cX0_loose 16 = .ok (.aload_n 0, 1) := dk_42 (dk_at dksX0_loose_0 16 rfl rfl)
theorem dX0_loose_17 : decode cX0_loose 17 = .ok (.getfield 10, 3) := dk_180 0 10 (dk_at dksX0_loose_0 17 rfl rfl)
theorem dX0_loose_20 : decode cX0_loose 20 = .ok (.iload_n 2, 1) := dk_28 (dk_at dksX0_loose_0 20 rfl rfl)
theorem dX0_loose_21 : decode cX0_loose 21 = .ok (.invokevirtual 245, 3) := dk_182 0 245 (dk_at dksX0_loose_0 21 rfl rfl)
theorem dX0_loose_24 : decode cX0_loose 24 = .ok (.ifCond .eq 7, 3) := dk_153 0 7 (dk_at dksX0_loose_1 0 rfl rfl)
theorem dX0_loose_27 : decode cX0_loose 27 = .ok (.iconst 1, 1) := dk_4 (dk_at dksX0_loose_1 3 rfl rfl)
theorem dX0_loose_28 : decode cX0_loose 28 = .ok (.goto 4, 3) := dk_167 0 4 (dk_at dksX0_loose_1 4 rfl rfl)
theorem dX0_loose_31 : decode cX0_loose 31 = .ok (.iconst 0, 1) := dk_3 (dk_at dksX0_loose_1 7 rfl rfl)
theorem dX0_loose_32 : decode cX0_loose 32 = .ok (.iadd, 1) := dk_96 (dk_at dksX0_loose_1 8 rfl rfl)
theorem dX0_loose_33 : decode cX0_loose 33 = .ok (.istore_n 1, 1) := dk_60 (dk_at dksX0_loose_1 9 rfl rfl)
theorem dX0_loose_34 : decode cX0_loose 34 = .ok (.iinc 2 1, 3) := dk_132 2 1 (dk_at dksX0_loose_1 10 rfl rfl)
theorem dX0_loose_37 : decode cX0_loose 37 = .ok (.goto (-33), 3) := dk_167 255 223 (dk_at dksX0_loose_1 13 rfl rfl)
theorem dX0_loose_40 : decode cX0_loose 40 = .ok (.iload_n 1, 1) := dk_27 (dk_at dksX0_loose_1 16 rfl rfl)
theorem dX0_loose_41 : decode cX0_loose 41 = .ok (.ireturn, 1) := dk_172 (dk_at dksX0_loose_1 17 rfl rfl)
abbrev cX0_deepest : ByteArray := prog_1_method_30_code
def yX0_deepest : MethodName := ⟨RX0, "deepest", "()I"⟩
def dkwX0_deepest_1 : List UInt8 := [184, 0, 248, 60, 132, 2, 1, 167, 255, 229, 27, 172]
abbrev dktX0_deepest_1 : List UInt8 := dkwX0_deepest_1 ++ []
def dkwX0_deepest_0 : List UInt8 := [3, 60, 3, 61, 28, 42, 180, 0, 10, 182, 0, 46, 162, 0, 22, 27, 42, 180, 0, 10, 28, 182, 0, 93]
abbrev dktX0_deepest_0 : List UInt8 := dkwX0_deepest_0 ++ dktX0_deepest_1
theorem dksX0_deepest_0 : cX0_deepest.data.toList.drop 0 = dktX0_deepest_0 := by decide +kernel
theorem dksX0_deepest_1 : cX0_deepest.data.toList.drop 24 = dktX0_deepest_1 := dk_seg dksX0_deepest_0 24 rfl rfl
theorem dX0_deepest_0 : decode cX0_deepest 0 = .ok (.iconst 0, 1) := dk_3 (dk_at dksX0_deepest_0 0 rfl rfl)
theorem dX0_deepest_1 : decode cX0_deepest 1 = .ok (.istore_n 1, 1) := dk_60 (dk_at dksX0_deepest_0 1 rfl rfl)
theorem dX0_deepest_2 : decode cX0_deepest 2 = .ok (.iconst 0, 1) := dk_3 (dk_at dksX0_deepest_0 2 rfl rfl)
theorem dX0_deepest_3 : decode cX0_deepest 3 = .ok (.istore_n 2, 1) := dk_61 (dk_at dksX0_deepest_0 3 rfl rfl)
theorem dX0_deepest_4 : decode cX0_deepest 4 = .ok (.iload_n 2, 1) := dk_28 (dk_at dksX0_deepest_0 4 rfl rfl)
theorem dX0_deepest_5 : decode cX0_deepest 5 = .ok (.aload_n 0, 1) := dk_42 (dk_at dksX0_deepest_0 5 rfl rfl)
theorem dX0_deepest_6 : decode cX0_deepest 6 = .ok (.getfield 10, 3) := dk_180 0 10 (dk_at dksX0_deepest_0 6 rfl rfl)
theorem dX0_deepest_9 : decode cX0_deepest 9 = .ok (.invokevirtual 46, 3) := dk_182 0 46 (dk_at dksX0_deepest_0 9 rfl rfl)
theorem dX0_deepest_12 : decode cX0_deepest 12 = .ok (.if_icmp .ge 22, 3) := dk_162 0 22 (dk_at dksX0_deepest_0 12 rfl rfl)
theorem dX0_deepest_15 : decode cX0_deepest 15 = .ok (.iload_n 1, 1) := dk_27 (dk_at dksX0_deepest_0 15 rfl rfl)
theorem dX0_deepest_16 : decode cX0_deepest 16 = .ok (.aload_n 0, 1) := dk_42 (dk_at dksX0_deepest_0 16 rfl rfl)
theorem dX0_deepest_17 : decode cX0_deepest 17 = .ok (.getfield 10, 3) := dk_180 0 10 (dk_at dksX0_deepest_0 17 rfl rfl)
theorem dX0_deepest_20 : decode cX0_deepest 20 = .ok (.iload_n 2, 1) := dk_28 (dk_at dksX0_deepest_0 20 rfl rfl)
theorem dX0_deepest_21 : decode cX0_deepest 21 = .ok (.invokevirtual 93, 3) := dk_182 0 93 (dk_at dksX0_deepest_0 21 rfl rfl)
theorem dX0_deepest_24 : decode cX0_deepest 24 = .ok (.invokestatic 248, 3) := dk_184 0 248 (dk_at dksX0_deepest_1 0 rfl rfl)
theorem dX0_deepest_27 : decode cX0_deepest 27 = .ok (.istore_n 1, 1) := dk_60 (dk_at dksX0_deepest_1 3 rfl rfl)
theorem dX0_deepest_28 : decode cX0_deepest 28 = .ok (.iinc 2 1, 3) := dk_132 2 1 (dk_at dksX0_deepest_1 4 rfl rfl)
theorem dX0_deepest_31 : decode cX0_deepest 31 = .ok (.goto (-27), 3) := dk_167 255 229 (dk_at dksX0_deepest_1 7 rfl rfl)
theorem dX0_deepest_34 : decode cX0_deepest 34 = .ok (.iload_n 1, 1) := dk_27 (dk_at dksX0_deepest_1 10 rfl rfl)
theorem dX0_deepest_35 : decode cX0_deepest 35 = .ok (.ireturn, 1) := dk_172 (dk_at dksX0_deepest_1 11 rfl rfl)
abbrev cX0_sumOf : ByteArray := prog_1_method_31_code
def yX0_sumOf : MethodName := ⟨RX0, "sumOf", "(I)I"⟩
def dkwX0_sumOf_3 : List UInt8 := [167, 255, 192, 28, 172]
abbrev dktX0_sumOf_3 : List UInt8 := dkwX0_sumOf_3 ++ []
def dkwX0_sumOf_2 : List UInt8 := [182, 0, 198, 167, 0, 15, 42, 180, 0, 10, 29, 182, 0, 103, 180, 0, 185, 190, 96, 61, 132, 3, 1]
abbrev dktX0_sumOf_2 : List UInt8 := dkwX0_sumOf_2 ++ dktX0_sumOf_3
def dkwX0_sumOf_1 : List UInt8 := [180, 0, 10, 29, 182, 0, 103, 180, 0, 162, 167, 0, 31, 27, 8, 160, 0, 14, 42, 180, 0, 10, 29]
abbrev dktX0_sumOf_1 : List UInt8 := dkwX0_sumOf_1 ++ dktX0_sumOf_2
def dkwX0_sumOf_0 : List UInt8 := [3, 61, 3, 62, 29, 42, 180, 0, 10, 182, 0, 46, 162, 0, 59, 28, 27, 7, 160, 0, 17, 42]
abbrev dktX0_sumOf_0 : List UInt8 := dkwX0_sumOf_0 ++ dktX0_sumOf_1
theorem dksX0_sumOf_0 : cX0_sumOf.data.toList.drop 0 = dktX0_sumOf_0 := by decide +kernel
theorem dksX0_sumOf_1 : cX0_sumOf.data.toList.drop 22 = dktX0_sumOf_1 := dk_seg dksX0_sumOf_0 22 rfl rfl
theorem dksX0_sumOf_2 : cX0_sumOf.data.toList.drop 45 = dktX0_sumOf_2 := dk_seg dksX0_sumOf_1 23 rfl rfl
theorem dksX0_sumOf_3 : cX0_sumOf.data.toList.drop 68 = dktX0_sumOf_3 := dk_seg dksX0_sumOf_2 23 rfl rfl
theorem dX0_sumOf_0 : decode cX0_sumOf 0 = .ok (.iconst 0, 1) := dk_3 (dk_at dksX0_sumOf_0 0 rfl rfl)
theorem dX0_sumOf_1 : decode cX0_sumOf 1 = .ok (.istore_n 2, 1) := dk_61 (dk_at dksX0_sumOf_0 1 rfl rfl)
theorem dX0_sumOf_2 : decode cX0_sumOf 2 = .ok (.iconst 0, 1) := dk_3 (dk_at dksX0_sumOf_0 2 rfl rfl)
theorem dX0_sumOf_3 : decode cX0_sumOf 3 = .ok (.istore_n 3, 1) := dk_62 (dk_at dksX0_sumOf_0 3 rfl rfl)
theorem dX0_sumOf_4 : decode cX0_sumOf 4 = .ok (.iload_n 3, 1) := dk_29 (dk_at dksX0_sumOf_0 4 rfl rfl)
theorem dX0_sumOf_5 : decode cX0_sumOf 5 = .ok (.aload_n 0, 1) := dk_42 (dk_at dksX0_sumOf_0 5 rfl rfl)
theorem dX0_sumOf_6 : decode cX0_sumOf 6 = .ok (.getfield 10, 3) := dk_180 0 10 (dk_at dksX0_sumOf_0 6 rfl rfl)
theorem dX0_sumOf_9 : decode cX0_sumOf 9 = .ok (.invokevirtual 46, 3) := dk_182 0 46 (dk_at dksX0_sumOf_0 9 rfl rfl)
theorem dX0_sumOf_12 : decode cX0_sumOf 12 = .ok (.if_icmp .ge 59, 3) := dk_162 0 59 (dk_at dksX0_sumOf_0 12 rfl rfl)
theorem dX0_sumOf_15 : decode cX0_sumOf 15 = .ok (.iload_n 2, 1) := dk_28 (dk_at dksX0_sumOf_0 15 rfl rfl)
theorem dX0_sumOf_16 : decode cX0_sumOf 16 = .ok (.iload_n 1, 1) := dk_27 (dk_at dksX0_sumOf_0 16 rfl rfl)
theorem dX0_sumOf_17 : decode cX0_sumOf 17 = .ok (.iconst 4, 1) := dk_7 (dk_at dksX0_sumOf_0 17 rfl rfl)
theorem dX0_sumOf_18 : decode cX0_sumOf 18 = .ok (.if_icmp .ne 17, 3) := dk_160 0 17 (dk_at dksX0_sumOf_0 18 rfl rfl)
theorem dX0_sumOf_21 : decode cX0_sumOf 21 = .ok (.aload_n 0, 1) := dk_42 (dk_at dksX0_sumOf_0 21 rfl rfl)
theorem dX0_sumOf_22 : decode cX0_sumOf 22 = .ok (.getfield 10, 3) := dk_180 0 10 (dk_at dksX0_sumOf_1 0 rfl rfl)
theorem dX0_sumOf_25 : decode cX0_sumOf 25 = .ok (.iload_n 3, 1) := dk_29 (dk_at dksX0_sumOf_1 3 rfl rfl)
theorem dX0_sumOf_26 : decode cX0_sumOf 26 = .ok (.invokevirtual 103, 3) := dk_182 0 103 (dk_at dksX0_sumOf_1 4 rfl rfl)
theorem dX0_sumOf_29 : decode cX0_sumOf 29 = .ok (.getfield 162, 3) := dk_180 0 162 (dk_at dksX0_sumOf_1 7 rfl rfl)
theorem dX0_sumOf_32 : decode cX0_sumOf 32 = .ok (.goto 31, 3) := dk_167 0 31 (dk_at dksX0_sumOf_1 10 rfl rfl)
theorem dX0_sumOf_35 : decode cX0_sumOf 35 = .ok (.iload_n 1, 1) := dk_27 (dk_at dksX0_sumOf_1 13 rfl rfl)
theorem dX0_sumOf_36 : decode cX0_sumOf 36 = .ok (.iconst 5, 1) := dk_8 (dk_at dksX0_sumOf_1 14 rfl rfl)
theorem dX0_sumOf_37 : decode cX0_sumOf 37 = .ok (.if_icmp .ne 14, 3) := dk_160 0 14 (dk_at dksX0_sumOf_1 15 rfl rfl)
theorem dX0_sumOf_40 : decode cX0_sumOf 40 = .ok (.aload_n 0, 1) := dk_42 (dk_at dksX0_sumOf_1 18 rfl rfl)
theorem dX0_sumOf_41 : decode cX0_sumOf 41 = .ok (.getfield 10, 3) := dk_180 0 10 (dk_at dksX0_sumOf_1 19 rfl rfl)
theorem dX0_sumOf_44 : decode cX0_sumOf 44 = .ok (.iload_n 3, 1) := dk_29 (dk_at dksX0_sumOf_1 22 rfl rfl)
theorem dX0_sumOf_45 : decode cX0_sumOf 45 = .ok (.invokevirtual 198, 3) := dk_182 0 198 (dk_at dksX0_sumOf_2 0 rfl rfl)
theorem dX0_sumOf_48 : decode cX0_sumOf 48 = .ok (.goto 15, 3) := dk_167 0 15 (dk_at dksX0_sumOf_2 3 rfl rfl)
theorem dX0_sumOf_51 : decode cX0_sumOf 51 = .ok (.aload_n 0, 1) := dk_42 (dk_at dksX0_sumOf_2 6 rfl rfl)
theorem dX0_sumOf_52 : decode cX0_sumOf 52 = .ok (.getfield 10, 3) := dk_180 0 10 (dk_at dksX0_sumOf_2 7 rfl rfl)
theorem dX0_sumOf_55 : decode cX0_sumOf 55 = .ok (.iload_n 3, 1) := dk_29 (dk_at dksX0_sumOf_2 10 rfl rfl)
theorem dX0_sumOf_56 : decode cX0_sumOf 56 = .ok (.invokevirtual 103, 3) := dk_182 0 103 (dk_at dksX0_sumOf_2 11 rfl rfl)
theorem dX0_sumOf_59 : decode cX0_sumOf 59 = .ok (.getfield 185, 3) := dk_180 0 185 (dk_at dksX0_sumOf_2 14 rfl rfl)
theorem dX0_sumOf_62 : decode cX0_sumOf 62 = .ok (.arraylength, 1) := dk_190 (dk_at dksX0_sumOf_2 17 rfl rfl)
theorem dX0_sumOf_63 : decode cX0_sumOf 63 = .ok (.iadd, 1) := dk_96 (dk_at dksX0_sumOf_2 18 rfl rfl)
theorem dX0_sumOf_64 : decode cX0_sumOf 64 = .ok (.istore_n 2, 1) := dk_61 (dk_at dksX0_sumOf_2 19 rfl rfl)
theorem dX0_sumOf_65 : decode cX0_sumOf 65 = .ok (.iinc 3 1, 3) := dk_132 3 1 (dk_at dksX0_sumOf_2 20 rfl rfl)
theorem dX0_sumOf_68 : decode cX0_sumOf 68 = .ok (.goto (-64), 3) := dk_167 255 192 (dk_at dksX0_sumOf_3 0 rfl rfl)
theorem dX0_sumOf_71 : decode cX0_sumOf 71 = .ok (.iload_n 2, 1) := dk_28 (dk_at dksX0_sumOf_3 3 rfl rfl)
theorem dX0_sumOf_72 : decode cX0_sumOf 72 = .ok (.ireturn, 1) := dk_172 (dk_at dksX0_sumOf_3 4 rfl rfl)
abbrev cX0_full : ByteArray := prog_1_method_33_code
def yX0_full : MethodName := ⟨RX0, "full", "()D"⟩
def dkwX0_full_3 : List UInt8 := [167, 0, 8, 27, 135, 28, 135, 111, 175]
abbrev dktX0_full_3 : List UInt8 := dkwX0_full_3 ++ []
def dkwX0_full_2 : List UInt8 := [42, 180, 0, 10, 29, 182, 0, 103, 180, 0, 164, 96, 61, 132, 3, 1, 167, 255, 199, 28, 154, 0, 7, 14]
abbrev dktX0_full_2 : List UInt8 := dkwX0_full_2 ++ dktX0_full_3
def dkwX0_full_1 : List UInt8 := [182, 0, 189, 153, 0, 7, 3, 167, 0, 14, 42, 180, 0, 10, 29, 182, 0, 103, 180, 0, 162, 96, 60, 28]
abbrev dktX0_full_1 : List UInt8 := dkwX0_full_1 ++ dktX0_full_2
def dkwX0_full_0 : List UInt8 := [3, 60, 3, 61, 3, 62, 29, 42, 180, 0, 10, 182, 0, 46, 162, 0, 52, 27, 42, 180, 0, 10, 29]
abbrev dktX0_full_0 : List UInt8 := dkwX0_full_0 ++ dktX0_full_1
theorem dksX0_full_0 : cX0_full.data.toList.drop 0 = dktX0_full_0 := by decide +kernel
theorem dksX0_full_1 : cX0_full.data.toList.drop 23 = dktX0_full_1 := dk_seg dksX0_full_0 23 rfl rfl
theorem dksX0_full_2 : cX0_full.data.toList.drop 47 = dktX0_full_2 := dk_seg dksX0_full_1 24 rfl rfl
theorem dksX0_full_3 : cX0_full.data.toList.drop 71 = dktX0_full_3 := dk_seg dksX0_full_2 24 rfl rfl
theorem dX0_full_0 : decode cX0_full 0 = .ok (.iconst 0, 1) := dk_3 (dk_at dksX0_full_0 0 rfl rfl)
theorem dX0_full_1 : decode cX0_full 1 = .ok (.istore_n 1, 1) := dk_60 (dk_at dksX0_full_0 1 rfl rfl)
theorem dX0_full_2 : decode cX0_full 2 = .ok (.iconst 0, 1) := dk_3 (dk_at dksX0_full_0 2 rfl rfl)
theorem dX0_full_3 : decode cX0_full 3 = .ok (.istore_n 2, 1) := dk_61 (dk_at dksX0_full_0 3 rfl rfl)
theorem dX0_full_4 : decode cX0_full 4 = .ok (.iconst 0, 1) := dk_3 (dk_at dksX0_full_0 4 rfl rfl)
theorem dX0_full_5 : decode cX0_full 5 = .ok (.istore_n 3, 1) := dk_62 (dk_at dksX0_full_0 5 rfl rfl)
theorem dX0_full_6 : decode cX0_full 6 = .ok (.iload_n 3, 1) := dk_29 (dk_at dksX0_full_0 6 rfl rfl)
theorem dX0_full_7 : decode cX0_full 7 = .ok (.aload_n 0, 1) := dk_42 (dk_at dksX0_full_0 7 rfl rfl)
theorem dX0_full_8 : decode cX0_full 8 = .ok (.getfield 10, 3) := dk_180 0 10 (dk_at dksX0_full_0 8 rfl rfl)
theorem dX0_full_11 : decode cX0_full 11 = .ok (.invokevirtual 46, 3) := dk_182 0 46 (dk_at dksX0_full_0 11 rfl rfl)
theorem dX0_full_14 : decode cX0_full 14 = .ok (.if_icmp .ge 52, 3) := dk_162 0 52 (dk_at dksX0_full_0 14 rfl rfl)
theorem dX0_full_17 : decode cX0_full 17 = .ok (.iload_n 1, 1) := dk_27 (dk_at dksX0_full_0 17 rfl rfl)
theorem dX0_full_18 : decode cX0_full 18 = .ok (.aload_n 0, 1) := dk_42 (dk_at dksX0_full_0 18 rfl rfl)
theorem dX0_full_19 : decode cX0_full 19 = .ok (.getfield 10, 3) := dk_180 0 10 (dk_at dksX0_full_0 19 rfl rfl)
theorem dX0_full_22 : decode cX0_full 22 = .ok (.iload_n 3, 1) := dk_29 (dk_at dksX0_full_0 22 rfl rfl)
theorem dX0_full_23 : decode cX0_full 23 = .ok (.invokevirtual 189, 3) := dk_182 0 189 (dk_at dksX0_full_1 0 rfl rfl)
theorem dX0_full_26 : decode cX0_full 26 = .ok (.ifCond .eq 7, 3) := dk_153 0 7 (dk_at dksX0_full_1 3 rfl rfl)
theorem dX0_full_29 : decode cX0_full 29 = .ok (.iconst 0, 1) := dk_3 (dk_at dksX0_full_1 6 rfl rfl)
theorem dX0_full_30 : decode cX0_full 30 = .ok (.goto 14, 3) := dk_167 0 14 (dk_at dksX0_full_1 7 rfl rfl)
theorem dX0_full_33 : decode cX0_full 33 = .ok (.aload_n 0, 1) := dk_42 (dk_at dksX0_full_1 10 rfl rfl)
theorem dX0_full_34 : decode cX0_full 34 = .ok (.getfield 10, 3) := dk_180 0 10 (dk_at dksX0_full_1 11 rfl rfl)
theorem dX0_full_37 : decode cX0_full 37 = .ok (.iload_n 3, 1) := dk_29 (dk_at dksX0_full_1 14 rfl rfl)
theorem dX0_full_38 : decode cX0_full 38 = .ok (.invokevirtual 103, 3) := dk_182 0 103 (dk_at dksX0_full_1 15 rfl rfl)
theorem dX0_full_41 : decode cX0_full 41 = .ok (.getfield 162, 3) := dk_180 0 162 (dk_at dksX0_full_1 18 rfl rfl)
theorem dX0_full_44 : decode cX0_full 44 = .ok (.iadd, 1) := dk_96 (dk_at dksX0_full_1 21 rfl rfl)
theorem dX0_full_45 : decode cX0_full 45 = .ok (.istore_n 1, 1) := dk_60 (dk_at dksX0_full_1 22 rfl rfl)
theorem dX0_full_46 : decode cX0_full 46 = .ok (.iload_n 2, 1) := dk_28 (dk_at dksX0_full_1 23 rfl rfl)
theorem dX0_full_47 : decode cX0_full 47 = .ok (.aload_n 0, 1) := dk_42 (dk_at dksX0_full_2 0 rfl rfl)
theorem dX0_full_48 : decode cX0_full 48 = .ok (.getfield 10, 3) := dk_180 0 10 (dk_at dksX0_full_2 1 rfl rfl)
theorem dX0_full_51 : decode cX0_full 51 = .ok (.iload_n 3, 1) := dk_29 (dk_at dksX0_full_2 4 rfl rfl)
theorem dX0_full_52 : decode cX0_full 52 = .ok (.invokevirtual 103, 3) := dk_182 0 103 (dk_at dksX0_full_2 5 rfl rfl)
theorem dX0_full_55 : decode cX0_full 55 = .ok (.getfield 164, 3) := dk_180 0 164 (dk_at dksX0_full_2 8 rfl rfl)
theorem dX0_full_58 : decode cX0_full 58 = .ok (.iadd, 1) := dk_96 (dk_at dksX0_full_2 11 rfl rfl)
theorem dX0_full_59 : decode cX0_full 59 = .ok (.istore_n 2, 1) := dk_61 (dk_at dksX0_full_2 12 rfl rfl)
theorem dX0_full_60 : decode cX0_full 60 = .ok (.iinc 3 1, 3) := dk_132 3 1 (dk_at dksX0_full_2 13 rfl rfl)
theorem dX0_full_63 : decode cX0_full 63 = .ok (.goto (-57), 3) := dk_167 255 199 (dk_at dksX0_full_2 16 rfl rfl)
theorem dX0_full_66 : decode cX0_full 66 = .ok (.iload_n 2, 1) := dk_28 (dk_at dksX0_full_2 19 rfl rfl)
theorem dX0_full_67 : decode cX0_full 67 = .ok (.ifCond .ne 7, 3) := dk_154 0 7 (dk_at dksX0_full_2 20 rfl rfl)
theorem dX0_full_70 : decode cX0_full 70 = .ok (.dconst 0, 1) := dk_14 (dk_at dksX0_full_2 23 rfl rfl)
theorem dX0_full_71 : decode cX0_full 71 = .ok (.goto 8, 3) := dk_167 0 8 (dk_at dksX0_full_3 0 rfl rfl)
theorem dX0_full_74 : decode cX0_full 74 = .ok (.iload_n 1, 1) := dk_27 (dk_at dksX0_full_3 3 rfl rfl)
theorem dX0_full_75 : decode cX0_full 75 = .ok (.i2d, 1) := dk_135 (dk_at dksX0_full_3 4 rfl rfl)
theorem dX0_full_76 : decode cX0_full 76 = .ok (.iload_n 2, 1) := dk_28 (dk_at dksX0_full_3 5 rfl rfl)
theorem dX0_full_77 : decode cX0_full 77 = .ok (.i2d, 1) := dk_135 (dk_at dksX0_full_3 6 rfl rfl)
theorem dX0_full_78 : decode cX0_full 78 = .ok (.ddiv, 1) := dk_111 (dk_at dksX0_full_3 7 rfl rfl)
theorem dX0_full_79 : decode cX0_full 79 = .ok (.dreturn, 1) := dk_175 (dk_at dksX0_full_3 8 rfl rfl)
abbrev cX0_ifTurned : ByteArray := prog_1_method_35_code
def yX0_ifTurned : MethodName := ⟨RX0, "ifTurned", "(II)I"⟩
def dkwX0_ifTurned_1 : List UInt8 := [78, 28, 154, 0, 10, 45, 182, 1, 12, 167, 0, 7, 45, 182, 1, 9, 172]
abbrev dktX0_ifTurned_1 : List UInt8 := dkwX0_ifTurned_1 ++ []
def dkwX0_ifTurned_0 : List UInt8 := [42, 27, 182, 0, 77, 153, 0, 12, 28, 3, 4, 184, 0, 47, 154, 0, 5, 2, 172, 42, 27, 182, 1, 21]
abbrev dktX0_ifTurned_0 : List UInt8 := dkwX0_ifTurned_0 ++ dktX0_ifTurned_1
theorem dksX0_ifTurned_0 : cX0_ifTurned.data.toList.drop 0 = dktX0_ifTurned_0 := by decide +kernel
theorem dksX0_ifTurned_1 : cX0_ifTurned.data.toList.drop 24 = dktX0_ifTurned_1 := dk_seg dksX0_ifTurned_0 24 rfl rfl
theorem dX0_ifTurned_0 : decode cX0_ifTurned 0 = .ok (.aload_n 0, 1) := dk_42 (dk_at dksX0_ifTurned_0 0 rfl rfl)
theorem dX0_ifTurned_1 : decode cX0_ifTurned 1 = .ok (.iload_n 1, 1) := dk_27 (dk_at dksX0_ifTurned_0 1 rfl rfl)
theorem dX0_ifTurned_2 : decode cX0_ifTurned 2 = .ok (.invokevirtual 77, 3) := dk_182 0 77 (dk_at dksX0_ifTurned_0 2 rfl rfl)
theorem dX0_ifTurned_5 : decode cX0_ifTurned 5 = .ok (.ifCond .eq 12, 3) := dk_153 0 12 (dk_at dksX0_ifTurned_0 5 rfl rfl)
theorem dX0_ifTurned_8 : decode cX0_ifTurned 8 = .ok (.iload_n 2, 1) := dk_28 (dk_at dksX0_ifTurned_0 8 rfl rfl)
theorem dX0_ifTurned_9 : decode cX0_ifTurned 9 = .ok (.iconst 0, 1) := dk_3 (dk_at dksX0_ifTurned_0 9 rfl rfl)
theorem dX0_ifTurned_10 : decode cX0_ifTurned 10 = .ok (.iconst 1, 1) := dk_4 (dk_at dksX0_ifTurned_0 10 rfl rfl)
theorem dX0_ifTurned_11 : decode cX0_ifTurned 11 = .ok (.invokestatic 47, 3) := dk_184 0 47 (dk_at dksX0_ifTurned_0 11 rfl rfl)
theorem dX0_ifTurned_14 : decode cX0_ifTurned 14 = .ok (.ifCond .ne 5, 3) := dk_154 0 5 (dk_at dksX0_ifTurned_0 14 rfl rfl)
theorem dX0_ifTurned_17 : decode cX0_ifTurned 17 = .ok (.iconst (-1), 1) := dk_2 (dk_at dksX0_ifTurned_0 17 rfl rfl)
theorem dX0_ifTurned_18 : decode cX0_ifTurned 18 = .ok (.ireturn, 1) := dk_172 (dk_at dksX0_ifTurned_0 18 rfl rfl)
theorem dX0_ifTurned_19 : decode cX0_ifTurned 19 = .ok (.aload_n 0, 1) := dk_42 (dk_at dksX0_ifTurned_0 19 rfl rfl)
theorem dX0_ifTurned_20 : decode cX0_ifTurned 20 = .ok (.iload_n 1, 1) := dk_27 (dk_at dksX0_ifTurned_0 20 rfl rfl)
theorem dX0_ifTurned_21 : decode cX0_ifTurned 21 = .ok (.invokevirtual 277, 3) := dk_182 1 21 (dk_at dksX0_ifTurned_0 21 rfl rfl)
theorem dX0_ifTurned_24 : decode cX0_ifTurned 24 = .ok (.astore_n 3, 1) := dk_78 (dk_at dksX0_ifTurned_1 0 rfl rfl)
theorem dX0_ifTurned_25 : decode cX0_ifTurned 25 = .ok (.iload_n 2, 1) := dk_28 (dk_at dksX0_ifTurned_1 1 rfl rfl)
theorem dX0_ifTurned_26 : decode cX0_ifTurned 26 = .ok (.ifCond .ne 10, 3) := dk_154 0 10 (dk_at dksX0_ifTurned_1 2 rfl rfl)
theorem dX0_ifTurned_29 : decode cX0_ifTurned 29 = .ok (.aload_n 3, 1) := dk_45 (dk_at dksX0_ifTurned_1 5 rfl rfl)
theorem dX0_ifTurned_30 : decode cX0_ifTurned 30 = .ok (.invokevirtual 268, 3) := dk_182 1 12 (dk_at dksX0_ifTurned_1 6 rfl rfl)
theorem dX0_ifTurned_33 : decode cX0_ifTurned 33 = .ok (.goto 7, 3) := dk_167 0 7 (dk_at dksX0_ifTurned_1 9 rfl rfl)
theorem dX0_ifTurned_36 : decode cX0_ifTurned 36 = .ok (.aload_n 3, 1) := dk_45 (dk_at dksX0_ifTurned_1 12 rfl rfl)
theorem dX0_ifTurned_37 : decode cX0_ifTurned 37 = .ok (.invokevirtual 265, 3) := dk_182 1 9 (dk_at dksX0_ifTurned_1 13 rfl rfl)
theorem dX0_ifTurned_40 : decode cX0_ifTurned 40 = .ok (.ireturn, 1) := dk_172 (dk_at dksX0_ifTurned_1 16 rfl rfl)
abbrev cX0_turnedOnce : ByteArray := prog_1_method_34_code
def yX0_turnedOnce : MethodName := ⟨RX0, "turnedOnce", "(I)LSlatCrates$Yard;"⟩
def dkwX0_turnedOnce_0 : List UInt8 := [42, 180, 0, 10, 182, 0, 38, 77, 44, 27, 182, 0, 103, 182, 0, 107, 44, 176]
abbrev dktX0_turnedOnce_0 : List UInt8 := dkwX0_turnedOnce_0 ++ []
theorem dksX0_turnedOnce_0 : cX0_turnedOnce.data.toList.drop 0 = dktX0_turnedOnce_0 := by decide +kernel
theorem dX0_turnedOnce_0 : decode cX0_turnedOnce 0 = .ok (.aload_n 0, 1) := dk_42 (dk_at dksX0_turnedOnce_0 0 rfl rfl)
theorem dX0_turnedOnce_1 : decode cX0_turnedOnce 1 = .ok (.getfield 10, 3) := dk_180 0 10 (dk_at dksX0_turnedOnce_0 1 rfl rfl)
theorem dX0_turnedOnce_4 : decode cX0_turnedOnce 4 = .ok (.invokevirtual 38, 3) := dk_182 0 38 (dk_at dksX0_turnedOnce_0 4 rfl rfl)
theorem dX0_turnedOnce_7 : decode cX0_turnedOnce 7 = .ok (.astore_n 2, 1) := dk_77 (dk_at dksX0_turnedOnce_0 7 rfl rfl)
theorem dX0_turnedOnce_8 : decode cX0_turnedOnce 8 = .ok (.aload_n 2, 1) := dk_44 (dk_at dksX0_turnedOnce_0 8 rfl rfl)
theorem dX0_turnedOnce_9 : decode cX0_turnedOnce 9 = .ok (.iload_n 1, 1) := dk_27 (dk_at dksX0_turnedOnce_0 9 rfl rfl)
theorem dX0_turnedOnce_10 : decode cX0_turnedOnce 10 = .ok (.invokevirtual 103, 3) := dk_182 0 103 (dk_at dksX0_turnedOnce_0 10 rfl rfl)
theorem dX0_turnedOnce_13 : decode cX0_turnedOnce 13 = .ok (.invokevirtual 107, 3) := dk_182 0 107 (dk_at dksX0_turnedOnce_0 13 rfl rfl)
theorem dX0_turnedOnce_16 : decode cX0_turnedOnce 16 = .ok (.aload_n 2, 1) := dk_44 (dk_at dksX0_turnedOnce_0 16 rfl rfl)
theorem dX0_turnedOnce_17 : decode cX0_turnedOnce 17 = .ok (.areturn, 1) := dk_176 (dk_at dksX0_turnedOnce_0 17 rfl rfl)
abbrev cX0_bestTurn : ByteArray := prog_1_method_36_code
def yX0_bestTurn : MethodName := ⟨RX0, "bestTurn", "()I"⟩
def dkwX0_bestTurn_2 : List UInt8 := [132, 3, 1, 167, 255, 213, 27, 172]
abbrev dktX0_bestTurn_2 : List UInt8 := dkwX0_bestTurn_2 ++ []
def dkwX0_bestTurn_1 : List UInt8 := [182, 1, 12, 54, 4, 21, 4, 28, 164, 0, 7, 29, 167, 0, 4, 27, 60, 28, 21, 4, 184, 0, 248, 61]
abbrev dktX0_bestTurn_1 : List UInt8 := dkwX0_bestTurn_1 ++ dktX0_bestTurn_2
def dkwX0_bestTurn_0 : List UInt8 := [16, 252, 60, 2, 61, 3, 62, 29, 42, 180, 0, 10, 182, 0, 46, 162, 0, 38, 42, 29, 182, 1, 21]
abbrev dktX0_bestTurn_0 : List UInt8 := dkwX0_bestTurn_0 ++ dktX0_bestTurn_1
theorem dksX0_bestTurn_0 : cX0_bestTurn.data.toList.drop 0 = dktX0_bestTurn_0 := by decide +kernel
theorem dksX0_bestTurn_1 : cX0_bestTurn.data.toList.drop 23 = dktX0_bestTurn_1 := dk_seg dksX0_bestTurn_0 23 rfl rfl
theorem dksX0_bestTurn_2 : cX0_bestTurn.data.toList.drop 47 = dktX0_bestTurn_2 := dk_seg dksX0_bestTurn_1 24 rfl rfl
theorem dX0_bestTurn_0 : decode cX0_bestTurn 0 = .ok (.bipush (-4), 2) := dk_16 252 (dk_at dksX0_bestTurn_0 0 rfl rfl)
theorem dX0_bestTurn_2 : decode cX0_bestTurn 2 = .ok (.istore_n 1, 1) := dk_60 (dk_at dksX0_bestTurn_0 2 rfl rfl)
theorem dX0_bestTurn_3 : decode cX0_bestTurn 3 = .ok (.iconst (-1), 1) := dk_2 (dk_at dksX0_bestTurn_0 3 rfl rfl)
theorem dX0_bestTurn_4 : decode cX0_bestTurn 4 = .ok (.istore_n 2, 1) := dk_61 (dk_at dksX0_bestTurn_0 4 rfl rfl)
theorem dX0_bestTurn_5 : decode cX0_bestTurn 5 = .ok (.iconst 0, 1) := dk_3 (dk_at dksX0_bestTurn_0 5 rfl rfl)
theorem dX0_bestTurn_6 : decode cX0_bestTurn 6 = .ok (.istore_n 3, 1) := dk_62 (dk_at dksX0_bestTurn_0 6 rfl rfl)
theorem dX0_bestTurn_7 : decode cX0_bestTurn 7 = .ok (.iload_n 3, 1) := dk_29 (dk_at dksX0_bestTurn_0 7 rfl rfl)
theorem dX0_bestTurn_8 : decode cX0_bestTurn 8 = .ok (.aload_n 0, 1) := dk_42 (dk_at dksX0_bestTurn_0 8 rfl rfl)
theorem dX0_bestTurn_9 : decode cX0_bestTurn 9 = .ok (.getfield 10, 3) := dk_180 0 10 (dk_at dksX0_bestTurn_0 9 rfl rfl)
theorem dX0_bestTurn_12 : decode cX0_bestTurn 12 = .ok (.invokevirtual 46, 3) := dk_182 0 46 (dk_at dksX0_bestTurn_0 12 rfl rfl)
theorem dX0_bestTurn_15 : decode cX0_bestTurn 15 = .ok (.if_icmp .ge 38, 3) := dk_162 0 38 (dk_at dksX0_bestTurn_0 15 rfl rfl)
theorem dX0_bestTurn_18 : decode cX0_bestTurn 18 = .ok (.aload_n 0, 1) := dk_42 (dk_at dksX0_bestTurn_0 18 rfl rfl)
theorem dX0_bestTurn_19 : decode cX0_bestTurn 19 = .ok (.iload_n 3, 1) := dk_29 (dk_at dksX0_bestTurn_0 19 rfl rfl)
theorem dX0_bestTurn_20 : decode cX0_bestTurn 20 = .ok (.invokevirtual 277, 3) := dk_182 1 21 (dk_at dksX0_bestTurn_0 20 rfl rfl)
theorem dX0_bestTurn_23 : decode cX0_bestTurn 23 = .ok (.invokevirtual 268, 3) := dk_182 1 12 (dk_at dksX0_bestTurn_1 0 rfl rfl)
theorem dX0_bestTurn_26 : decode cX0_bestTurn 26 = .ok (.istore 4, 2) := dk_54 4 (dk_at dksX0_bestTurn_1 3 rfl rfl)
theorem dX0_bestTurn_28 : decode cX0_bestTurn 28 = .ok (.iload 4, 2) := dk_21 4 (dk_at dksX0_bestTurn_1 5 rfl rfl)
theorem dX0_bestTurn_30 : decode cX0_bestTurn 30 = .ok (.iload_n 2, 1) := dk_28 (dk_at dksX0_bestTurn_1 7 rfl rfl)
theorem dX0_bestTurn_31 : decode cX0_bestTurn 31 = .ok (.if_icmp .le 7, 3) := dk_164 0 7 (dk_at dksX0_bestTurn_1 8 rfl rfl)
theorem dX0_bestTurn_34 : decode cX0_bestTurn 34 = .ok (.iload_n 3, 1) := dk_29 (dk_at dksX0_bestTurn_1 11 rfl rfl)
theorem dX0_bestTurn_35 : decode cX0_bestTurn 35 = .ok (.goto 4, 3) := dk_167 0 4 (dk_at dksX0_bestTurn_1 12 rfl rfl)
theorem dX0_bestTurn_38 : decode cX0_bestTurn 38 = .ok (.iload_n 1, 1) := dk_27 (dk_at dksX0_bestTurn_1 15 rfl rfl)
theorem dX0_bestTurn_39 : decode cX0_bestTurn 39 = .ok (.istore_n 1, 1) := dk_60 (dk_at dksX0_bestTurn_1 16 rfl rfl)
theorem dX0_bestTurn_40 : decode cX0_bestTurn 40 = .ok (.iload_n 2, 1) := dk_28 (dk_at dksX0_bestTurn_1 17 rfl rfl)
theorem dX0_bestTurn_41 : decode cX0_bestTurn 41 = .ok (.iload 4, 2) := dk_21 4 (dk_at dksX0_bestTurn_1 18 rfl rfl)
theorem dX0_bestTurn_43 : decode cX0_bestTurn 43 = .ok (.invokestatic 248, 3) := dk_184 0 248 (dk_at dksX0_bestTurn_1 20 rfl rfl)
theorem dX0_bestTurn_46 : decode cX0_bestTurn 46 = .ok (.istore_n 2, 1) := dk_61 (dk_at dksX0_bestTurn_1 23 rfl rfl)
theorem dX0_bestTurn_47 : decode cX0_bestTurn 47 = .ok (.iinc 3 1, 3) := dk_132 3 1 (dk_at dksX0_bestTurn_2 0 rfl rfl)
theorem dX0_bestTurn_50 : decode cX0_bestTurn 50 = .ok (.goto (-43), 3) := dk_167 255 213 (dk_at dksX0_bestTurn_2 3 rfl rfl)
theorem dX0_bestTurn_53 : decode cX0_bestTurn 53 = .ok (.iload_n 1, 1) := dk_27 (dk_at dksX0_bestTurn_2 6 rfl rfl)
theorem dX0_bestTurn_54 : decode cX0_bestTurn 54 = .ok (.ireturn, 1) := dk_172 (dk_at dksX0_bestTurn_2 7 rfl rfl)
abbrev cX0_undo : ByteArray := prog_1_method_37_code
def yX0_undo : MethodName := ⟨RX0, "undo", "()I"⟩
def dkwX0_undo_1 : List UInt8 := [181, 0, 10, 42, 180, 0, 19, 182, 0, 30, 172]
abbrev dktX0_undo_1 : List UInt8 := dkwX0_undo_1 ++ []
def dkwX0_undo_0 : List UInt8 := [42, 180, 0, 19, 182, 1, 25, 153, 0, 6, 16, 254, 172, 42, 42, 180, 0, 19, 182, 1, 28, 192, 0, 7]
abbrev dktX0_undo_0 : List UInt8 := dkwX0_undo_0 ++ dktX0_undo_1
theorem dksX0_undo_0 : cX0_undo.data.toList.drop 0 = dktX0_undo_0 := by decide +kernel
theorem dksX0_undo_1 : cX0_undo.data.toList.drop 24 = dktX0_undo_1 := dk_seg dksX0_undo_0 24 rfl rfl
theorem dX0_undo_0 : decode cX0_undo 0 = .ok (.aload_n 0, 1) := dk_42 (dk_at dksX0_undo_0 0 rfl rfl)
theorem dX0_undo_1 : decode cX0_undo 1 = .ok (.getfield 19, 3) := dk_180 0 19 (dk_at dksX0_undo_0 1 rfl rfl)
theorem dX0_undo_4 : decode cX0_undo 4 = .ok (.invokevirtual 281, 3) := dk_182 1 25 (dk_at dksX0_undo_0 4 rfl rfl)
theorem dX0_undo_7 : decode cX0_undo 7 = .ok (.ifCond .eq 6, 3) := dk_153 0 6 (dk_at dksX0_undo_0 7 rfl rfl)
theorem dX0_undo_10 : decode cX0_undo 10 = .ok (.bipush (-2), 2) := dk_16 254 (dk_at dksX0_undo_0 10 rfl rfl)
theorem dX0_undo_12 : decode cX0_undo 12 = .ok (.ireturn, 1) := dk_172 (dk_at dksX0_undo_0 12 rfl rfl)
theorem dX0_undo_13 : decode cX0_undo 13 = .ok (.aload_n 0, 1) := dk_42 (dk_at dksX0_undo_0 13 rfl rfl)
theorem dX0_undo_14 : decode cX0_undo 14 = .ok (.aload_n 0, 1) := dk_42 (dk_at dksX0_undo_0 14 rfl rfl)
theorem dX0_undo_15 : decode cX0_undo 15 = .ok (.getfield 19, 3) := dk_180 0 19 (dk_at dksX0_undo_0 15 rfl rfl)
theorem dX0_undo_18 : decode cX0_undo 18 = .ok (.invokevirtual 284, 3) := dk_182 1 28 (dk_at dksX0_undo_0 18 rfl rfl)
theorem dX0_undo_21 : decode cX0_undo 21 = .ok (.checkcast 7, 3) := dk_192 0 7 (dk_at dksX0_undo_0 21 rfl rfl)
theorem dX0_undo_24 : decode cX0_undo 24 = .ok (.putfield 10, 3) := dk_181 0 10 (dk_at dksX0_undo_1 0 rfl rfl)
theorem dX0_undo_27 : decode cX0_undo 27 = .ok (.aload_n 0, 1) := dk_42 (dk_at dksX0_undo_1 3 rfl rfl)
theorem dX0_undo_28 : decode cX0_undo 28 = .ok (.getfield 19, 3) := dk_180 0 19 (dk_at dksX0_undo_1 4 rfl rfl)
theorem dX0_undo_31 : decode cX0_undo 31 = .ok (.invokevirtual 30, 3) := dk_182 0 30 (dk_at dksX0_undo_1 7 rfl rfl)
theorem dX0_undo_34 : decode cX0_undo 34 = .ok (.ireturn, 1) := dk_172 (dk_at dksX0_undo_1 10 rfl rfl)
abbrev cX0_save : ByteArray := prog_1_method_38_code
def yX0_save : MethodName := ⟨RX0, "save", "()I"⟩
def dkwX0_save_0 : List UInt8 := [42, 42, 180, 0, 10, 182, 0, 38, 181, 1, 31, 42, 180, 0, 10, 182, 0, 46, 172]
abbrev dktX0_save_0 : List UInt8 := dkwX0_save_0 ++ []
theorem dksX0_save_0 : cX0_save.data.toList.drop 0 = dktX0_save_0 := by decide +kernel
theorem dX0_save_0 : decode cX0_save 0 = .ok (.aload_n 0, 1) := dk_42 (dk_at dksX0_save_0 0 rfl rfl)
theorem dX0_save_1 : decode cX0_save 1 = .ok (.aload_n 0, 1) := dk_42 (dk_at dksX0_save_0 1 rfl rfl)
theorem dX0_save_2 : decode cX0_save 2 = .ok (.getfield 10, 3) := dk_180 0 10 (dk_at dksX0_save_0 2 rfl rfl)
theorem dX0_save_5 : decode cX0_save 5 = .ok (.invokevirtual 38, 3) := dk_182 0 38 (dk_at dksX0_save_0 5 rfl rfl)
theorem dX0_save_8 : decode cX0_save 8 = .ok (.putfield 287, 3) := dk_181 1 31 (dk_at dksX0_save_0 8 rfl rfl)
theorem dX0_save_11 : decode cX0_save 11 = .ok (.aload_n 0, 1) := dk_42 (dk_at dksX0_save_0 11 rfl rfl)
theorem dX0_save_12 : decode cX0_save 12 = .ok (.getfield 10, 3) := dk_180 0 10 (dk_at dksX0_save_0 12 rfl rfl)
theorem dX0_save_15 : decode cX0_save 15 = .ok (.invokevirtual 46, 3) := dk_182 0 46 (dk_at dksX0_save_0 15 rfl rfl)
theorem dX0_save_18 : decode cX0_save 18 = .ok (.ireturn, 1) := dk_172 (dk_at dksX0_save_0 18 rfl rfl)
abbrev cX0_restore : ByteArray := prog_1_method_39_code
def yX0_restore : MethodName := ⟨RX0, "restore", "()I"⟩
def dkwX0_restore_1 : List UInt8 := [181, 0, 10, 42, 180, 0, 10, 182, 0, 46, 172]
abbrev dktX0_restore_1 : List UInt8 := dkwX0_restore_1 ++ []
def dkwX0_restore_0 : List UInt8 := [42, 180, 1, 31, 199, 0, 6, 16, 254, 172, 42, 182, 0, 55, 42, 42, 180, 1, 31, 182, 0, 38]
abbrev dktX0_restore_0 : List UInt8 := dkwX0_restore_0 ++ dktX0_restore_1
theorem dksX0_restore_0 : cX0_restore.data.toList.drop 0 = dktX0_restore_0 := by decide +kernel
theorem dksX0_restore_1 : cX0_restore.data.toList.drop 22 = dktX0_restore_1 := dk_seg dksX0_restore_0 22 rfl rfl
theorem dX0_restore_0 : decode cX0_restore 0 = .ok (.aload_n 0, 1) := dk_42 (dk_at dksX0_restore_0 0 rfl rfl)
theorem dX0_restore_1 : decode cX0_restore 1 = .ok (.getfield 287, 3) := dk_180 1 31 (dk_at dksX0_restore_0 1 rfl rfl)
theorem dX0_restore_4 : decode cX0_restore 4 = .ok (.ifnonnull 6, 3) := dk_199 0 6 (dk_at dksX0_restore_0 4 rfl rfl)
theorem dX0_restore_7 : decode cX0_restore 7 = .ok (.bipush (-2), 2) := dk_16 254 (dk_at dksX0_restore_0 7 rfl rfl)
theorem dX0_restore_9 : decode cX0_restore 9 = .ok (.ireturn, 1) := dk_172 (dk_at dksX0_restore_0 9 rfl rfl)
theorem dX0_restore_10 : decode cX0_restore 10 = .ok (.aload_n 0, 1) := dk_42 (dk_at dksX0_restore_0 10 rfl rfl)
theorem dX0_restore_11 : decode cX0_restore 11 = .ok (.invokevirtual 55, 3) := dk_182 0 55 (dk_at dksX0_restore_0 11 rfl rfl)
theorem dX0_restore_14 : decode cX0_restore 14 = .ok (.aload_n 0, 1) := dk_42 (dk_at dksX0_restore_0 14 rfl rfl)
theorem dX0_restore_15 : decode cX0_restore 15 = .ok (.aload_n 0, 1) := dk_42 (dk_at dksX0_restore_0 15 rfl rfl)
theorem dX0_restore_16 : decode cX0_restore 16 = .ok (.getfield 287, 3) := dk_180 1 31 (dk_at dksX0_restore_0 16 rfl rfl)
theorem dX0_restore_19 : decode cX0_restore 19 = .ok (.invokevirtual 38, 3) := dk_182 0 38 (dk_at dksX0_restore_0 19 rfl rfl)
theorem dX0_restore_22 : decode cX0_restore 22 = .ok (.putfield 10, 3) := dk_181 0 10 (dk_at dksX0_restore_1 0 rfl rfl)
theorem dX0_restore_25 : decode cX0_restore 25 = .ok (.aload_n 0, 1) := dk_42 (dk_at dksX0_restore_1 3 rfl rfl)
theorem dX0_restore_26 : decode cX0_restore 26 = .ok (.getfield 10, 3) := dk_180 0 10 (dk_at dksX0_restore_1 4 rfl rfl)
theorem dX0_restore_29 : decode cX0_restore 29 = .ok (.invokevirtual 46, 3) := dk_182 0 46 (dk_at dksX0_restore_1 7 rfl rfl)
theorem dX0_restore_32 : decode cX0_restore 32 = .ok (.ireturn, 1) := dk_172 (dk_at dksX0_restore_1 10 rfl rfl)
theorem q78 : (Jvm.Cond.initialized "SlatCrates") ∈ lw_all := lw_g (lw_at lw_m1 1 rfl) rfl
theorem q129 : (Jvm.Cond.instantiable "SlatCrates" (4 : Nat)) ∈ lw_all := lw_g (lw_at lw_m1 52 rfl) rfl
theorem q131 : (Jvm.Cond.instanceMethod ({ cls := "SlatCrates", name := "<init>", desc := "()V" } : Jvm.MethodName)) ∈ lw_all := lw_g (lw_at lw_m1 54 rfl) rfl
theorem q132 : (Jvm.Cond.code ({ cls := "SlatCrates", name := "<init>", desc := "()V" } : Jvm.MethodName) prog_1_method_2_code (1 : Nat) (Option.none : Option Jvm.ClassFile.FieldType)) ∈ lw_all := lw_g (lw_at lw_m1 55 rfl) rfl
theorem q133 : (Jvm.Cond.methodLink "SlatCrates" (1 : Nat) ({ cls := "java/lang/Object", name := "<init>", desc := "()V" } : Jvm.MethodName)) ∈ lw_all := lw_g (lw_at lw_m1 56 rfl) rfl
theorem q136 : (Jvm.Cond.classLink "SlatCrates" (7 : Nat) "SlatCrates$Yard") ∈ lw_all := lw_g (lw_at lw_m1 59 rfl) rfl
theorem q138 : (Jvm.Cond.methodLinkNest "SlatCrates" (9 : Nat) ({ cls := "SlatCrates$Yard", name := "<init>", desc := "()V" } : Jvm.MethodName) "SlatCrates") ∈ lw_tbl := lw_at lw_m1 61 rfl
theorem q176 : (Jvm.Cond.fieldLinkNest "SlatCrates" (58 : Nat) "SlatCrates$Yard" "crates" "Ljava/util/ArrayList;" "SlatCrates") ∈ lw_tbl := lw_at lw_m1 99 rfl
theorem q178 : (Jvm.Cond.fieldLinkNest "SlatCrates" (73 : Nat) "SlatCrates$Yard" "refused" "I" "SlatCrates") ∈ lw_tbl := lw_at lw_m1 101 rfl
theorem q184 : (Jvm.Cond.classLink "SlatCrates" (16 : Nat) "java/util/LinkedList") ∈ lw_all := lw_g (lw_at lw_m1 107 rfl) rfl
theorem q186 : (Jvm.Cond.methodLink "SlatCrates" (18 : Nat) ({ cls := "java/util/LinkedList", name := "<init>", desc := "()V" } : Jvm.MethodName)) ∈ lw_all := lw_g (lw_at lw_m1 109 rfl) rfl
theorem q205 : (Jvm.Cond.classLink "SlatCrates" (23 : Nat) "java/lang/StringBuilder") ∈ lw_all := lw_g (lw_at lw_m1 128 rfl) rfl
theorem q207 : (Jvm.Cond.methodLink "SlatCrates" (25 : Nat) ({ cls := "java/lang/StringBuilder", name := "<init>", desc := "()V" } : Jvm.MethodName)) ∈ lw_all := lw_g (lw_at lw_m1 130 rfl) rfl
theorem q238 : (Jvm.Cond.fieldLink "SlatCrates" (10 : Nat) "SlatCrates" "now" "LSlatCrates$Yard;") ∈ lw_all := lw_g (lw_at lw_m1 161 rfl) rfl
theorem q239 : (Jvm.Cond.fieldLink "SlatCrates" (19 : Nat) "SlatCrates" "history" "Ljava/util/LinkedList;") ∈ lw_all := lw_g (lw_at lw_m1 162 rfl) rfl
theorem q240 : (Jvm.Cond.fieldLink "SlatCrates" (287 : Nat) "SlatCrates" "kept" "LSlatCrates$Yard;") ∈ lw_all := lw_g (lw_at lw_m1 163 rfl) rfl
theorem q241 : (Jvm.Cond.fieldLink "SlatCrates" (26 : Nat) "SlatCrates" "pad" "Ljava/lang/StringBuilder;") ∈ lw_all := lw_g (lw_at lw_m1 164 rfl) rfl
theorem q242 : (Jvm.Cond.lays "SlatCrates" "SlatCrates" "now" "LSlatCrates$Yard;") ∈ lw_all := lw_g (lw_at lw_m1 165 rfl) rfl
theorem q243 : (Jvm.Cond.soleField "SlatCrates" "now") ∈ lw_all := lw_g (lw_at lw_m1 166 rfl) rfl
theorem q244 : (Jvm.Cond.laysFinal "SlatCrates" "SlatCrates" "history" "Ljava/util/LinkedList;") ∈ lw_all := lw_g (lw_at lw_m1 167 rfl) rfl
theorem q245 : (Jvm.Cond.soleField "SlatCrates" "history") ∈ lw_all := lw_g (lw_at lw_m1 168 rfl) rfl
theorem q246 : (Jvm.Cond.lays "SlatCrates" "SlatCrates" "kept" "LSlatCrates$Yard;") ∈ lw_all := lw_g (lw_at lw_m1 169 rfl) rfl
theorem q247 : (Jvm.Cond.soleField "SlatCrates" "kept") ∈ lw_all := lw_g (lw_at lw_m1 170 rfl) rfl
theorem q248 : (Jvm.Cond.laysFinal "SlatCrates" "SlatCrates" "pad" "Ljava/lang/StringBuilder;") ∈ lw_all := lw_g (lw_at lw_m1 171 rfl) rfl
theorem q249 : (Jvm.Cond.soleField "SlatCrates" "pad") ∈ lw_all := lw_g (lw_at lw_m1 172 rfl) rfl
theorem q250 : (Jvm.Cond.superclass "SlatCrates" "java/lang/Object") ∈ lw_all := lw_g (lw_at lw_m1 173 rfl) rfl
theorem q252 : (Jvm.Cond.instanceMethod ({ cls := "SlatCrates", name := "make", desc := "(IIII)I" } : Jvm.MethodName)) ∈ lw_all := lw_g (lw_at lw_m1 175 rfl) rfl
theorem q253 : (Jvm.Cond.selects "SlatCrates" ({ cls := "SlatCrates", name := "make", desc := "(IIII)I" } : Jvm.MethodName) ({ cls := "SlatCrates", name := "make", desc := "(IIII)I" } : Jvm.MethodName)) ∈ lw_all := lw_g (lw_at lw_m1 176 rfl) rfl
theorem q254 : (Jvm.Cond.code ({ cls := "SlatCrates", name := "make", desc := "(IIII)I" } : Jvm.MethodName) prog_1_method_6_code (6 : Nat) (Option.some Jvm.ClassFile.FieldType.int)) ∈ lw_all := lw_g (lw_at lw_m1 177 rfl) rfl
theorem q255 : (Jvm.Cond.methodLink "SlatCrates" (51 : Nat) ({ cls := "SlatCrates", name := "labelOf", desc := "(I)[I" } : Jvm.MethodName)) ∈ lw_all := lw_g (lw_at lw_m1 178 rfl) rfl
theorem q256 : (Jvm.Cond.static ({ cls := "SlatCrates", name := "labelOf", desc := "(I)[I" } : Jvm.MethodName)) ∈ lw_all := lw_g (lw_at lw_m1 179 rfl) rfl
theorem q257 : (Jvm.Cond.code ({ cls := "SlatCrates", name := "labelOf", desc := "(I)[I" } : Jvm.MethodName) prog_1_method_5_code (5 : Nat) (Option.some (Jvm.ClassFile.FieldType.array Jvm.ClassFile.FieldType.int))) ∈ lw_all := lw_g (lw_at lw_m1 180 rfl) rfl
theorem q258 : (Jvm.Cond.methodLink "SlatCrates" (47 : Nat) ({ cls := "SlatCrates", name := "inRange", desc := "(III)Z" } : Jvm.MethodName)) ∈ lw_all := lw_g (lw_at lw_m1 181 rfl) rfl
theorem q259 : (Jvm.Cond.static ({ cls := "SlatCrates", name := "inRange", desc := "(III)Z" } : Jvm.MethodName)) ∈ lw_all := lw_g (lw_at lw_m1 182 rfl) rfl
theorem q260 : (Jvm.Cond.code ({ cls := "SlatCrates", name := "inRange", desc := "(III)Z" } : Jvm.MethodName) prog_1_method_1_code (3 : Nat) (Option.some Jvm.ClassFile.FieldType.boolean)) ∈ lw_all := lw_g (lw_at lw_m1 183 rfl) rfl
theorem q261 : (Jvm.Cond.methodLink "SlatCrates" (46 : Nat) ({ cls := "SlatCrates$Yard", name := "size", desc := "()I" } : Jvm.MethodName)) ∈ lw_all := lw_g (lw_at lw_m1 184 rfl) rfl
theorem q269 : (Jvm.Cond.methodLink "SlatCrates" (55 : Nat) ({ cls := "SlatCrates", name := "records", desc := "()V" } : Jvm.MethodName)) ∈ lw_all := lw_g (lw_at lw_m1 192 rfl) rfl
theorem q270 : (Jvm.Cond.privateMethod ({ cls := "SlatCrates", name := "records", desc := "()V" } : Jvm.MethodName)) ∈ lw_tbl := lw_at lw_m1 193 rfl
theorem q271 : (Jvm.Cond.instanceMethod ({ cls := "SlatCrates", name := "records", desc := "()V" } : Jvm.MethodName)) ∈ lw_all := lw_g (lw_at lw_m1 194 rfl) rfl
theorem q272 : (Jvm.Cond.code ({ cls := "SlatCrates", name := "records", desc := "()V" } : Jvm.MethodName) prog_1_method_3_code (1 : Nat) (Option.none : Option Jvm.ClassFile.FieldType)) ∈ lw_all := lw_g (lw_at lw_m1 195 rfl) rfl
theorem q273 : (Jvm.Cond.methodLink "SlatCrates" (30 : Nat) ({ cls := "java/util/LinkedList", name := "size", desc := "()I" } : Jvm.MethodName)) ∈ lw_all := lw_g (lw_at lw_m1 196 rfl) rfl
theorem q277 : (Jvm.Cond.methodLink "SlatCrates" (34 : Nat) ({ cls := "java/util/LinkedList", name := "removeFirst", desc := "()Ljava/lang/Object;" } : Jvm.MethodName)) ∈ lw_all := lw_g (lw_at lw_m1 200 rfl) rfl
theorem q285 : (Jvm.Cond.methodLink "SlatCrates" (38 : Nat) ({ cls := "SlatCrates$Yard", name := "copy", desc := "()LSlatCrates$Yard;" } : Jvm.MethodName)) ∈ lw_all := lw_g (lw_at lw_m1 208 rfl) rfl
theorem q460 : (Jvm.Cond.selects "SlatCrates" ({ cls := "java/lang/Object", name := "getClass", desc := "()Ljava/lang/Class;" } : Jvm.MethodName) ({ cls := "java/lang/Object", name := "getClass", desc := "()Ljava/lang/Class;" } : Jvm.MethodName)) ∈ lw_all := lw_g (lw_at lw_m2 143 rfl) rfl
theorem q753 : (Jvm.Cond.fieldLinkNest "SlatCrates" (162 : Nat) "SlatCrates$Crate" "size" "I" "SlatCrates") ∈ lw_tbl := lw_at lw_m3 196 rfl
theorem q756 : (Jvm.Cond.fieldLinkNest "SlatCrates" (164 : Nat) "SlatCrates$Crate" "room" "I" "SlatCrates") ∈ lw_tbl := lw_at lw_m3 199 rfl
theorem q758 : (Jvm.Cond.fieldLinkNest "SlatCrates" (110 : Nat) "SlatCrates$Crate" "gaps" "I" "SlatCrates") ∈ lw_tbl := lw_at lw_m3 201 rfl
theorem q761 : (Jvm.Cond.fieldLinkNest "SlatCrates" (185 : Nat) "SlatCrates$Crate" "label" "[I" "SlatCrates") ∈ lw_tbl := lw_at lw_m3 204 rfl
theorem q766 : (Jvm.Cond.fieldLinkNest "SlatCrates" (192 : Nat) "SlatCrates$Crate" "holder" "I" "SlatCrates") ∈ lw_tbl := lw_at lw_m3 209 rfl
theorem q770 : (Jvm.Cond.fieldLinkNest "SlatCrates" (150 : Nat) "SlatCrates$Crate" "pile" "Ljava/util/ArrayList;" "SlatCrates") ∈ lw_tbl := lw_at lw_m3 213 rfl
theorem q869 : (Jvm.Cond.methodLink "SlatCrates" (42 : Nat) ({ cls := "java/util/LinkedList", name := "addLast", desc := "(Ljava/lang/Object;)V" } : Jvm.MethodName)) ∈ lw_all := lw_g (lw_at lw_m4 72 rfl) rfl
theorem q898 : (Jvm.Cond.classLink "SlatCrates" (62 : Nat) "SlatCrates$Crate") ∈ lw_all := lw_g (lw_at lw_m4 101 rfl) rfl
theorem q899 : (Jvm.Cond.methodLink "SlatCrates" (64 : Nat) ({ cls := "SlatCrates$Crate", name := "<init>", desc := "(III[I)V" } : Jvm.MethodName)) ∈ lw_all := lw_g (lw_at lw_m4 102 rfl) rfl
theorem q900 : (Jvm.Cond.methodLink "SlatCrates" (67 : Nat) ({ cls := "java/util/ArrayList", name := "add", desc := "(Ljava/lang/Object;)Z" } : Jvm.MethodName)) ∈ lw_all := lw_g (lw_at lw_m4 103 rfl) rfl
theorem q902 : (Jvm.Cond.instanceMethod ({ cls := "SlatCrates", name := "put", desc := "(II)I" } : Jvm.MethodName)) ∈ lw_all := lw_g (lw_at lw_m4 105 rfl) rfl
theorem q903 : (Jvm.Cond.selects "SlatCrates" ({ cls := "SlatCrates", name := "put", desc := "(II)I" } : Jvm.MethodName) ({ cls := "SlatCrates", name := "put", desc := "(II)I" } : Jvm.MethodName)) ∈ lw_all := lw_g (lw_at lw_m4 106 rfl) rfl
theorem q904 : (Jvm.Cond.code ({ cls := "SlatCrates", name := "put", desc := "(II)I" } : Jvm.MethodName) prog_1_method_8_code (4 : Nat) (Option.some Jvm.ClassFile.FieldType.int)) ∈ lw_all := lw_g (lw_at lw_m4 107 rfl) rfl
theorem q905 : (Jvm.Cond.methodLink "SlatCrates" (77 : Nat) ({ cls := "SlatCrates", name := "isCrate", desc := "(I)Z" } : Jvm.MethodName)) ∈ lw_all := lw_g (lw_at lw_m4 108 rfl) rfl
theorem q906 : (Jvm.Cond.privateMethod ({ cls := "SlatCrates", name := "isCrate", desc := "(I)Z" } : Jvm.MethodName)) ∈ lw_tbl := lw_at lw_m4 109 rfl
theorem q907 : (Jvm.Cond.instanceMethod ({ cls := "SlatCrates", name := "isCrate", desc := "(I)Z" } : Jvm.MethodName)) ∈ lw_all := lw_g (lw_at lw_m4 110 rfl) rfl
theorem q908 : (Jvm.Cond.code ({ cls := "SlatCrates", name := "isCrate", desc := "(I)Z" } : Jvm.MethodName) prog_1_method_4_code (2 : Nat) (Option.some Jvm.ClassFile.FieldType.boolean)) ∈ lw_all := lw_g (lw_at lw_m4 111 rfl) rfl
theorem q909 : (Jvm.Cond.methodLink "SlatCrates" (81 : Nat) ({ cls := "SlatCrates$Yard", name := "whyNotPut", desc := "(II)I" } : Jvm.MethodName)) ∈ lw_all := lw_g (lw_at lw_m4 112 rfl) rfl
theorem q962 : (Jvm.Cond.selects "SlatCrates" ({ cls := "java/lang/Object", name := "equals", desc := "(Ljava/lang/Object;)Z" } : Jvm.MethodName) ({ cls := "java/lang/Object", name := "equals", desc := "(Ljava/lang/Object;)Z" } : Jvm.MethodName)) ∈ lw_all := lw_g (lw_at lw_m4 165 rfl) rfl
theorem q999 : (Jvm.Cond.methodLink "SlatCrates" (85 : Nat) ({ cls := "SlatCrates", name := "refuses", desc := "(I)I" } : Jvm.MethodName)) ∈ lw_all := lw_g (lw_at lw_m4 202 rfl) rfl
theorem q1000 : (Jvm.Cond.privateMethod ({ cls := "SlatCrates", name := "refuses", desc := "(I)I" } : Jvm.MethodName)) ∈ lw_tbl := lw_at lw_m4 203 rfl
theorem q1001 : (Jvm.Cond.instanceMethod ({ cls := "SlatCrates", name := "refuses", desc := "(I)I" } : Jvm.MethodName)) ∈ lw_all := lw_g (lw_at lw_m4 204 rfl) rfl
theorem q1002 : (Jvm.Cond.code ({ cls := "SlatCrates", name := "refuses", desc := "(I)I" } : Jvm.MethodName) prog_1_method_7_code (2 : Nat) (Option.some Jvm.ClassFile.FieldType.int)) ∈ lw_all := lw_g (lw_at lw_m4 205 rfl) rfl
theorem q1003 : (Jvm.Cond.methodLink "SlatCrates" (89 : Nat) ({ cls := "SlatCrates$Yard", name := "puts", desc := "(II)V" } : Jvm.MethodName)) ∈ lw_all := lw_g (lw_at lw_m4 206 rfl) rfl
theorem q1019 : (Jvm.Cond.methodLink "SlatCrates" (93 : Nat) ({ cls := "SlatCrates$Yard", name := "depth", desc := "(I)I" } : Jvm.MethodName)) ∈ lw_all := lw_g (lw_at lw_m4 222 rfl) rfl
theorem q1024 : (Jvm.Cond.instanceMethod ({ cls := "SlatCrates", name := "ground", desc := "(I)I" } : Jvm.MethodName)) ∈ lw_all := lw_g (lw_at lw_m4 227 rfl) rfl
theorem q1025 : (Jvm.Cond.selects "SlatCrates" ({ cls := "SlatCrates", name := "ground", desc := "(I)I" } : Jvm.MethodName) ({ cls := "SlatCrates", name := "ground", desc := "(I)I" } : Jvm.MethodName)) ∈ lw_all := lw_g (lw_at lw_m4 228 rfl) rfl
theorem q1026 : (Jvm.Cond.code ({ cls := "SlatCrates", name := "ground", desc := "(I)I" } : Jvm.MethodName) prog_1_method_9_code (3 : Nat) (Option.some Jvm.ClassFile.FieldType.int)) ∈ lw_all := lw_g (lw_at lw_m4 229 rfl) rfl
theorem q1027 : (Jvm.Cond.methodLink "SlatCrates" (96 : Nat) ({ cls := "SlatCrates$Yard", name := "whyNotGround", desc := "(I)I" } : Jvm.MethodName)) ∈ lw_all := lw_g (lw_at lw_m4 230 rfl) rfl
theorem q1031 : (Jvm.Cond.methodLinkNest "SlatCrates" (99 : Nat) ({ cls := "SlatCrates$Yard", name := "lifts", desc := "(I)V" } : Jvm.MethodName) "SlatCrates") ∈ lw_tbl := lw_at lw_m4 234 rfl
theorem q1033 : (Jvm.Cond.instanceMethod ({ cls := "SlatCrates", name := "turn", desc := "(I)I" } : Jvm.MethodName)) ∈ lw_all := lw_g (lw_at lw_m4 236 rfl) rfl
theorem q1034 : (Jvm.Cond.selects "SlatCrates" ({ cls := "SlatCrates", name := "turn", desc := "(I)I" } : Jvm.MethodName) ({ cls := "SlatCrates", name := "turn", desc := "(I)I" } : Jvm.MethodName)) ∈ lw_all := lw_g (lw_at lw_m4 237 rfl) rfl
theorem q1035 : (Jvm.Cond.code ({ cls := "SlatCrates", name := "turn", desc := "(I)I" } : Jvm.MethodName) prog_1_method_10_code (2 : Nat) (Option.some Jvm.ClassFile.FieldType.int)) ∈ lw_all := lw_g (lw_at lw_m4 238 rfl) rfl
theorem q1036 : (Jvm.Cond.methodLink "SlatCrates" (103 : Nat) ({ cls := "SlatCrates$Yard", name := "at", desc := "(I)LSlatCrates$Crate;" } : Jvm.MethodName)) ∈ lw_all := lw_g (lw_at lw_m4 239 rfl) rfl
theorem q1037 : (Jvm.Cond.methodLink "SlatCrates" (107 : Nat) ({ cls := "SlatCrates$Crate", name := "turns", desc := "()V" } : Jvm.MethodName)) ∈ lw_all := lw_g (lw_at lw_m5 0 rfl) rfl
theorem q1042 : (Jvm.Cond.instanceMethod ({ cls := "SlatCrates", name := "breakUp", desc := "(I)I" } : Jvm.MethodName)) ∈ lw_all := lw_g (lw_at lw_m5 5 rfl) rfl
theorem q1043 : (Jvm.Cond.selects "SlatCrates" ({ cls := "SlatCrates", name := "breakUp", desc := "(I)I" } : Jvm.MethodName) ({ cls := "SlatCrates", name := "breakUp", desc := "(I)I" } : Jvm.MethodName)) ∈ lw_all := lw_g (lw_at lw_m5 6 rfl) rfl
theorem q1044 : (Jvm.Cond.code ({ cls := "SlatCrates", name := "breakUp", desc := "(I)I" } : Jvm.MethodName) prog_1_method_11_code (3 : Nat) (Option.some Jvm.ClassFile.FieldType.int)) ∈ lw_all := lw_g (lw_at lw_m5 7 rfl) rfl
theorem q1045 : (Jvm.Cond.methodLink "SlatCrates" (113 : Nat) ({ cls := "SlatCrates$Yard", name := "whyNotBreak", desc := "(I)I" } : Jvm.MethodName)) ∈ lw_all := lw_g (lw_at lw_m5 8 rfl) rfl
theorem q1053 : (Jvm.Cond.methodLink "SlatCrates" (116 : Nat) ({ cls := "SlatCrates$Yard", name := "breaksUp", desc := "(I)V" } : Jvm.MethodName)) ∈ lw_all := lw_g (lw_at lw_m5 16 rfl) rfl
theorem q1062 : (Jvm.Cond.instanceMethod ({ cls := "SlatCrates", name := "append", desc := "(I)I" } : Jvm.MethodName)) ∈ lw_all := lw_g (lw_at lw_m5 25 rfl) rfl
theorem q1063 : (Jvm.Cond.selects "SlatCrates" ({ cls := "SlatCrates", name := "append", desc := "(I)I" } : Jvm.MethodName) ({ cls := "SlatCrates", name := "append", desc := "(I)I" } : Jvm.MethodName)) ∈ lw_all := lw_g (lw_at lw_m5 26 rfl) rfl
theorem q1064 : (Jvm.Cond.code ({ cls := "SlatCrates", name := "append", desc := "(I)I" } : Jvm.MethodName) prog_1_method_12_code (2 : Nat) (Option.some Jvm.ClassFile.FieldType.int)) ∈ lw_all := lw_g (lw_at lw_m5 27 rfl) rfl
theorem q1065 : (Jvm.Cond.methodLink "SlatCrates" (119 : Nat) ({ cls := "java/lang/StringBuilder", name := "length", desc := "()I" } : Jvm.MethodName)) ∈ lw_all := lw_g (lw_at lw_m5 28 rfl) rfl
theorem q1066 : (Jvm.Cond.methodLink "SlatCrates" (122 : Nat) ({ cls := "java/lang/StringBuilder", name := "append", desc := "(C)Ljava/lang/StringBuilder;" } : Jvm.MethodName)) ∈ lw_all := lw_g (lw_at lw_m5 29 rfl) rfl
theorem q1087 : (Jvm.Cond.instanceMethod ({ cls := "SlatCrates", name := "clear", desc := "()I" } : Jvm.MethodName)) ∈ lw_all := lw_g (lw_at lw_m5 50 rfl) rfl
theorem q1088 : (Jvm.Cond.selects "SlatCrates" ({ cls := "SlatCrates", name := "clear", desc := "()I" } : Jvm.MethodName) ({ cls := "SlatCrates", name := "clear", desc := "()I" } : Jvm.MethodName)) ∈ lw_all := lw_g (lw_at lw_m5 51 rfl) rfl
theorem q1089 : (Jvm.Cond.code ({ cls := "SlatCrates", name := "clear", desc := "()I" } : Jvm.MethodName) prog_1_method_13_code (2 : Nat) (Option.some Jvm.ClassFile.FieldType.int)) ∈ lw_all := lw_g (lw_at lw_m5 52 rfl) rfl
theorem q1090 : (Jvm.Cond.methodLink "SlatCrates" (126 : Nat) ({ cls := "java/lang/StringBuilder", name := "setLength", desc := "(I)V" } : Jvm.MethodName)) ∈ lw_all := lw_g (lw_at lw_m5 53 rfl) rfl
theorem q1111 : (Jvm.Cond.instanceMethod ({ cls := "SlatCrates", name := "fault", desc := "()I" } : Jvm.MethodName)) ∈ lw_all := lw_g (lw_at lw_m5 74 rfl) rfl
theorem q1112 : (Jvm.Cond.selects "SlatCrates" ({ cls := "SlatCrates", name := "fault", desc := "()I" } : Jvm.MethodName) ({ cls := "SlatCrates", name := "fault", desc := "()I" } : Jvm.MethodName)) ∈ lw_all := lw_g (lw_at lw_m5 75 rfl) rfl
theorem q1113 : (Jvm.Cond.code ({ cls := "SlatCrates", name := "fault", desc := "()I" } : Jvm.MethodName) prog_1_method_14_code (1 : Nat) (Option.some Jvm.ClassFile.FieldType.int)) ∈ lw_all := lw_g (lw_at lw_m5 76 rfl) rfl
theorem q1114 : (Jvm.Cond.classLink "SlatCrates" (129 : Nat) "SlatCrates$Reader") ∈ lw_all := lw_g (lw_at lw_m5 77 rfl) rfl
theorem q1116 : (Jvm.Cond.methodLink "SlatCrates" (131 : Nat) ({ cls := "SlatCrates$Reader", name := "<init>", desc := "(Ljava/lang/StringBuilder;I)V" } : Jvm.MethodName)) ∈ lw_all := lw_g (lw_at lw_m5 79 rfl) rfl
theorem q1126 : (Jvm.Cond.fieldLinkNest "SlatCrates" (167 : Nat) "SlatCrates$Reader" "crates" "Ljava/util/ArrayList;" "SlatCrates") ∈ lw_tbl := lw_at lw_m5 89 rfl
theorem q1139 : (Jvm.Cond.methodLink "SlatCrates" (134 : Nat) ({ cls := "SlatCrates$Reader", name := "fault", desc := "()I" } : Jvm.MethodName)) ∈ lw_all := lw_g (lw_at lw_m5 102 rfl) rfl
theorem q1181 : (Jvm.Cond.instanceMethod ({ cls := "SlatCrates", name := "load", desc := "()I" } : Jvm.MethodName)) ∈ lw_all := lw_g (lw_at lw_m5 144 rfl) rfl
theorem q1182 : (Jvm.Cond.selects "SlatCrates" ({ cls := "SlatCrates", name := "load", desc := "()I" } : Jvm.MethodName) ({ cls := "SlatCrates", name := "load", desc := "()I" } : Jvm.MethodName)) ∈ lw_all := lw_g (lw_at lw_m5 145 rfl) rfl
theorem q1183 : (Jvm.Cond.code ({ cls := "SlatCrates", name := "load", desc := "()I" } : Jvm.MethodName) prog_1_method_16_code (2 : Nat) (Option.some Jvm.ClassFile.FieldType.int)) ∈ lw_all := lw_g (lw_at lw_m5 146 rfl) rfl
theorem q1184 : (Jvm.Cond.methodLink "SlatCrates" (168 : Nat) ({ cls := "SlatCrates", name := "canStand", desc := "(Ljava/util/ArrayList;I)Z" } : Jvm.MethodName)) ∈ lw_all := lw_g (lw_at lw_m5 147 rfl) rfl
theorem q1185 : (Jvm.Cond.static ({ cls := "SlatCrates", name := "canStand", desc := "(Ljava/util/ArrayList;I)Z" } : Jvm.MethodName)) ∈ lw_all := lw_g (lw_at lw_m5 148 rfl) rfl
theorem q1186 : (Jvm.Cond.code ({ cls := "SlatCrates", name := "canStand", desc := "(Ljava/util/ArrayList;I)Z" } : Jvm.MethodName) prog_1_method_15_code (7 : Nat) (Option.some Jvm.ClassFile.FieldType.boolean)) ∈ lw_all := lw_g (lw_at lw_m5 149 rfl) rfl
theorem q1187 : (Jvm.Cond.methodLink "SlatCrates" (137 : Nat) ({ cls := "java/util/ArrayList", name := "iterator", desc := "()Ljava/util/Iterator;" } : Jvm.MethodName)) ∈ lw_all := lw_g (lw_at lw_m5 150 rfl) rfl
theorem q1188 : (Jvm.Cond.interfaceEntry "SlatCrates" (141 : Nat)) ∈ lw_tbl := lw_at lw_m5 151 rfl
theorem q1189 : (Jvm.Cond.methodLink "SlatCrates" (141 : Nat) ({ cls := "java/util/Iterator", name := "hasNext", desc := "()Z" } : Jvm.MethodName)) ∈ lw_all := lw_g (lw_at lw_m5 152 rfl) rfl
theorem q1190 : (Jvm.Cond.interfaceEntry "SlatCrates" (147 : Nat)) ∈ lw_tbl := lw_at lw_m5 153 rfl
theorem q1191 : (Jvm.Cond.methodLink "SlatCrates" (147 : Nat) ({ cls := "java/util/Iterator", name := "next", desc := "()Ljava/lang/Object;" } : Jvm.MethodName)) ∈ lw_all := lw_g (lw_at lw_m5 154 rfl) rfl
theorem q1192 : (Jvm.Cond.classLink "SlatCrates" (153 : Nat) "java/lang/Integer") ∈ lw_all := lw_g (lw_at lw_m5 155 rfl) rfl
theorem q1193 : (Jvm.Cond.methodLink "SlatCrates" (155 : Nat) ({ cls := "java/lang/Integer", name := "intValue", desc := "()I" } : Jvm.MethodName)) ∈ lw_all := lw_g (lw_at lw_m5 156 rfl) rfl
theorem q1194 : (Jvm.Cond.methodLink "SlatCrates" (158 : Nat) ({ cls := "java/util/ArrayList", name := "get", desc := "(I)Ljava/lang/Object;" } : Jvm.MethodName)) ∈ lw_all := lw_g (lw_at lw_m5 157 rfl) rfl
theorem q1195 : (Jvm.Cond.methodLink "SlatCrates" (172 : Nat) ({ cls := "java/util/ArrayList", name := "size", desc := "()I" } : Jvm.MethodName)) ∈ lw_all := lw_g (lw_at lw_m5 158 rfl) rfl
theorem q1196 : (Jvm.Cond.methodLink "SlatCrates" (173 : Nat) ({ cls := "java/util/ArrayList", name := "addAll", desc := "(Ljava/util/Collection;)Z" } : Jvm.MethodName)) ∈ lw_all := lw_g (lw_at lw_m5 159 rfl) rfl
theorem q1198 : (Jvm.Cond.instanceMethod ({ cls := "SlatCrates", name := "sign", desc := "(II)I" } : Jvm.MethodName)) ∈ lw_all := lw_g (lw_at lw_m5 161 rfl) rfl
theorem q1199 : (Jvm.Cond.selects "SlatCrates" ({ cls := "SlatCrates", name := "sign", desc := "(II)I" } : Jvm.MethodName) ({ cls := "SlatCrates", name := "sign", desc := "(II)I" } : Jvm.MethodName)) ∈ lw_all := lw_g (lw_at lw_m5 162 rfl) rfl
theorem q1200 : (Jvm.Cond.code ({ cls := "SlatCrates", name := "sign", desc := "(II)I" } : Jvm.MethodName) prog_1_method_17_code (4 : Nat) (Option.some Jvm.ClassFile.FieldType.int)) ∈ lw_all := lw_g (lw_at lw_m5 163 rfl) rfl
theorem q1201 : (Jvm.Cond.methodLink "SlatCrates" (177 : Nat) ({ cls := "SlatCrates$Yard", name := "writes", desc := "(ILjava/lang/StringBuilder;)V" } : Jvm.MethodName)) ∈ lw_all := lw_g (lw_at lw_m5 164 rfl) rfl
theorem q1232 : (Jvm.Cond.methodLink "SlatCrates" (181 : Nat) ({ cls := "java/lang/StringBuilder", name := "charAt", desc := "(I)C" } : Jvm.MethodName)) ∈ lw_all := lw_g (lw_at lw_m5 195 rfl) rfl
theorem q1234 : (Jvm.Cond.instanceMethod ({ cls := "SlatCrates", name := "crate", desc := "(II)I" } : Jvm.MethodName)) ∈ lw_all := lw_g (lw_at lw_m5 197 rfl) rfl
theorem q1235 : (Jvm.Cond.selects "SlatCrates" ({ cls := "SlatCrates", name := "crate", desc := "(II)I" } : Jvm.MethodName) ({ cls := "SlatCrates", name := "crate", desc := "(II)I" } : Jvm.MethodName)) ∈ lw_all := lw_g (lw_at lw_m5 198 rfl) rfl
theorem q1236 : (Jvm.Cond.code ({ cls := "SlatCrates", name := "crate", desc := "(II)I" } : Jvm.MethodName) prog_1_method_18_code (4 : Nat) (Option.some Jvm.ClassFile.FieldType.int)) ∈ lw_all := lw_g (lw_at lw_m5 199 rfl) rfl
theorem q1237 : (Jvm.Cond.methodLink "SlatCrates" (189 : Nat) ({ cls := "SlatCrates$Yard", name := "isOnGround", desc := "(I)Z" } : Jvm.MethodName)) ∈ lw_all := lw_g (lw_at lw_m5 200 rfl) rfl
theorem q1238 : (Jvm.Cond.methodLink "SlatCrates" (195 : Nat) ({ cls := "SlatCrates$Yard", name := "load", desc := "(I)I" } : Jvm.MethodName)) ∈ lw_all := lw_g (lw_at lw_m5 201 rfl) rfl
theorem q1243 : (Jvm.Cond.methodLink "SlatCrates" (198 : Nat) ({ cls := "SlatCrates$Yard", name := "left", desc := "(I)I" } : Jvm.MethodName)) ∈ lw_all := lw_g (lw_at lw_m5 206 rfl) rfl
theorem q1244 : (Jvm.Cond.methodLink "SlatCrates" (201 : Nat) ({ cls := "SlatCrates$Yard", name := "placeInPile", desc := "(I)I" } : Jvm.MethodName)) ∈ lw_all := lw_g (lw_at lw_m5 207 rfl) rfl
theorem q1245 : (Jvm.Cond.methodLink "SlatCrates" (204 : Nat) ({ cls := "SlatCrates$Yard", name := "effort", desc := "(I)I" } : Jvm.MethodName)) ∈ lw_all := lw_g (lw_at lw_m5 208 rfl) rfl
theorem q1249 : (Jvm.Cond.methodLink "SlatCrates" (207 : Nat) ({ cls := "SlatCrates$Yard", name := "canBeTold", desc := "(I)Z" } : Jvm.MethodName)) ∈ lw_all := lw_g (lw_at lw_m5 212 rfl) rfl
theorem q1346 : (Jvm.Cond.selects "SlatCrates" ({ cls := "java/lang/Object", name := "hashCode", desc := "()I" } : Jvm.MethodName) ({ cls := "java/lang/Object", name := "hashCode", desc := "()I" } : Jvm.MethodName)) ∈ lw_all := lw_g (lw_at lw_m6 69 rfl) rfl
theorem q1779 : (Jvm.Cond.methodLink "SlatCrates" (210 : Nat) ({ cls := "SlatCrates$Yard", name := "lettersSeen", desc := "(I)I" } : Jvm.MethodName)) ∈ lw_all := lw_g (lw_at lw_m8 22 rfl) rfl
theorem q1783 : (Jvm.Cond.methodLink "SlatCrates" (213 : Nat) ({ cls := "SlatCrates$Yard", name := "bestFor", desc := "(I)I" } : Jvm.MethodName)) ∈ lw_all := lw_g (lw_at lw_m8 26 rfl) rfl
theorem q1788 : (Jvm.Cond.instanceMethod ({ cls := "SlatCrates", name := "letter", desc := "(II)I" } : Jvm.MethodName)) ∈ lw_all := lw_g (lw_at lw_m8 31 rfl) rfl
theorem q1789 : (Jvm.Cond.selects "SlatCrates" ({ cls := "SlatCrates", name := "letter", desc := "(II)I" } : Jvm.MethodName) ({ cls := "SlatCrates", name := "letter", desc := "(II)I" } : Jvm.MethodName)) ∈ lw_all := lw_g (lw_at lw_m8 32 rfl) rfl
theorem q1790 : (Jvm.Cond.code ({ cls := "SlatCrates", name := "letter", desc := "(II)I" } : Jvm.MethodName) prog_1_method_20_code (4 : Nat) (Option.some Jvm.ClassFile.FieldType.int)) ∈ lw_all := lw_g (lw_at lw_m8 33 rfl) rfl
theorem q1791 : (Jvm.Cond.methodLink "SlatCrates" (216 : Nat) ({ cls := "SlatCrates", name := "isPlace", desc := "(I)Z" } : Jvm.MethodName)) ∈ lw_all := lw_g (lw_at lw_m8 34 rfl) rfl
theorem q1792 : (Jvm.Cond.static ({ cls := "SlatCrates", name := "isPlace", desc := "(I)Z" } : Jvm.MethodName)) ∈ lw_all := lw_g (lw_at lw_m8 35 rfl) rfl
theorem q1793 : (Jvm.Cond.code ({ cls := "SlatCrates", name := "isPlace", desc := "(I)Z" } : Jvm.MethodName) prog_1_method_19_code (1 : Nat) (Option.some Jvm.ClassFile.FieldType.boolean)) ∈ lw_all := lw_g (lw_at lw_m8 36 rfl) rfl
theorem q1795 : (Jvm.Cond.instanceMethod ({ cls := "SlatCrates", name := "seen", desc := "(II)I" } : Jvm.MethodName)) ∈ lw_all := lw_g (lw_at lw_m8 38 rfl) rfl
theorem q1796 : (Jvm.Cond.selects "SlatCrates" ({ cls := "SlatCrates", name := "seen", desc := "(II)I" } : Jvm.MethodName) ({ cls := "SlatCrates", name := "seen", desc := "(II)I" } : Jvm.MethodName)) ∈ lw_all := lw_g (lw_at lw_m8 39 rfl) rfl
theorem q1797 : (Jvm.Cond.code ({ cls := "SlatCrates", name := "seen", desc := "(II)I" } : Jvm.MethodName) prog_1_method_21_code (3 : Nat) (Option.some Jvm.ClassFile.FieldType.int)) ∈ lw_all := lw_g (lw_at lw_m8 40 rfl) rfl
theorem q1798 : (Jvm.Cond.methodLink "SlatCrates" (219 : Nat) ({ cls := "SlatCrates$Yard", name := "seen", desc := "(I)LSlatCrates$Seen;" } : Jvm.MethodName)) ∈ lw_all := lw_g (lw_at lw_m8 41 rfl) rfl
theorem q1799 : (Jvm.Cond.methodLink "SlatCrates" (223 : Nat) ({ cls := "SlatCrates$Seen", name := "sign", desc := "(I)I" } : Jvm.MethodName)) ∈ lw_all := lw_g (lw_at lw_m8 42 rfl) rfl
theorem q1804 : (Jvm.Cond.instanceMethod ({ cls := "SlatCrates", name := "whyNot", desc := "(II)I" } : Jvm.MethodName)) ∈ lw_all := lw_g (lw_at lw_m8 47 rfl) rfl
theorem q1805 : (Jvm.Cond.selects "SlatCrates" ({ cls := "SlatCrates", name := "whyNot", desc := "(II)I" } : Jvm.MethodName) ({ cls := "SlatCrates", name := "whyNot", desc := "(II)I" } : Jvm.MethodName)) ∈ lw_all := lw_g (lw_at lw_m8 48 rfl) rfl
theorem q1806 : (Jvm.Cond.code ({ cls := "SlatCrates", name := "whyNot", desc := "(II)I" } : Jvm.MethodName) prog_1_method_22_code (3 : Nat) (Option.some Jvm.ClassFile.FieldType.int)) ∈ lw_all := lw_g (lw_at lw_m8 49 rfl) rfl
theorem q1808 : (Jvm.Cond.instanceMethod ({ cls := "SlatCrates", name := "effort", desc := "(II)I" } : Jvm.MethodName)) ∈ lw_all := lw_g (lw_at lw_m8 51 rfl) rfl
theorem q1809 : (Jvm.Cond.selects "SlatCrates" ({ cls := "SlatCrates", name := "effort", desc := "(II)I" } : Jvm.MethodName) ({ cls := "SlatCrates", name := "effort", desc := "(II)I" } : Jvm.MethodName)) ∈ lw_all := lw_g (lw_at lw_m8 52 rfl) rfl
theorem q1810 : (Jvm.Cond.code ({ cls := "SlatCrates", name := "effort", desc := "(II)I" } : Jvm.MethodName) prog_1_method_23_code (3 : Nat) (Option.some Jvm.ClassFile.FieldType.int)) ∈ lw_all := lw_g (lw_at lw_m8 53 rfl) rfl
theorem q1811 : (Jvm.Cond.methodLink "SlatCrates" (228 : Nat) ({ cls := "SlatCrates$Yard", name := "effortsUp", desc := "(I)I" } : Jvm.MethodName)) ∈ lw_all := lw_g (lw_at lw_m8 54 rfl) rfl
theorem q1816 : (Jvm.Cond.methodLink "SlatCrates" (231 : Nat) ({ cls := "SlatCrates$Yard", name := "effortsDown", desc := "(I)I" } : Jvm.MethodName)) ∈ lw_all := lw_g (lw_at lw_m8 59 rfl) rfl
theorem q1825 : (Jvm.Cond.instanceMethod ({ cls := "SlatCrates", name := "alike", desc := "(IIII)I" } : Jvm.MethodName)) ∈ lw_all := lw_g (lw_at lw_m8 68 rfl) rfl
theorem q1826 : (Jvm.Cond.selects "SlatCrates" ({ cls := "SlatCrates", name := "alike", desc := "(IIII)I" } : Jvm.MethodName) ({ cls := "SlatCrates", name := "alike", desc := "(IIII)I" } : Jvm.MethodName)) ∈ lw_all := lw_g (lw_at lw_m8 69 rfl) rfl
theorem q1827 : (Jvm.Cond.code ({ cls := "SlatCrates", name := "alike", desc := "(IIII)I" } : Jvm.MethodName) prog_1_method_26_code (8 : Nat) (Option.some Jvm.ClassFile.FieldType.int)) ∈ lw_all := lw_g (lw_at lw_m8 70 rfl) rfl
theorem q1828 : (Jvm.Cond.methodLink "SlatCrates" (234 : Nat) ({ cls := "SlatCrates", name := "isSign", desc := "(I)Z" } : Jvm.MethodName)) ∈ lw_all := lw_g (lw_at lw_m8 71 rfl) rfl
theorem q1829 : (Jvm.Cond.static ({ cls := "SlatCrates", name := "isSign", desc := "(I)Z" } : Jvm.MethodName)) ∈ lw_all := lw_g (lw_at lw_m8 72 rfl) rfl
theorem q1830 : (Jvm.Cond.code ({ cls := "SlatCrates", name := "isSign", desc := "(I)Z" } : Jvm.MethodName) prog_1_method_25_code (1 : Nat) (Option.some Jvm.ClassFile.FieldType.boolean)) ∈ lw_all := lw_g (lw_at lw_m8 73 rfl) rfl
theorem q1831 : (Jvm.Cond.methodLink "SlatCrates" (237 : Nat) ({ cls := "SlatCrates", name := "isAs", desc := "(LSlatCrates$Seen;II)Z" } : Jvm.MethodName)) ∈ lw_all := lw_g (lw_at lw_m8 74 rfl) rfl
theorem q1832 : (Jvm.Cond.static ({ cls := "SlatCrates", name := "isAs", desc := "(LSlatCrates$Seen;II)Z" } : Jvm.MethodName)) ∈ lw_all := lw_g (lw_at lw_m8 75 rfl) rfl
theorem q1833 : (Jvm.Cond.code ({ cls := "SlatCrates", name := "isAs", desc := "(LSlatCrates$Seen;II)Z" } : Jvm.MethodName) prog_1_method_24_code (3 : Nat) (Option.some Jvm.ClassFile.FieldType.boolean)) ∈ lw_all := lw_g (lw_at lw_m8 76 rfl) rfl
theorem q1835 : (Jvm.Cond.instanceMethod ({ cls := "SlatCrates", name := "nest", desc := "(I)I" } : Jvm.MethodName)) ∈ lw_all := lw_g (lw_at lw_m8 78 rfl) rfl
theorem q1836 : (Jvm.Cond.selects "SlatCrates" ({ cls := "SlatCrates", name := "nest", desc := "(I)I" } : Jvm.MethodName) ({ cls := "SlatCrates", name := "nest", desc := "(I)I" } : Jvm.MethodName)) ∈ lw_all := lw_g (lw_at lw_m8 79 rfl) rfl
theorem q1837 : (Jvm.Cond.code ({ cls := "SlatCrates", name := "nest", desc := "(I)I" } : Jvm.MethodName) prog_1_method_27_code (3 : Nat) (Option.some Jvm.ClassFile.FieldType.int)) ∈ lw_all := lw_g (lw_at lw_m8 80 rfl) rfl
theorem q1838 : (Jvm.Cond.methodLink "SlatCrates" (241 : Nat) ({ cls := "SlatCrates$Yard", name := "nest", desc := "()Ljava/util/ArrayList;" } : Jvm.MethodName)) ∈ lw_all := lw_g (lw_at lw_m8 81 rfl) rfl
theorem q1856 : (Jvm.Cond.instanceMethod ({ cls := "SlatCrates", name := "count", desc := "(I)I" } : Jvm.MethodName)) ∈ lw_all := lw_g (lw_at lw_m8 99 rfl) rfl
theorem q1857 : (Jvm.Cond.selects "SlatCrates" ({ cls := "SlatCrates", name := "count", desc := "(I)I" } : Jvm.MethodName) ({ cls := "SlatCrates", name := "count", desc := "(I)I" } : Jvm.MethodName)) ∈ lw_all := lw_g (lw_at lw_m8 100 rfl) rfl
theorem q1858 : (Jvm.Cond.code ({ cls := "SlatCrates", name := "count", desc := "(I)I" } : Jvm.MethodName) prog_1_method_32_code (2 : Nat) (Option.some Jvm.ClassFile.FieldType.int)) ∈ lw_all := lw_g (lw_at lw_m8 101 rfl) rfl
theorem q1859 : (Jvm.Cond.methodLink "SlatCrates" (253 : Nat) ({ cls := "SlatCrates", name := "onGround", desc := "()I" } : Jvm.MethodName)) ∈ lw_all := lw_g (lw_at lw_m8 102 rfl) rfl
theorem q1860 : (Jvm.Cond.privateMethod ({ cls := "SlatCrates", name := "onGround", desc := "()I" } : Jvm.MethodName)) ∈ lw_tbl := lw_at lw_m8 103 rfl
theorem q1861 : (Jvm.Cond.instanceMethod ({ cls := "SlatCrates", name := "onGround", desc := "()I" } : Jvm.MethodName)) ∈ lw_all := lw_g (lw_at lw_m8 104 rfl) rfl
theorem q1862 : (Jvm.Cond.code ({ cls := "SlatCrates", name := "onGround", desc := "()I" } : Jvm.MethodName) prog_1_method_28_code (3 : Nat) (Option.some Jvm.ClassFile.FieldType.int)) ∈ lw_all := lw_g (lw_at lw_m8 105 rfl) rfl
theorem q1863 : (Jvm.Cond.methodLink "SlatCrates" (256 : Nat) ({ cls := "SlatCrates", name := "loose", desc := "()I" } : Jvm.MethodName)) ∈ lw_all := lw_g (lw_at lw_m8 106 rfl) rfl
theorem q1864 : (Jvm.Cond.privateMethod ({ cls := "SlatCrates", name := "loose", desc := "()I" } : Jvm.MethodName)) ∈ lw_tbl := lw_at lw_m8 107 rfl
theorem q1865 : (Jvm.Cond.instanceMethod ({ cls := "SlatCrates", name := "loose", desc := "()I" } : Jvm.MethodName)) ∈ lw_all := lw_g (lw_at lw_m8 108 rfl) rfl
theorem q1866 : (Jvm.Cond.code ({ cls := "SlatCrates", name := "loose", desc := "()I" } : Jvm.MethodName) prog_1_method_29_code (3 : Nat) (Option.some Jvm.ClassFile.FieldType.int)) ∈ lw_all := lw_g (lw_at lw_m8 109 rfl) rfl
theorem q1867 : (Jvm.Cond.methodLink "SlatCrates" (245 : Nat) ({ cls := "SlatCrates$Yard", name := "isLoose", desc := "(I)Z" } : Jvm.MethodName)) ∈ lw_all := lw_g (lw_at lw_m8 110 rfl) rfl
theorem q1868 : (Jvm.Cond.methodLink "SlatCrates" (259 : Nat) ({ cls := "SlatCrates", name := "deepest", desc := "()I" } : Jvm.MethodName)) ∈ lw_all := lw_g (lw_at lw_m8 111 rfl) rfl
theorem q1869 : (Jvm.Cond.privateMethod ({ cls := "SlatCrates", name := "deepest", desc := "()I" } : Jvm.MethodName)) ∈ lw_tbl := lw_at lw_m8 112 rfl
theorem q1870 : (Jvm.Cond.instanceMethod ({ cls := "SlatCrates", name := "deepest", desc := "()I" } : Jvm.MethodName)) ∈ lw_all := lw_g (lw_at lw_m8 113 rfl) rfl
theorem q1871 : (Jvm.Cond.code ({ cls := "SlatCrates", name := "deepest", desc := "()I" } : Jvm.MethodName) prog_1_method_30_code (3 : Nat) (Option.some Jvm.ClassFile.FieldType.int)) ∈ lw_all := lw_g (lw_at lw_m8 114 rfl) rfl
theorem q1872 : (Jvm.Cond.methodLink "SlatCrates" (248 : Nat) ({ cls := "java/lang/Math", name := "max", desc := "(II)I" } : Jvm.MethodName)) ∈ lw_all := lw_g (lw_at lw_m8 115 rfl) rfl
theorem q1873 : (Jvm.Cond.methodLink "SlatCrates" (262 : Nat) ({ cls := "SlatCrates", name := "sumOf", desc := "(I)I" } : Jvm.MethodName)) ∈ lw_all := lw_g (lw_at lw_m8 116 rfl) rfl
theorem q1874 : (Jvm.Cond.privateMethod ({ cls := "SlatCrates", name := "sumOf", desc := "(I)I" } : Jvm.MethodName)) ∈ lw_tbl := lw_at lw_m8 117 rfl
theorem q1875 : (Jvm.Cond.instanceMethod ({ cls := "SlatCrates", name := "sumOf", desc := "(I)I" } : Jvm.MethodName)) ∈ lw_all := lw_g (lw_at lw_m8 118 rfl) rfl
theorem q1876 : (Jvm.Cond.code ({ cls := "SlatCrates", name := "sumOf", desc := "(I)I" } : Jvm.MethodName) prog_1_method_31_code (4 : Nat) (Option.some Jvm.ClassFile.FieldType.int)) ∈ lw_all := lw_g (lw_at lw_m8 119 rfl) rfl
theorem q1877 : (Jvm.Cond.methodLink "SlatCrates" (265 : Nat) ({ cls := "SlatCrates$Yard", name := "told", desc := "()I" } : Jvm.MethodName)) ∈ lw_all := lw_g (lw_at lw_m8 120 rfl) rfl
theorem q2049 : (Jvm.Cond.methodLink "SlatCrates" (268 : Nat) ({ cls := "SlatCrates$Yard", name := "allLettersSeen", desc := "()I" } : Jvm.MethodName)) ∈ lw_all := lw_g (lw_at lw_m9 52 rfl) rfl
theorem q2054 : (Jvm.Cond.methodLink "SlatCrates" (271 : Nat) ({ cls := "SlatCrates$Yard", name := "differentRows", desc := "()I" } : Jvm.MethodName)) ∈ lw_all := lw_g (lw_at lw_m9 57 rfl) rfl
theorem q2086 : (Jvm.Cond.methodLink "SlatCrates" (274 : Nat) ({ cls := "SlatCrates$Yard", name := "allEfforts", desc := "()I" } : Jvm.MethodName)) ∈ lw_all := lw_g (lw_at lw_m9 89 rfl) rfl
theorem q2091 : (Jvm.Cond.instanceMethod ({ cls := "SlatCrates", name := "full", desc := "()D" } : Jvm.MethodName)) ∈ lw_all := lw_g (lw_at lw_m9 94 rfl) rfl
theorem q2092 : (Jvm.Cond.selects "SlatCrates" ({ cls := "SlatCrates", name := "full", desc := "()D" } : Jvm.MethodName) ({ cls := "SlatCrates", name := "full", desc := "()D" } : Jvm.MethodName)) ∈ lw_all := lw_g (lw_at lw_m9 95 rfl) rfl
theorem q2093 : (Jvm.Cond.code ({ cls := "SlatCrates", name := "full", desc := "()D" } : Jvm.MethodName) prog_1_method_33_code (4 : Nat) (Option.some Jvm.ClassFile.FieldType.double)) ∈ lw_all := lw_g (lw_at lw_m9 96 rfl) rfl
theorem q2095 : (Jvm.Cond.instanceMethod ({ cls := "SlatCrates", name := "ifTurned", desc := "(II)I" } : Jvm.MethodName)) ∈ lw_all := lw_g (lw_at lw_m9 98 rfl) rfl
theorem q2096 : (Jvm.Cond.selects "SlatCrates" ({ cls := "SlatCrates", name := "ifTurned", desc := "(II)I" } : Jvm.MethodName) ({ cls := "SlatCrates", name := "ifTurned", desc := "(II)I" } : Jvm.MethodName)) ∈ lw_all := lw_g (lw_at lw_m9 99 rfl) rfl
theorem q2097 : (Jvm.Cond.code ({ cls := "SlatCrates", name := "ifTurned", desc := "(II)I" } : Jvm.MethodName) prog_1_method_35_code (4 : Nat) (Option.some Jvm.ClassFile.FieldType.int)) ∈ lw_all := lw_g (lw_at lw_m9 100 rfl) rfl
theorem q2098 : (Jvm.Cond.methodLink "SlatCrates" (277 : Nat) ({ cls := "SlatCrates", name := "turnedOnce", desc := "(I)LSlatCrates$Yard;" } : Jvm.MethodName)) ∈ lw_all := lw_g (lw_at lw_m9 101 rfl) rfl
theorem q2099 : (Jvm.Cond.privateMethod ({ cls := "SlatCrates", name := "turnedOnce", desc := "(I)LSlatCrates$Yard;" } : Jvm.MethodName)) ∈ lw_tbl := lw_at lw_m9 102 rfl
theorem q2100 : (Jvm.Cond.instanceMethod ({ cls := "SlatCrates", name := "turnedOnce", desc := "(I)LSlatCrates$Yard;" } : Jvm.MethodName)) ∈ lw_all := lw_g (lw_at lw_m9 103 rfl) rfl
theorem q2101 : (Jvm.Cond.code ({ cls := "SlatCrates", name := "turnedOnce", desc := "(I)LSlatCrates$Yard;" } : Jvm.MethodName) prog_1_method_34_code (3 : Nat) (Option.some (Jvm.ClassFile.FieldType.object "SlatCrates$Yard"))) ∈ lw_all := lw_g (lw_at lw_m9 104 rfl) rfl
theorem q2103 : (Jvm.Cond.instanceMethod ({ cls := "SlatCrates", name := "bestTurn", desc := "()I" } : Jvm.MethodName)) ∈ lw_all := lw_g (lw_at lw_m9 106 rfl) rfl
theorem q2104 : (Jvm.Cond.selects "SlatCrates" ({ cls := "SlatCrates", name := "bestTurn", desc := "()I" } : Jvm.MethodName) ({ cls := "SlatCrates", name := "bestTurn", desc := "()I" } : Jvm.MethodName)) ∈ lw_all := lw_g (lw_at lw_m9 107 rfl) rfl
theorem q2105 : (Jvm.Cond.code ({ cls := "SlatCrates", name := "bestTurn", desc := "()I" } : Jvm.MethodName) prog_1_method_36_code (5 : Nat) (Option.some Jvm.ClassFile.FieldType.int)) ∈ lw_all := lw_g (lw_at lw_m9 108 rfl) rfl
theorem q2107 : (Jvm.Cond.instanceMethod ({ cls := "SlatCrates", name := "undo", desc := "()I" } : Jvm.MethodName)) ∈ lw_all := lw_g (lw_at lw_m9 110 rfl) rfl
theorem q2108 : (Jvm.Cond.selects "SlatCrates" ({ cls := "SlatCrates", name := "undo", desc := "()I" } : Jvm.MethodName) ({ cls := "SlatCrates", name := "undo", desc := "()I" } : Jvm.MethodName)) ∈ lw_all := lw_g (lw_at lw_m9 111 rfl) rfl
theorem q2109 : (Jvm.Cond.code ({ cls := "SlatCrates", name := "undo", desc := "()I" } : Jvm.MethodName) prog_1_method_37_code (1 : Nat) (Option.some Jvm.ClassFile.FieldType.int)) ∈ lw_all := lw_g (lw_at lw_m9 112 rfl) rfl
theorem q2110 : (Jvm.Cond.methodLink "SlatCrates" (281 : Nat) ({ cls := "java/util/LinkedList", name := "isEmpty", desc := "()Z" } : Jvm.MethodName)) ∈ lw_all := lw_g (lw_at lw_m9 113 rfl) rfl
theorem q2121 : (Jvm.Cond.methodLink "SlatCrates" (284 : Nat) ({ cls := "java/util/LinkedList", name := "removeLast", desc := "()Ljava/lang/Object;" } : Jvm.MethodName)) ∈ lw_all := lw_g (lw_at lw_m9 124 rfl) rfl
theorem q2130 : (Jvm.Cond.instanceMethod ({ cls := "SlatCrates", name := "save", desc := "()I" } : Jvm.MethodName)) ∈ lw_all := lw_g (lw_at lw_m9 133 rfl) rfl
theorem q2131 : (Jvm.Cond.selects "SlatCrates" ({ cls := "SlatCrates", name := "save", desc := "()I" } : Jvm.MethodName) ({ cls := "SlatCrates", name := "save", desc := "()I" } : Jvm.MethodName)) ∈ lw_all := lw_g (lw_at lw_m9 134 rfl) rfl
theorem q2132 : (Jvm.Cond.code ({ cls := "SlatCrates", name := "save", desc := "()I" } : Jvm.MethodName) prog_1_method_38_code (1 : Nat) (Option.some Jvm.ClassFile.FieldType.int)) ∈ lw_all := lw_g (lw_at lw_m9 135 rfl) rfl
theorem q2134 : (Jvm.Cond.instanceMethod ({ cls := "SlatCrates", name := "restore", desc := "()I" } : Jvm.MethodName)) ∈ lw_all := lw_g (lw_at lw_m9 137 rfl) rfl
theorem q2135 : (Jvm.Cond.selects "SlatCrates" ({ cls := "SlatCrates", name := "restore", desc := "()I" } : Jvm.MethodName) ({ cls := "SlatCrates", name := "restore", desc := "()I" } : Jvm.MethodName)) ∈ lw_all := lw_g (lw_at lw_m9 138 rfl) rfl
theorem q2136 : (Jvm.Cond.code ({ cls := "SlatCrates", name := "restore", desc := "()I" } : Jvm.MethodName) prog_1_method_39_code (1 : Nat) (Option.some Jvm.ClassFile.FieldType.int)) ∈ lw_all := lw_g (lw_at lw_m9 139 rfl) rfl
theorem q2520 : (Jvm.Cond.castable "SlatCrates" "java/lang/Object") ∈ lw_tbl := lw_at lw_m11 43 rfl
theorem in_X0 : ∀ w ∈ wsX00, w ∈ lw_all := lw_in wsX00 [242, 244, 246, 248] (by decide +kernel) (by decide +kernel)

/-! SlatCrates$Yard -/
def RX1 : String := "SlatCrates$Yard"
def TX1 : u_T := fun k => match k with
  | 0 => ("SlatCrates$Yard", "crates", "Ljava/util/ArrayList;", true)
  | _ => ("SlatCrates$Yard", "refused", "I", false)
def tyX1 : Nat → FieldType := fun k => match k with
  | 0 => .object "java/util/ArrayList"
  | _ => .int
abbrev wsX10 : List Cond := u_ws RX1 TX1 2
theorem nmX1 : ∀ a, a < 2 → ∀ b, b < 2 → a ≠ b → (TX1 a).2.1 ≠ (TX1 b).2.1 := by decide +kernel
theorem tyX1_ok : ∀ k, k < 2 → parseFieldDescriptor (TX1 k).2.2.1 = some (tyX1 k) := by decide +kernel
abbrev cX1_init : ByteArray := prog_5_method_1_code
def yX1_init : MethodName := ⟨RX1, "<init>", "()V"⟩
def dkwX1_init_0 : List UInt8 := [42, 183, 0, 3, 42, 187, 0, 9, 89, 183, 0, 11, 181, 0, 12, 177]
abbrev dktX1_init_0 : List UInt8 := dkwX1_init_0 ++ []
theorem dksX1_init_0 : cX1_init.data.toList.drop 0 = dktX1_init_0 := by decide +kernel
theorem dX1_init_0 : decode cX1_init 0 = .ok (.aload_n 0, 1) := dk_42 (dk_at dksX1_init_0 0 rfl rfl)
theorem dX1_init_1 : decode cX1_init 1 = .ok (.invokespecial 3, 3) := dk_183 0 3 (dk_at dksX1_init_0 1 rfl rfl)
theorem dX1_init_4 : decode cX1_init 4 = .ok (.aload_n 0, 1) := dk_42 (dk_at dksX1_init_0 4 rfl rfl)
theorem dX1_init_5 : decode cX1_init 5 = .ok (.new 9, 3) := dk_187 0 9 (dk_at dksX1_init_0 5 rfl rfl)
theorem dX1_init_8 : decode cX1_init 8 = .ok (.dup, 1) := dk_89 (dk_at dksX1_init_0 8 rfl rfl)
theorem dX1_init_9 : decode cX1_init 9 = .ok (.invokespecial 11, 3) := dk_183 0 11 (dk_at dksX1_init_0 9 rfl rfl)
theorem dX1_init_12 : decode cX1_init 12 = .ok (.putfield 12, 3) := dk_181 0 12 (dk_at dksX1_init_0 12 rfl rfl)
theorem dX1_init_15 : decode cX1_init 15 = .ok (.return_, 1) := dk_177 (dk_at dksX1_init_0 15 rfl rfl)
abbrev cX1_size : ByteArray := prog_5_method_3_code
def yX1_size : MethodName := ⟨RX1, "size", "()I"⟩
def dkwX1_size_0 : List UInt8 := [42, 180, 0, 12, 182, 0, 47, 172]
abbrev dktX1_size_0 : List UInt8 := dkwX1_size_0 ++ []
theorem dksX1_size_0 : cX1_size.data.toList.drop 0 = dktX1_size_0 := by decide +kernel
theorem dX1_size_0 : decode cX1_size 0 = .ok (.aload_n 0, 1) := dk_42 (dk_at dksX1_size_0 0 rfl rfl)
theorem dX1_size_1 : decode cX1_size 1 = .ok (.getfield 12, 3) := dk_180 0 12 (dk_at dksX1_size_0 1 rfl rfl)
theorem dX1_size_4 : decode cX1_size 4 = .ok (.invokevirtual 47, 3) := dk_182 0 47 (dk_at dksX1_size_0 4 rfl rfl)
theorem dX1_size_7 : decode cX1_size 7 = .ok (.ireturn, 1) := dk_172 (dk_at dksX1_size_0 7 rfl rfl)
abbrev cX1_copy : ByteArray := prog_5_method_2_code
def yX1_copy : MethodName := ⟨RX1, "copy", "()LSlatCrates$Yard;"⟩
def dkwX1_copy_2 : List UInt8 := [87, 167, 255, 225, 43, 42, 180, 0, 43, 181, 0, 43, 43, 176]
abbrev dktX1_copy_2 : List UInt8 := dkwX1_copy_2 ++ []
def dkwX1_copy_1 : List UInt8 := [153, 0, 28, 44, 185, 0, 29, 1, 0, 192, 0, 33, 78, 43, 180, 0, 12, 45, 182, 0, 35, 182, 0, 39]
abbrev dktX1_copy_1 : List UInt8 := dkwX1_copy_1 ++ dktX1_copy_2
def dkwX1_copy_0 : List UInt8 := [187, 0, 13, 89, 183, 0, 18, 76, 42, 180, 0, 12, 182, 0, 19, 77, 44, 185, 0, 23, 1, 0]
abbrev dktX1_copy_0 : List UInt8 := dkwX1_copy_0 ++ dktX1_copy_1
theorem dksX1_copy_0 : cX1_copy.data.toList.drop 0 = dktX1_copy_0 := by decide +kernel
theorem dksX1_copy_1 : cX1_copy.data.toList.drop 22 = dktX1_copy_1 := dk_seg dksX1_copy_0 22 rfl rfl
theorem dksX1_copy_2 : cX1_copy.data.toList.drop 46 = dktX1_copy_2 := dk_seg dksX1_copy_1 24 rfl rfl
theorem dX1_copy_0 : decode cX1_copy 0 = .ok (.new 13, 3) := dk_187 0 13 (dk_at dksX1_copy_0 0 rfl rfl)
theorem dX1_copy_3 : decode cX1_copy 3 = .ok (.dup, 1) := dk_89 (dk_at dksX1_copy_0 3 rfl rfl)
theorem dX1_copy_4 : decode cX1_copy 4 = .ok (.invokespecial 18, 3) := dk_183 0 18 (dk_at dksX1_copy_0 4 rfl rfl)
theorem dX1_copy_7 : decode cX1_copy 7 = .ok (.astore_n 1, 1) := dk_76 (dk_at dksX1_copy_0 7 rfl rfl)
theorem dX1_copy_8 : decode cX1_copy 8 = .ok (.aload_n 0, 1) := dk_42 (dk_at dksX1_copy_0 8 rfl rfl)
theorem dX1_copy_9 : decode cX1_copy 9 = .ok (.getfield 12, 3) := dk_180 0 12 (dk_at dksX1_copy_0 9 rfl rfl)
theorem dX1_copy_12 : decode cX1_copy 12 = .ok (.invokevirtual 19, 3) := dk_182 0 19 (dk_at dksX1_copy_0 12 rfl rfl)
theorem dX1_copy_15 : decode cX1_copy 15 = .ok (.astore_n 2, 1) := dk_77 (dk_at dksX1_copy_0 15 rfl rfl)
theorem dX1_copy_16 : decode cX1_copy 16 = .ok (.aload_n 2, 1) := dk_44 (dk_at dksX1_copy_0 16 rfl rfl)
theorem dX1_copy_17 : decode cX1_copy 17 = .ok (.invokeinterface 23 1, 5) := by decide +kernel
theorem dX1_copy_22 : decode cX1_copy 22 = .ok (.ifCond .eq 28, 3) := dk_153 0 28 (dk_at dksX1_copy_1 0 rfl rfl)
theorem dX1_copy_25 : decode cX1_copy 25 = .ok (.aload_n 2, 1) := dk_44 (dk_at dksX1_copy_1 3 rfl rfl)
theorem dX1_copy_26 : decode cX1_copy 26 = .ok (.invokeinterface 29 1, 5) := by decide +kernel
theorem dX1_copy_31 : decode cX1_copy 31 = .ok (.checkcast 33, 3) := dk_192 0 33 (dk_at dksX1_copy_1 9 rfl rfl)
theorem dX1_copy_34 : decode cX1_copy 34 = .ok (.astore_n 3, 1) := dk_78 (dk_at dksX1_copy_1 12 rfl rfl)
theorem dX1_copy_35 : decode cX1_copy 35 = .ok (.aload_n 1, 1) := dk_43 (dk_at dksX1_copy_1 13 rfl rfl)
theorem dX1_copy_36 : decode cX1_copy 36 = .ok (.getfield 12, 3) := dk_180 0 12 (dk_at dksX1_copy_1 14 rfl rfl)
theorem dX1_copy_39 : decode cX1_copy 39 = .ok (.aload_n 3, 1) := dk_45 (dk_at dksX1_copy_1 17 rfl rfl)
theorem dX1_copy_40 : decode cX1_copy 40 = .ok (.invokevirtual 35, 3) := dk_182 0 35 (dk_at dksX1_copy_1 18 rfl rfl)
theorem dX1_copy_43 : decode cX1_copy 43 = .ok (.invokevirtual 39, 3) := dk_182 0 39 (dk_at dksX1_copy_1 21 rfl rfl)
theorem dX1_copy_46 : decode cX1_copy 46 = .ok (.pop, 1) := dk_87 (dk_at dksX1_copy_2 0 rfl rfl)
theorem dX1_copy_47 : decode cX1_copy 47 = .ok (.goto (-31), 3) := dk_167 255 225 (dk_at dksX1_copy_2 1 rfl rfl)
theorem dX1_copy_50 : decode cX1_copy 50 = .ok (.aload_n 1, 1) := dk_43 (dk_at dksX1_copy_2 4 rfl rfl)
theorem dX1_copy_51 : decode cX1_copy 51 = .ok (.aload_n 0, 1) := dk_42 (dk_at dksX1_copy_2 5 rfl rfl)
theorem dX1_copy_52 : decode cX1_copy 52 = .ok (.getfield 43, 3) := dk_180 0 43 (dk_at dksX1_copy_2 6 rfl rfl)
theorem dX1_copy_55 : decode cX1_copy 55 = .ok (.putfield 43, 3) := dk_181 0 43 (dk_at dksX1_copy_2 9 rfl rfl)
theorem dX1_copy_58 : decode cX1_copy 58 = .ok (.aload_n 1, 1) := dk_43 (dk_at dksX1_copy_2 12 rfl rfl)
theorem dX1_copy_59 : decode cX1_copy 59 = .ok (.areturn, 1) := dk_176 (dk_at dksX1_copy_2 13 rfl rfl)
abbrev cX1_whyNotPut : ByteArray := prog_5_method_13_code
def yX1_whyNotPut : MethodName := ⟨RX1, "whyNotPut", "(II)I"⟩
def dkwX1_whyNotPut_3 : List UInt8 := [167, 0, 4, 3, 172]
abbrev dktX1_whyNotPut_3 : List UInt8 := dkwX1_whyNotPut_3 ++ []
def dkwX1_whyNotPut_2 : List UInt8 := [180, 0, 85, 167, 0, 4, 3, 96, 62, 29, 42, 27, 182, 0, 55, 180, 0, 85, 162, 0, 7, 6]
abbrev dktX1_whyNotPut_2 : List UInt8 := dkwX1_whyNotPut_2 ++ dktX1_whyNotPut_3
def dkwX1_whyNotPut_1 : List UInt8 := [5, 172, 42, 28, 182, 0, 102, 42, 27, 182, 0, 55, 180, 0, 59, 28, 160, 0, 14, 42, 27, 182, 0, 55]
abbrev dktX1_whyNotPut_1 : List UInt8 := dkwX1_whyNotPut_1 ++ dktX1_whyNotPut_2
def dkwX1_whyNotPut_0 : List UInt8 := [42, 27, 182, 0, 99, 158, 0, 5, 4, 172, 27, 28, 159, 0, 12, 42, 27, 28, 182, 0, 73, 153, 0, 5]
abbrev dktX1_whyNotPut_0 : List UInt8 := dkwX1_whyNotPut_0 ++ dktX1_whyNotPut_1
theorem dksX1_whyNotPut_0 : cX1_whyNotPut.data.toList.drop 0 = dktX1_whyNotPut_0 := by decide +kernel
theorem dksX1_whyNotPut_1 : cX1_whyNotPut.data.toList.drop 24 = dktX1_whyNotPut_1 := dk_seg dksX1_whyNotPut_0 24 rfl rfl
theorem dksX1_whyNotPut_2 : cX1_whyNotPut.data.toList.drop 48 = dktX1_whyNotPut_2 := dk_seg dksX1_whyNotPut_1 24 rfl rfl
theorem dksX1_whyNotPut_3 : cX1_whyNotPut.data.toList.drop 70 = dktX1_whyNotPut_3 := dk_seg dksX1_whyNotPut_2 22 rfl rfl
theorem dX1_whyNotPut_0 : decode cX1_whyNotPut 0 = .ok (.aload_n 0, 1) := dk_42 (dk_at dksX1_whyNotPut_0 0 rfl rfl)
theorem dX1_whyNotPut_1 : decode cX1_whyNotPut 1 = .ok (.iload_n 1, 1) := dk_27 (dk_at dksX1_whyNotPut_0 1 rfl rfl)
theorem dX1_whyNotPut_2 : decode cX1_whyNotPut 2 = .ok (.invokevirtual 99, 3) := dk_182 0 99 (dk_at dksX1_whyNotPut_0 2 rfl rfl)
theorem dX1_whyNotPut_5 : decode cX1_whyNotPut 5 = .ok (.ifCond .le 5, 3) := dk_158 0 5 (dk_at dksX1_whyNotPut_0 5 rfl rfl)
theorem dX1_whyNotPut_8 : decode cX1_whyNotPut 8 = .ok (.iconst 1, 1) := dk_4 (dk_at dksX1_whyNotPut_0 8 rfl rfl)
theorem dX1_whyNotPut_9 : decode cX1_whyNotPut 9 = .ok (.ireturn, 1) := dk_172 (dk_at dksX1_whyNotPut_0 9 rfl rfl)
theorem dX1_whyNotPut_10 : decode cX1_whyNotPut 10 = .ok (.iload_n 1, 1) := dk_27 (dk_at dksX1_whyNotPut_0 10 rfl rfl)
theorem dX1_whyNotPut_11 : decode cX1_whyNotPut 11 = .ok (.iload_n 2, 1) := dk_28 (dk_at dksX1_whyNotPut_0 11 rfl rfl)
theorem dX1_whyNotPut_12 : decode cX1_whyNotPut 12 = .ok (.if_icmp .eq 12, 3) := dk_159 0 12 (dk_at dksX1_whyNotPut_0 12 rfl rfl)
theorem dX1_whyNotPut_15 : decode cX1_whyNotPut 15 = .ok (.aload_n 0, 1) := dk_42 (dk_at dksX1_whyNotPut_0 15 rfl rfl)
theorem dX1_whyNotPut_16 : decode cX1_whyNotPut 16 = .ok (.iload_n 1, 1) := dk_27 (dk_at dksX1_whyNotPut_0 16 rfl rfl)
theorem dX1_whyNotPut_17 : decode cX1_whyNotPut 17 = .ok (.iload_n 2, 1) := dk_28 (dk_at dksX1_whyNotPut_0 17 rfl rfl)
theorem dX1_whyNotPut_18 : decode cX1_whyNotPut 18 = .ok (.invokevirtual 73, 3) := dk_182 0 73 (dk_at dksX1_whyNotPut_0 18 rfl rfl)
theorem dX1_whyNotPut_21 : decode cX1_whyNotPut 21 = .ok (.ifCond .eq 5, 3) := dk_153 0 5 (dk_at dksX1_whyNotPut_0 21 rfl rfl)
theorem dX1_whyNotPut_24 : decode cX1_whyNotPut 24 = .ok (.iconst 2, 1) := dk_5 (dk_at dksX1_whyNotPut_1 0 rfl rfl)
theorem dX1_whyNotPut_25 : decode cX1_whyNotPut 25 = .ok (.ireturn, 1) := dk_172 (dk_at dksX1_whyNotPut_1 1 rfl rfl)
theorem dX1_whyNotPut_26 : decode cX1_whyNotPut 26 = .ok (.aload_n 0, 1) := dk_42 (dk_at dksX1_whyNotPut_1 2 rfl rfl)
theorem dX1_whyNotPut_27 : decode cX1_whyNotPut 27 = .ok (.iload_n 2, 1) := dk_28 (dk_at dksX1_whyNotPut_1 3 rfl rfl)
theorem dX1_whyNotPut_28 : decode cX1_whyNotPut 28 = .ok (.invokevirtual 102, 3) := dk_182 0 102 (dk_at dksX1_whyNotPut_1 4 rfl rfl)
theorem dX1_whyNotPut_31 : decode cX1_whyNotPut 31 = .ok (.aload_n 0, 1) := dk_42 (dk_at dksX1_whyNotPut_1 7 rfl rfl)
theorem dX1_whyNotPut_32 : decode cX1_whyNotPut 32 = .ok (.iload_n 1, 1) := dk_27 (dk_at dksX1_whyNotPut_1 8 rfl rfl)
theorem dX1_whyNotPut_33 : decode cX1_whyNotPut 33 = .ok (.invokevirtual 55, 3) := dk_182 0 55 (dk_at dksX1_whyNotPut_1 9 rfl rfl)
theorem dX1_whyNotPut_36 : decode cX1_whyNotPut 36 = .ok (.getfield 59, 3) := dk_180 0 59 (dk_at dksX1_whyNotPut_1 12 rfl rfl)
theorem dX1_whyNotPut_39 : decode cX1_whyNotPut 39 = .ok (.iload_n 2, 1) := dk_28 (dk_at dksX1_whyNotPut_1 15 rfl rfl)
theorem dX1_whyNotPut_40 : decode cX1_whyNotPut 40 = .ok (.if_icmp .ne 14, 3) := dk_160 0 14 (dk_at dksX1_whyNotPut_1 16 rfl rfl)
theorem dX1_whyNotPut_43 : decode cX1_whyNotPut 43 = .ok (.aload_n 0, 1) := dk_42 (dk_at dksX1_whyNotPut_1 19 rfl rfl)
theorem dX1_whyNotPut_44 : decode cX1_whyNotPut 44 = .ok (.iload_n 1, 1) := dk_27 (dk_at dksX1_whyNotPut_1 20 rfl rfl)
theorem dX1_whyNotPut_45 : decode cX1_whyNotPut 45 = .ok (.invokevirtual 55, 3) := dk_182 0 55 (dk_at dksX1_whyNotPut_1 21 rfl rfl)
theorem dX1_whyNotPut_48 : decode cX1_whyNotPut 48 = .ok (.getfield 85, 3) := dk_180 0 85 (dk_at dksX1_whyNotPut_2 0 rfl rfl)
theorem dX1_whyNotPut_51 : decode cX1_whyNotPut 51 = .ok (.goto 4, 3) := dk_167 0 4 (dk_at dksX1_whyNotPut_2 3 rfl rfl)
theorem dX1_whyNotPut_54 : decode cX1_whyNotPut 54 = .ok (.iconst 0, 1) := dk_3 (dk_at dksX1_whyNotPut_2 6 rfl rfl)
theorem dX1_whyNotPut_55 : decode cX1_whyNotPut 55 = .ok (.iadd, 1) := dk_96 (dk_at dksX1_whyNotPut_2 7 rfl rfl)
theorem dX1_whyNotPut_56 : decode cX1_whyNotPut 56 = .ok (.istore_n 3, 1) := dk_62 (dk_at dksX1_whyNotPut_2 8 rfl rfl)
theorem dX1_whyNotPut_57 : decode cX1_whyNotPut 57 = .ok (.iload_n 3, 1) := dk_29 (dk_at dksX1_whyNotPut_2 9 rfl rfl)
theorem dX1_whyNotPut_58 : decode cX1_whyNotPut 58 = .ok (.aload_n 0, 1) := dk_42 (dk_at dksX1_whyNotPut_2 10 rfl rfl)
theorem dX1_whyNotPut_59 : decode cX1_whyNotPut 59 = .ok (.iload_n 1, 1) := dk_27 (dk_at dksX1_whyNotPut_2 11 rfl rfl)
theorem dX1_whyNotPut_60 : decode cX1_whyNotPut 60 = .ok (.invokevirtual 55, 3) := dk_182 0 55 (dk_at dksX1_whyNotPut_2 12 rfl rfl)
theorem dX1_whyNotPut_63 : decode cX1_whyNotPut 63 = .ok (.getfield 85, 3) := dk_180 0 85 (dk_at dksX1_whyNotPut_2 15 rfl rfl)
theorem dX1_whyNotPut_66 : decode cX1_whyNotPut 66 = .ok (.if_icmp .ge 7, 3) := dk_162 0 7 (dk_at dksX1_whyNotPut_2 18 rfl rfl)
theorem dX1_whyNotPut_69 : decode cX1_whyNotPut 69 = .ok (.iconst 3, 1) := dk_6 (dk_at dksX1_whyNotPut_2 21 rfl rfl)
theorem dX1_whyNotPut_70 : decode cX1_whyNotPut 70 = .ok (.goto 4, 3) := dk_167 0 4 (dk_at dksX1_whyNotPut_3 0 rfl rfl)
theorem dX1_whyNotPut_73 : decode cX1_whyNotPut 73 = .ok (.iconst 0, 1) := dk_3 (dk_at dksX1_whyNotPut_3 3 rfl rfl)
theorem dX1_whyNotPut_74 : decode cX1_whyNotPut 74 = .ok (.ireturn, 1) := dk_172 (dk_at dksX1_whyNotPut_3 4 rfl rfl)
abbrev cX1_above : ByteArray := prog_5_method_12_code
def yX1_above : MethodName := ⟨RX1, "above", "(I)I"⟩
def dkwX1_above_1 : List UInt8 := [180, 0, 66, 182, 0, 47, 4, 100, 42, 27, 182, 0, 95, 100, 172]
abbrev dktX1_above_1 : List UInt8 := dkwX1_above_1 ++ []
def dkwX1_above_0 : List UInt8 := [42, 27, 182, 0, 62, 153, 0, 7, 3, 167, 0, 29, 42, 42, 27, 182, 0, 55, 180, 0, 59, 182, 0, 55]
abbrev dktX1_above_0 : List UInt8 := dkwX1_above_0 ++ dktX1_above_1
theorem dksX1_above_0 : cX1_above.data.toList.drop 0 = dktX1_above_0 := by decide +kernel
theorem dksX1_above_1 : cX1_above.data.toList.drop 24 = dktX1_above_1 := dk_seg dksX1_above_0 24 rfl rfl
theorem dX1_above_0 : decode cX1_above 0 = .ok (.aload_n 0, 1) := dk_42 (dk_at dksX1_above_0 0 rfl rfl)
theorem dX1_above_1 : decode cX1_above 1 = .ok (.iload_n 1, 1) := dk_27 (dk_at dksX1_above_0 1 rfl rfl)
theorem dX1_above_2 : decode cX1_above 2 = .ok (.invokevirtual 62, 3) := dk_182 0 62 (dk_at dksX1_above_0 2 rfl rfl)
theorem dX1_above_5 : decode cX1_above 5 = .ok (.ifCond .eq 7, 3) := dk_153 0 7 (dk_at dksX1_above_0 5 rfl rfl)
theorem dX1_above_8 : decode cX1_above 8 = .ok (.iconst 0, 1) := dk_3 (dk_at dksX1_above_0 8 rfl rfl)
theorem dX1_above_9 : decode cX1_above 9 = .ok (.goto 29, 3) := dk_167 0 29 (dk_at dksX1_above_0 9 rfl rfl)
theorem dX1_above_12 : decode cX1_above 12 = .ok (.aload_n 0, 1) := dk_42 (dk_at dksX1_above_0 12 rfl rfl)
theorem dX1_above_13 : decode cX1_above 13 = .ok (.aload_n 0, 1) := dk_42 (dk_at dksX1_above_0 13 rfl rfl)
theorem dX1_above_14 : decode cX1_above 14 = .ok (.iload_n 1, 1) := dk_27 (dk_at dksX1_above_0 14 rfl rfl)
theorem dX1_above_15 : decode cX1_above 15 = .ok (.invokevirtual 55, 3) := dk_182 0 55 (dk_at dksX1_above_0 15 rfl rfl)
theorem dX1_above_18 : decode cX1_above 18 = .ok (.getfield 59, 3) := dk_180 0 59 (dk_at dksX1_above_0 18 rfl rfl)
theorem dX1_above_21 : decode cX1_above 21 = .ok (.invokevirtual 55, 3) := dk_182 0 55 (dk_at dksX1_above_0 21 rfl rfl)
theorem dX1_above_24 : decode cX1_above 24 = .ok (.getfield 66, 3) := dk_180 0 66 (dk_at dksX1_above_1 0 rfl rfl)
theorem dX1_above_27 : decode cX1_above 27 = .ok (.invokevirtual 47, 3) := dk_182 0 47 (dk_at dksX1_above_1 3 rfl rfl)
theorem dX1_above_30 : decode cX1_above 30 = .ok (.iconst 1, 1) := dk_4 (dk_at dksX1_above_1 6 rfl rfl)
theorem dX1_above_31 : decode cX1_above 31 = .ok (.isub, 1) := dk_100 (dk_at dksX1_above_1 7 rfl rfl)
theorem dX1_above_32 : decode cX1_above 32 = .ok (.aload_n 0, 1) := dk_42 (dk_at dksX1_above_1 8 rfl rfl)
theorem dX1_above_33 : decode cX1_above 33 = .ok (.iload_n 1, 1) := dk_27 (dk_at dksX1_above_1 9 rfl rfl)
theorem dX1_above_34 : decode cX1_above 34 = .ok (.invokevirtual 95, 3) := dk_182 0 95 (dk_at dksX1_above_1 10 rfl rfl)
theorem dX1_above_37 : decode cX1_above 37 = .ok (.isub, 1) := dk_100 (dk_at dksX1_above_1 13 rfl rfl)
theorem dX1_above_38 : decode cX1_above 38 = .ok (.ireturn, 1) := dk_172 (dk_at dksX1_above_1 14 rfl rfl)
abbrev cX1_isOnGround : ByteArray := prog_5_method_5_code
def yX1_isOnGround : MethodName := ⟨RX1, "isOnGround", "(I)Z"⟩
def dkwX1_isOnGround_0 : List UInt8 := [42, 27, 182, 0, 55, 180, 0, 59, 2, 160, 0, 7, 4, 167, 0, 4, 3, 172]
abbrev dktX1_isOnGround_0 : List UInt8 := dkwX1_isOnGround_0 ++ []
theorem dksX1_isOnGround_0 : cX1_isOnGround.data.toList.drop 0 = dktX1_isOnGround_0 := by decide +kernel
theorem dX1_isOnGround_0 : decode cX1_isOnGround 0 = .ok (.aload_n 0, 1) := dk_42 (dk_at dksX1_isOnGround_0 0 rfl rfl)
theorem dX1_isOnGround_1 : decode cX1_isOnGround 1 = .ok (.iload_n 1, 1) := dk_27 (dk_at dksX1_isOnGround_0 1 rfl rfl)
theorem dX1_isOnGround_2 : decode cX1_isOnGround 2 = .ok (.invokevirtual 55, 3) := dk_182 0 55 (dk_at dksX1_isOnGround_0 2 rfl rfl)
theorem dX1_isOnGround_5 : decode cX1_isOnGround 5 = .ok (.getfield 59, 3) := dk_180 0 59 (dk_at dksX1_isOnGround_0 5 rfl rfl)
theorem dX1_isOnGround_8 : decode cX1_isOnGround 8 = .ok (.iconst (-1), 1) := dk_2 (dk_at dksX1_isOnGround_0 8 rfl rfl)
theorem dX1_isOnGround_9 : decode cX1_isOnGround 9 = .ok (.if_icmp .ne 7, 3) := dk_160 0 7 (dk_at dksX1_isOnGround_0 9 rfl rfl)
theorem dX1_isOnGround_12 : decode cX1_isOnGround 12 = .ok (.iconst 1, 1) := dk_4 (dk_at dksX1_isOnGround_0 12 rfl rfl)
theorem dX1_isOnGround_13 : decode cX1_isOnGround 13 = .ok (.goto 4, 3) := dk_167 0 4 (dk_at dksX1_isOnGround_0 13 rfl rfl)
theorem dX1_isOnGround_16 : decode cX1_isOnGround 16 = .ok (.iconst 0, 1) := dk_3 (dk_at dksX1_isOnGround_0 16 rfl rfl)
theorem dX1_isOnGround_17 : decode cX1_isOnGround 17 = .ok (.ireturn, 1) := dk_172 (dk_at dksX1_isOnGround_0 17 rfl rfl)
abbrev cX1_at : ByteArray := prog_5_method_4_code
def yX1_at : MethodName := ⟨RX1, "at", "(I)LSlatCrates$Crate;"⟩
def dkwX1_at_0 : List UInt8 := [42, 180, 0, 12, 27, 182, 0, 51, 192, 0, 33, 176]
abbrev dktX1_at_0 : List UInt8 := dkwX1_at_0 ++ []
theorem dksX1_at_0 : cX1_at.data.toList.drop 0 = dktX1_at_0 := by decide +kernel
theorem dX1_at_0 : decode cX1_at 0 = .ok (.aload_n 0, 1) := dk_42 (dk_at dksX1_at_0 0 rfl rfl)
theorem dX1_at_1 : decode cX1_at 1 = .ok (.getfield 12, 3) := dk_180 0 12 (dk_at dksX1_at_0 1 rfl rfl)
theorem dX1_at_4 : decode cX1_at 4 = .ok (.iload_n 1, 1) := dk_27 (dk_at dksX1_at_0 4 rfl rfl)
theorem dX1_at_5 : decode cX1_at 5 = .ok (.invokevirtual 51, 3) := dk_182 0 51 (dk_at dksX1_at_0 5 rfl rfl)
theorem dX1_at_8 : decode cX1_at 8 = .ok (.checkcast 33, 3) := dk_192 0 33 (dk_at dksX1_at_0 8 rfl rfl)
theorem dX1_at_11 : decode cX1_at 11 = .ok (.areturn, 1) := dk_176 (dk_at dksX1_at_0 11 rfl rfl)
abbrev cX1_placeInPile : ByteArray := prog_5_method_11_code
def yX1_placeInPile : MethodName := ⟨RX1, "placeInPile", "(I)I"⟩
def dkwX1_placeInPile_1 : List UInt8 := [180, 0, 66, 27, 184, 0, 87, 182, 0, 91, 172]
abbrev dktX1_placeInPile_1 : List UInt8 := dkwX1_placeInPile_1 ++ []
def dkwX1_placeInPile_0 : List UInt8 := [42, 27, 182, 0, 62, 153, 0, 7, 3, 167, 0, 25, 42, 42, 27, 182, 0, 55, 180, 0, 59, 182, 0, 55]
abbrev dktX1_placeInPile_0 : List UInt8 := dkwX1_placeInPile_0 ++ dktX1_placeInPile_1
theorem dksX1_placeInPile_0 : cX1_placeInPile.data.toList.drop 0 = dktX1_placeInPile_0 := by decide +kernel
theorem dksX1_placeInPile_1 : cX1_placeInPile.data.toList.drop 24 = dktX1_placeInPile_1 := dk_seg dksX1_placeInPile_0 24 rfl rfl
theorem dX1_placeInPile_0 : decode cX1_placeInPile 0 = .ok (.aload_n 0, 1) := dk_42 (dk_at dksX1_placeInPile_0 0 rfl rfl)
theorem dX1_placeInPile_1 : decode cX1_placeInPile 1 = .ok (.iload_n 1, 1) := dk_27 (dk_at dksX1_placeInPile_0 1 rfl rfl)
theorem dX1_placeInPile_2 : decode cX1_placeInPile 2 = .ok (.invokevirtual 62, 3) := dk_182 0 62 (dk_at dksX1_placeInPile_0 2 rfl rfl)
theorem dX1_placeInPile_5 : decode cX1_placeInPile 5 = .ok (.ifCond .eq 7, 3) := dk_153 0 7 (dk_at dksX1_placeInPile_0 5 rfl rfl)
theorem dX1_placeInPile_8 : decode cX1_placeInPile 8 = .ok (.iconst 0, 1) := dk_3 (dk_at dksX1_placeInPile_0 8 rfl rfl)
theorem dX1_placeInPile_9 : decode cX1_placeInPile 9 = .ok (.goto 25, 3) := dk_167 0 25 (dk_at dksX1_placeInPile_0 9 rfl rfl)
theorem dX1_placeInPile_12 : decode cX1_placeInPile 12 = .ok (.aload_n 0, 1) := dk_42 (dk_at dksX1_placeInPile_0 12 rfl rfl)
theorem dX1_placeInPile_13 : decode cX1_placeInPile 13 = .ok (.aload_n 0, 1) := dk_42 (dk_at dksX1_placeInPile_0 13 rfl rfl)
theorem dX1_placeInPile_14 : decode cX1_placeInPile 14 = .ok (.iload_n 1, 1) := dk_27 (dk_at dksX1_placeInPile_0 14 rfl rfl)
theorem dX1_placeInPile_15 : decode cX1_placeInPile 15 = .ok (.invokevirtual 55, 3) := dk_182 0 55 (dk_at dksX1_placeInPile_0 15 rfl rfl)
theorem dX1_placeInPile_18 : decode cX1_placeInPile 18 = .ok (.getfield 59, 3) := dk_180 0 59 (dk_at dksX1_placeInPile_0 18 rfl rfl)
theorem dX1_placeInPile_21 : decode cX1_placeInPile 21 = .ok (.invokevirtual 55, 3) := dk_182 0 55 (dk_at dksX1_placeInPile_0 21 rfl rfl)
theorem dX1_placeInPile_24 : decode cX1_placeInPile 24 = .ok (.getfield 66, 3) := dk_180 0 66 (dk_at dksX1_placeInPile_1 0 rfl rfl)
theorem dX1_placeInPile_27 : decode cX1_placeInPile 27 = .ok (.iload_n 1, 1) := dk_27 (dk_at dksX1_placeInPile_1 3 rfl rfl)
theorem dX1_placeInPile_28 : decode cX1_placeInPile 28 = .ok (.invokestatic 87, 3) := dk_184 0 87 (dk_at dksX1_placeInPile_1 4 rfl rfl)
theorem dX1_placeInPile_31 : decode cX1_placeInPile 31 = .ok (.invokevirtual 91, 3) := dk_182 0 91 (dk_at dksX1_placeInPile_1 7 rfl rfl)
theorem dX1_placeInPile_34 : decode cX1_placeInPile 34 = .ok (.ireturn, 1) := dk_172 (dk_at dksX1_placeInPile_1 10 rfl rfl)
abbrev cX1_isAround : ByteArray := prog_5_method_8_code
def yX1_isAround : MethodName := ⟨RX1, "isAround", "(II)Z"⟩
def dkwX1_isAround_1 : List UInt8 := [180, 0, 59, 62, 167, 255, 237, 29, 27, 160, 0, 7, 4, 167, 0, 4, 3, 172]
abbrev dktX1_isAround_1 : List UInt8 := dkwX1_isAround_1 ++ []
def dkwX1_isAround_0 : List UInt8 := [42, 28, 182, 0, 55, 180, 0, 59, 62, 29, 2, 159, 0, 20, 29, 27, 159, 0, 15, 42, 29, 182, 0, 55]
abbrev dktX1_isAround_0 : List UInt8 := dkwX1_isAround_0 ++ dktX1_isAround_1
theorem dksX1_isAround_0 : cX1_isAround.data.toList.drop 0 = dktX1_isAround_0 := by decide +kernel
theorem dksX1_isAround_1 : cX1_isAround.data.toList.drop 24 = dktX1_isAround_1 := dk_seg dksX1_isAround_0 24 rfl rfl
theorem dX1_isAround_0 : decode cX1_isAround 0 = .ok (.aload_n 0, 1) := dk_42 (dk_at dksX1_isAround_0 0 rfl rfl)
theorem dX1_isAround_1 : decode cX1_isAround 1 = .ok (.iload_n 2, 1) := dk_28 (dk_at dksX1_isAround_0 1 rfl rfl)
theorem dX1_isAround_2 : decode cX1_isAround 2 = .ok (.invokevirtual 55, 3) := dk_182 0 55 (dk_at dksX1_isAround_0 2 rfl rfl)
theorem dX1_isAround_5 : decode cX1_isAround 5 = .ok (.getfield 59, 3) := dk_180 0 59 (dk_at dksX1_isAround_0 5 rfl rfl)
theorem dX1_isAround_8 : decode cX1_isAround 8 = .ok (.istore_n 3, 1) := dk_62 (dk_at dksX1_isAround_0 8 rfl rfl)
theorem dX1_isAround_9 : decode cX1_isAround 9 = .ok (.iload_n 3, 1) := dk_29 (dk_at dksX1_isAround_0 9 rfl rfl)
theorem dX1_isAround_10 : decode cX1_isAround 10 = .ok (.iconst (-1), 1) := dk_2 (dk_at dksX1_isAround_0 10 rfl rfl)
theorem dX1_isAround_11 : decode cX1_isAround 11 = .ok (.if_icmp .eq 20, 3) := dk_159 0 20 (dk_at dksX1_isAround_0 11 rfl rfl)
theorem dX1_isAround_14 : decode cX1_isAround 14 = .ok (.iload_n 3, 1) := dk_29 (dk_at dksX1_isAround_0 14 rfl rfl)
theorem dX1_isAround_15 : decode cX1_isAround 15 = .ok (.iload_n 1, 1) := dk_27 (dk_at dksX1_isAround_0 15 rfl rfl)
theorem dX1_isAround_16 : decode cX1_isAround 16 = .ok (.if_icmp .eq 15, 3) := dk_159 0 15 (dk_at dksX1_isAround_0 16 rfl rfl)
theorem dX1_isAround_19 : decode cX1_isAround 19 = .ok (.aload_n 0, 1) := dk_42 (dk_at dksX1_isAround_0 19 rfl rfl)
theorem dX1_isAround_20 : decode cX1_isAround 20 = .ok (.iload_n 3, 1) := dk_29 (dk_at dksX1_isAround_0 20 rfl rfl)
theorem dX1_isAround_21 : decode cX1_isAround 21 = .ok (.invokevirtual 55, 3) := dk_182 0 55 (dk_at dksX1_isAround_0 21 rfl rfl)
theorem dX1_isAround_24 : decode cX1_isAround 24 = .ok (.getfield 59, 3) := dk_180 0 59 (dk_at dksX1_isAround_1 0 rfl rfl)
theorem dX1_isAround_27 : decode cX1_isAround 27 = .ok (.istore_n 3, 1) := dk_62 (dk_at dksX1_isAround_1 3 rfl rfl)
theorem dX1_isAround_28 : decode cX1_isAround 28 = .ok (.goto (-19), 3) := dk_167 255 237 (dk_at dksX1_isAround_1 4 rfl rfl)
theorem dX1_isAround_31 : decode cX1_isAround 31 = .ok (.iload_n 3, 1) := dk_29 (dk_at dksX1_isAround_1 7 rfl rfl)
theorem dX1_isAround_32 : decode cX1_isAround 32 = .ok (.iload_n 1, 1) := dk_27 (dk_at dksX1_isAround_1 8 rfl rfl)
theorem dX1_isAround_33 : decode cX1_isAround 33 = .ok (.if_icmp .ne 7, 3) := dk_160 0 7 (dk_at dksX1_isAround_1 9 rfl rfl)
theorem dX1_isAround_36 : decode cX1_isAround 36 = .ok (.iconst 1, 1) := dk_4 (dk_at dksX1_isAround_1 12 rfl rfl)
theorem dX1_isAround_37 : decode cX1_isAround 37 = .ok (.goto 4, 3) := dk_167 0 4 (dk_at dksX1_isAround_1 13 rfl rfl)
theorem dX1_isAround_40 : decode cX1_isAround 40 = .ok (.iconst 0, 1) := dk_3 (dk_at dksX1_isAround_1 16 rfl rfl)
theorem dX1_isAround_41 : decode cX1_isAround 41 = .ok (.ireturn, 1) := dk_172 (dk_at dksX1_isAround_1 17 rfl rfl)
abbrev cX1_left : ByteArray := prog_5_method_10_code
def yX1_left : MethodName := ⟨RX1, "left", "(I)I"⟩
def dkwX1_left_2 : List UInt8 := [21, 4, 182, 0, 55, 180, 0, 85, 100, 61, 167, 255, 221, 28, 172]
abbrev dktX1_left_2 : List UInt8 := dkwX1_left_2 ++ []
def dkwX1_left_1 : List UInt8 := [185, 0, 23, 1, 0, 153, 0, 32, 45, 185, 0, 29, 1, 0, 192, 0, 80, 182, 0, 82, 54, 4, 28, 42]
abbrev dktX1_left_1 : List UInt8 := dkwX1_left_1 ++ dktX1_left_2
def dkwX1_left_0 : List UInt8 := [42, 27, 182, 0, 55, 180, 0, 77, 61, 42, 27, 182, 0, 55, 180, 0, 66, 182, 0, 19, 78, 45]
abbrev dktX1_left_0 : List UInt8 := dkwX1_left_0 ++ dktX1_left_1
theorem dksX1_left_0 : cX1_left.data.toList.drop 0 = dktX1_left_0 := by decide +kernel
theorem dksX1_left_1 : cX1_left.data.toList.drop 22 = dktX1_left_1 := dk_seg dksX1_left_0 22 rfl rfl
theorem dksX1_left_2 : cX1_left.data.toList.drop 46 = dktX1_left_2 := dk_seg dksX1_left_1 24 rfl rfl
theorem dX1_left_0 : decode cX1_left 0 = .ok (.aload_n 0, 1) := dk_42 (dk_at dksX1_left_0 0 rfl rfl)
theorem dX1_left_1 : decode cX1_left 1 = .ok (.iload_n 1, 1) := dk_27 (dk_at dksX1_left_0 1 rfl rfl)
theorem dX1_left_2 : decode cX1_left 2 = .ok (.invokevirtual 55, 3) := dk_182 0 55 (dk_at dksX1_left_0 2 rfl rfl)
theorem dX1_left_5 : decode cX1_left 5 = .ok (.getfield 77, 3) := dk_180 0 77 (dk_at dksX1_left_0 5 rfl rfl)
theorem dX1_left_8 : decode cX1_left 8 = .ok (.istore_n 2, 1) := dk_61 (dk_at dksX1_left_0 8 rfl rfl)
theorem dX1_left_9 : decode cX1_left 9 = .ok (.aload_n 0, 1) := dk_42 (dk_at dksX1_left_0 9 rfl rfl)
theorem dX1_left_10 : decode cX1_left 10 = .ok (.iload_n 1, 1) := dk_27 (dk_at dksX1_left_0 10 rfl rfl)
theorem dX1_left_11 : decode cX1_left 11 = .ok (.invokevirtual 55, 3) := dk_182 0 55 (dk_at dksX1_left_0 11 rfl rfl)
theorem dX1_left_14 : decode cX1_left 14 = .ok (.getfield 66, 3) := dk_180 0 66 (dk_at dksX1_left_0 14 rfl rfl)
theorem dX1_left_17 : decode cX1_left 17 = .ok (.invokevirtual 19, 3) := dk_182 0 19 (dk_at dksX1_left_0 17 rfl rfl)
theorem dX1_left_20 : decode cX1_left 20 = .ok (.astore_n 3, 1) := dk_78 (dk_at dksX1_left_0 20 rfl rfl)
theorem dX1_left_21 : decode cX1_left 21 = .ok (.aload_n 3, 1) := dk_45 (dk_at dksX1_left_0 21 rfl rfl)
theorem dX1_left_22 : decode cX1_left 22 = .ok (.invokeinterface 23 1, 5) := by decide +kernel
theorem dX1_left_27 : decode cX1_left 27 = .ok (.ifCond .eq 32, 3) := dk_153 0 32 (dk_at dksX1_left_1 5 rfl rfl)
theorem dX1_left_30 : decode cX1_left 30 = .ok (.aload_n 3, 1) := dk_45 (dk_at dksX1_left_1 8 rfl rfl)
theorem dX1_left_31 : decode cX1_left 31 = .ok (.invokeinterface 29 1, 5) := by decide +kernel
theorem dX1_left_36 : decode cX1_left 36 = .ok (.checkcast 80, 3) := dk_192 0 80 (dk_at dksX1_left_1 14 rfl rfl)
theorem dX1_left_39 : decode cX1_left 39 = .ok (.invokevirtual 82, 3) := dk_182 0 82 (dk_at dksX1_left_1 17 rfl rfl)
theorem dX1_left_42 : decode cX1_left 42 = .ok (.istore 4, 2) := dk_54 4 (dk_at dksX1_left_1 20 rfl rfl)
theorem dX1_left_44 : decode cX1_left 44 = .ok (.iload_n 2, 1) := dk_28 (dk_at dksX1_left_1 22 rfl rfl)
theorem dX1_left_45 : decode cX1_left 45 = .ok (.aload_n 0, 1) := dk_42 (dk_at dksX1_left_1 23 rfl rfl)
theorem dX1_left_46 : decode cX1_left 46 = .ok (.iload 4, 2) := dk_21 4 (dk_at dksX1_left_2 0 rfl rfl)
theorem dX1_left_48 : decode cX1_left 48 = .ok (.invokevirtual 55, 3) := dk_182 0 55 (dk_at dksX1_left_2 2 rfl rfl)
theorem dX1_left_51 : decode cX1_left 51 = .ok (.getfield 85, 3) := dk_180 0 85 (dk_at dksX1_left_2 5 rfl rfl)
theorem dX1_left_54 : decode cX1_left 54 = .ok (.isub, 1) := dk_100 (dk_at dksX1_left_2 8 rfl rfl)
theorem dX1_left_55 : decode cX1_left 55 = .ok (.istore_n 2, 1) := dk_61 (dk_at dksX1_left_2 9 rfl rfl)
theorem dX1_left_56 : decode cX1_left 56 = .ok (.goto (-35), 3) := dk_167 255 221 (dk_at dksX1_left_2 10 rfl rfl)
theorem dX1_left_59 : decode cX1_left 59 = .ok (.iload_n 2, 1) := dk_28 (dk_at dksX1_left_2 13 rfl rfl)
theorem dX1_left_60 : decode cX1_left 60 = .ok (.ireturn, 1) := dk_172 (dk_at dksX1_left_2 14 rfl rfl)
abbrev cX1_puts : ByteArray := prog_5_method_17_code
def yX1_puts : MethodName := ⟨RX1, "puts", "(II)V"⟩
def dkwX1_puts_1 : List UInt8 := [182, 0, 55, 28, 181, 0, 59, 177]
abbrev dktX1_puts_1 : List UInt8 := dkwX1_puts_1 ++ []
def dkwX1_puts_0 : List UInt8 := [42, 27, 182, 0, 108, 42, 28, 182, 0, 55, 180, 0, 66, 27, 184, 0, 87, 182, 0, 39, 87, 42, 27]
abbrev dktX1_puts_0 : List UInt8 := dkwX1_puts_0 ++ dktX1_puts_1
theorem dksX1_puts_0 : cX1_puts.data.toList.drop 0 = dktX1_puts_0 := by decide +kernel
theorem dksX1_puts_1 : cX1_puts.data.toList.drop 23 = dktX1_puts_1 := dk_seg dksX1_puts_0 23 rfl rfl
theorem dX1_puts_0 : decode cX1_puts 0 = .ok (.aload_n 0, 1) := dk_42 (dk_at dksX1_puts_0 0 rfl rfl)
theorem dX1_puts_1 : decode cX1_puts 1 = .ok (.iload_n 1, 1) := dk_27 (dk_at dksX1_puts_0 1 rfl rfl)
theorem dX1_puts_2 : decode cX1_puts 2 = .ok (.invokevirtual 108, 3) := dk_182 0 108 (dk_at dksX1_puts_0 2 rfl rfl)
theorem dX1_puts_5 : decode cX1_puts 5 = .ok (.aload_n 0, 1) := dk_42 (dk_at dksX1_puts_0 5 rfl rfl)
theorem dX1_puts_6 : decode cX1_puts 6 = .ok (.iload_n 2, 1) := dk_28 (dk_at dksX1_puts_0 6 rfl rfl)
theorem dX1_puts_7 : decode cX1_puts 7 = .ok (.invokevirtual 55, 3) := dk_182 0 55 (dk_at dksX1_puts_0 7 rfl rfl)
theorem dX1_puts_10 : decode cX1_puts 10 = .ok (.getfield 66, 3) := dk_180 0 66 (dk_at dksX1_puts_0 10 rfl rfl)
theorem dX1_puts_13 : decode cX1_puts 13 = .ok (.iload_n 1, 1) := dk_27 (dk_at dksX1_puts_0 13 rfl rfl)
theorem dX1_puts_14 : decode cX1_puts 14 = .ok (.invokestatic 87, 3) := dk_184 0 87 (dk_at dksX1_puts_0 14 rfl rfl)
theorem dX1_puts_17 : decode cX1_puts 17 = .ok (.invokevirtual 39, 3) := dk_182 0 39 (dk_at dksX1_puts_0 17 rfl rfl)
theorem dX1_puts_20 : decode cX1_puts 20 = .ok (.pop, 1) := dk_87 (dk_at dksX1_puts_0 20 rfl rfl)
theorem dX1_puts_21 : decode cX1_puts 21 = .ok (.aload_n 0, 1) := dk_42 (dk_at dksX1_puts_0 21 rfl rfl)
theorem dX1_puts_22 : decode cX1_puts 22 = .ok (.iload_n 1, 1) := dk_27 (dk_at dksX1_puts_0 22 rfl rfl)
theorem dX1_puts_23 : decode cX1_puts 23 = .ok (.invokevirtual 55, 3) := dk_182 0 55 (dk_at dksX1_puts_1 0 rfl rfl)
theorem dX1_puts_26 : decode cX1_puts 26 = .ok (.iload_n 2, 1) := dk_28 (dk_at dksX1_puts_1 3 rfl rfl)
theorem dX1_puts_27 : decode cX1_puts 27 = .ok (.putfield 59, 3) := dk_181 0 59 (dk_at dksX1_puts_1 4 rfl rfl)
theorem dX1_puts_30 : decode cX1_puts 30 = .ok (.return_, 1) := dk_177 (dk_at dksX1_puts_1 7 rfl rfl)
abbrev cX1_lifts : ByteArray := prog_5_method_16_code
def yX1_lifts : MethodName := ⟨RX1, "lifts", "(I)V"⟩
def dkwX1_lifts_1 : List UInt8 := [44, 44, 182, 0, 47, 4, 100, 182, 0, 105, 87, 42, 27, 182, 0, 55, 2, 181, 0, 59, 177]
abbrev dktX1_lifts_1 : List UInt8 := dkwX1_lifts_1 ++ []
def dkwX1_lifts_0 : List UInt8 := [42, 27, 182, 0, 62, 154, 0, 39, 42, 42, 27, 182, 0, 55, 180, 0, 59, 182, 0, 55, 180, 0, 66, 77]
abbrev dktX1_lifts_0 : List UInt8 := dkwX1_lifts_0 ++ dktX1_lifts_1
theorem dksX1_lifts_0 : cX1_lifts.data.toList.drop 0 = dktX1_lifts_0 := by decide +kernel
theorem dksX1_lifts_1 : cX1_lifts.data.toList.drop 24 = dktX1_lifts_1 := dk_seg dksX1_lifts_0 24 rfl rfl
theorem dX1_lifts_0 : decode cX1_lifts 0 = .ok (.aload_n 0, 1) := dk_42 (dk_at dksX1_lifts_0 0 rfl rfl)
theorem dX1_lifts_1 : decode cX1_lifts 1 = .ok (.iload_n 1, 1) := dk_27 (dk_at dksX1_lifts_0 1 rfl rfl)
theorem dX1_lifts_2 : decode cX1_lifts 2 = .ok (.invokevirtual 62, 3) := dk_182 0 62 (dk_at dksX1_lifts_0 2 rfl rfl)
theorem dX1_lifts_5 : decode cX1_lifts 5 = .ok (.ifCond .ne 39, 3) := dk_154 0 39 (dk_at dksX1_lifts_0 5 rfl rfl)
theorem dX1_lifts_8 : decode cX1_lifts 8 = .ok (.aload_n 0, 1) := dk_42 (dk_at dksX1_lifts_0 8 rfl rfl)
theorem dX1_lifts_9 : decode cX1_lifts 9 = .ok (.aload_n 0, 1) := dk_42 (dk_at dksX1_lifts_0 9 rfl rfl)
theorem dX1_lifts_10 : decode cX1_lifts 10 = .ok (.iload_n 1, 1) := dk_27 (dk_at dksX1_lifts_0 10 rfl rfl)
theorem dX1_lifts_11 : decode cX1_lifts 11 = .ok (.invokevirtual 55, 3) := dk_182 0 55 (dk_at dksX1_lifts_0 11 rfl rfl)
theorem dX1_lifts_14 : decode cX1_lifts 14 = .ok (.getfield 59, 3) := dk_180 0 59 (dk_at dksX1_lifts_0 14 rfl rfl)
theorem dX1_lifts_17 : decode cX1_lifts 17 = .ok (.invokevirtual 55, 3) := dk_182 0 55 (dk_at dksX1_lifts_0 17 rfl rfl)
theorem dX1_lifts_20 : decode cX1_lifts 20 = .ok (.getfield 66, 3) := dk_180 0 66 (dk_at dksX1_lifts_0 20 rfl rfl)
theorem dX1_lifts_23 : decode cX1_lifts 23 = .ok (.astore_n 2, 1) := dk_77 (dk_at dksX1_lifts_0 23 rfl rfl)
theorem dX1_lifts_24 : decode cX1_lifts 24 = .ok (.aload_n 2, 1) := dk_44 (dk_at dksX1_lifts_1 0 rfl rfl)
theorem dX1_lifts_25 : decode cX1_lifts 25 = .ok (.aload_n 2, 1) := dk_44 (dk_at dksX1_lifts_1 1 rfl rfl)
theorem dX1_lifts_26 : decode cX1_lifts 26 = .ok (.invokevirtual 47, 3) := dk_182 0 47 (dk_at dksX1_lifts_1 2 rfl rfl)
theorem dX1_lifts_29 : decode cX1_lifts 29 = .ok (.iconst 1, 1) := dk_4 (dk_at dksX1_lifts_1 5 rfl rfl)
theorem dX1_lifts_30 : decode cX1_lifts 30 = .ok (.isub, 1) := dk_100 (dk_at dksX1_lifts_1 6 rfl rfl)
theorem dX1_lifts_31 : decode cX1_lifts 31 = .ok (.invokevirtual 105, 3) := dk_182 0 105 (dk_at dksX1_lifts_1 7 rfl rfl)
theorem dX1_lifts_34 : decode cX1_lifts 34 = .ok (.pop, 1) := dk_87 (dk_at dksX1_lifts_1 10 rfl rfl)
theorem dX1_lifts_35 : decode cX1_lifts 35 = .ok (.aload_n 0, 1) := dk_42 (dk_at dksX1_lifts_1 11 rfl rfl)
theorem dX1_lifts_36 : decode cX1_lifts 36 = .ok (.iload_n 1, 1) := dk_27 (dk_at dksX1_lifts_1 12 rfl rfl)
theorem dX1_lifts_37 : decode cX1_lifts 37 = .ok (.invokevirtual 55, 3) := dk_182 0 55 (dk_at dksX1_lifts_1 13 rfl rfl)
theorem dX1_lifts_40 : decode cX1_lifts 40 = .ok (.iconst (-1), 1) := dk_2 (dk_at dksX1_lifts_1 16 rfl rfl)
theorem dX1_lifts_41 : decode cX1_lifts 41 = .ok (.putfield 59, 3) := dk_181 0 59 (dk_at dksX1_lifts_1 17 rfl rfl)
theorem dX1_lifts_44 : decode cX1_lifts 44 = .ok (.return_, 1) := dk_177 (dk_at dksX1_lifts_1 20 rfl rfl)
abbrev cX1_depth : ByteArray := prog_5_method_7_code
def yX1_depth : MethodName := ⟨RX1, "depth", "(I)I"⟩
def dkwX1_depth_1 : List UInt8 := [167, 255, 236, 28, 172]
abbrev dktX1_depth_1 : List UInt8 := dkwX1_depth_1 ++ []
def dkwX1_depth_0 : List UInt8 := [3, 61, 27, 62, 42, 29, 182, 0, 62, 154, 0, 18, 132, 2, 1, 42, 29, 182, 0, 55, 180, 0, 59, 62]
abbrev dktX1_depth_0 : List UInt8 := dkwX1_depth_0 ++ dktX1_depth_1
theorem dksX1_depth_0 : cX1_depth.data.toList.drop 0 = dktX1_depth_0 := by decide +kernel
theorem dksX1_depth_1 : cX1_depth.data.toList.drop 24 = dktX1_depth_1 := dk_seg dksX1_depth_0 24 rfl rfl
theorem dX1_depth_0 : decode cX1_depth 0 = .ok (.iconst 0, 1) := dk_3 (dk_at dksX1_depth_0 0 rfl rfl)
theorem dX1_depth_1 : decode cX1_depth 1 = .ok (.istore_n 2, 1) := dk_61 (dk_at dksX1_depth_0 1 rfl rfl)
theorem dX1_depth_2 : decode cX1_depth 2 = .ok (.iload_n 1, 1) := dk_27 (dk_at dksX1_depth_0 2 rfl rfl)
theorem dX1_depth_3 : decode cX1_depth 3 = .ok (.istore_n 3, 1) := dk_62 (dk_at dksX1_depth_0 3 rfl rfl)
theorem dX1_depth_4 : decode cX1_depth 4 = .ok (.aload_n 0, 1) := dk_42 (dk_at dksX1_depth_0 4 rfl rfl)
theorem dX1_depth_5 : decode cX1_depth 5 = .ok (.iload_n 3, 1) := dk_29 (dk_at dksX1_depth_0 5 rfl rfl)
theorem dX1_depth_6 : decode cX1_depth 6 = .ok (.invokevirtual 62, 3) := dk_182 0 62 (dk_at dksX1_depth_0 6 rfl rfl)
theorem dX1_depth_9 : decode cX1_depth 9 = .ok (.ifCond .ne 18, 3) := dk_154 0 18 (dk_at dksX1_depth_0 9 rfl rfl)
theorem dX1_depth_12 : decode cX1_depth 12 = .ok (.iinc 2 1, 3) := dk_132 2 1 (dk_at dksX1_depth_0 12 rfl rfl)
theorem dX1_depth_15 : decode cX1_depth 15 = .ok (.aload_n 0, 1) := dk_42 (dk_at dksX1_depth_0 15 rfl rfl)
theorem dX1_depth_16 : decode cX1_depth 16 = .ok (.iload_n 3, 1) := dk_29 (dk_at dksX1_depth_0 16 rfl rfl)
theorem dX1_depth_17 : decode cX1_depth 17 = .ok (.invokevirtual 55, 3) := dk_182 0 55 (dk_at dksX1_depth_0 17 rfl rfl)
theorem dX1_depth_20 : decode cX1_depth 20 = .ok (.getfield 59, 3) := dk_180 0 59 (dk_at dksX1_depth_0 20 rfl rfl)
theorem dX1_depth_23 : decode cX1_depth 23 = .ok (.istore_n 3, 1) := dk_62 (dk_at dksX1_depth_0 23 rfl rfl)
theorem dX1_depth_24 : decode cX1_depth 24 = .ok (.goto (-20), 3) := dk_167 255 236 (dk_at dksX1_depth_1 0 rfl rfl)
theorem dX1_depth_27 : decode cX1_depth 27 = .ok (.iload_n 2, 1) := dk_28 (dk_at dksX1_depth_1 3 rfl rfl)
theorem dX1_depth_28 : decode cX1_depth 28 = .ok (.ireturn, 1) := dk_172 (dk_at dksX1_depth_1 4 rfl rfl)
abbrev cX1_whyNotGround : ByteArray := prog_5_method_14_code
def yX1_whyNotGround : MethodName := ⟨RX1, "whyNotGround", "(I)I"⟩
def dkwX1_whyNotGround_1 : List UInt8 := [3, 172]
abbrev dktX1_whyNotGround_1 : List UInt8 := dkwX1_whyNotGround_1 ++ []
def dkwX1_whyNotGround_0 : List UInt8 := [42, 27, 182, 0, 99, 158, 0, 7, 4, 167, 0, 16, 42, 27, 182, 0, 62, 153, 0, 7, 7, 167, 0, 4]
abbrev dktX1_whyNotGround_0 : List UInt8 := dkwX1_whyNotGround_0 ++ dktX1_whyNotGround_1
theorem dksX1_whyNotGround_0 : cX1_whyNotGround.data.toList.drop 0 = dktX1_whyNotGround_0 := by decide +kernel
theorem dksX1_whyNotGround_1 : cX1_whyNotGround.data.toList.drop 24 = dktX1_whyNotGround_1 := dk_seg dksX1_whyNotGround_0 24 rfl rfl
theorem dX1_whyNotGround_0 : decode cX1_whyNotGround 0 = .ok (.aload_n 0, 1) := dk_42 (dk_at dksX1_whyNotGround_0 0 rfl rfl)
theorem dX1_whyNotGround_1 : decode cX1_whyNotGround 1 = .ok (.iload_n 1, 1) := dk_27 (dk_at dksX1_whyNotGround_0 1 rfl rfl)
theorem dX1_whyNotGround_2 : decode cX1_whyNotGround 2 = .ok (.invokevirtual 99, 3) := dk_182 0 99 (dk_at dksX1_whyNotGround_0 2 rfl rfl)
theorem dX1_whyNotGround_5 : decode cX1_whyNotGround 5 = .ok (.ifCond .le 7, 3) := dk_158 0 7 (dk_at dksX1_whyNotGround_0 5 rfl rfl)
theorem dX1_whyNotGround_8 : decode cX1_whyNotGround 8 = .ok (.iconst 1, 1) := dk_4 (dk_at dksX1_whyNotGround_0 8 rfl rfl)
theorem dX1_whyNotGround_9 : decode cX1_whyNotGround 9 = .ok (.goto 16, 3) := dk_167 0 16 (dk_at dksX1_whyNotGround_0 9 rfl rfl)
theorem dX1_whyNotGround_12 : decode cX1_whyNotGround 12 = .ok (.aload_n 0, 1) := dk_42 (dk_at dksX1_whyNotGround_0 12 rfl rfl)
theorem dX1_whyNotGround_13 : decode cX1_whyNotGround 13 = .ok (.iload_n 1, 1) := dk_27 (dk_at dksX1_whyNotGround_0 13 rfl rfl)
theorem dX1_whyNotGround_14 : decode cX1_whyNotGround 14 = .ok (.invokevirtual 62, 3) := dk_182 0 62 (dk_at dksX1_whyNotGround_0 14 rfl rfl)
theorem dX1_whyNotGround_17 : decode cX1_whyNotGround 17 = .ok (.ifCond .eq 7, 3) := dk_153 0 7 (dk_at dksX1_whyNotGround_0 17 rfl rfl)
theorem dX1_whyNotGround_20 : decode cX1_whyNotGround 20 = .ok (.iconst 4, 1) := dk_7 (dk_at dksX1_whyNotGround_0 20 rfl rfl)
theorem dX1_whyNotGround_21 : decode cX1_whyNotGround 21 = .ok (.goto 4, 3) := dk_167 0 4 (dk_at dksX1_whyNotGround_0 21 rfl rfl)
theorem dX1_whyNotGround_24 : decode cX1_whyNotGround 24 = .ok (.iconst 0, 1) := dk_3 (dk_at dksX1_whyNotGround_1 0 rfl rfl)
theorem dX1_whyNotGround_25 : decode cX1_whyNotGround 25 = .ok (.ireturn, 1) := dk_172 (dk_at dksX1_whyNotGround_1 1 rfl rfl)
abbrev cX1_whyNotBreak : ByteArray := prog_5_method_15_code
def yX1_whyNotBreak : MethodName := ⟨RX1, "whyNotBreak", "(I)I"⟩
def dkwX1_whyNotBreak_1 : List UInt8 := [153, 0, 7, 3, 167, 0, 4, 8, 172]
abbrev dktX1_whyNotBreak_1 : List UInt8 := dkwX1_whyNotBreak_1 ++ []
def dkwX1_whyNotBreak_0 : List UInt8 := [42, 27, 182, 0, 99, 158, 0, 7, 4, 167, 0, 22, 42, 27, 182, 0, 55, 180, 0, 66, 182, 0, 69]
abbrev dktX1_whyNotBreak_0 : List UInt8 := dkwX1_whyNotBreak_0 ++ dktX1_whyNotBreak_1
theorem dksX1_whyNotBreak_0 : cX1_whyNotBreak.data.toList.drop 0 = dktX1_whyNotBreak_0 := by decide +kernel
theorem dksX1_whyNotBreak_1 : cX1_whyNotBreak.data.toList.drop 23 = dktX1_whyNotBreak_1 := dk_seg dksX1_whyNotBreak_0 23 rfl rfl
theorem dX1_whyNotBreak_0 : decode cX1_whyNotBreak 0 = .ok (.aload_n 0, 1) := dk_42 (dk_at dksX1_whyNotBreak_0 0 rfl rfl)
theorem dX1_whyNotBreak_1 : decode cX1_whyNotBreak 1 = .ok (.iload_n 1, 1) := dk_27 (dk_at dksX1_whyNotBreak_0 1 rfl rfl)
theorem dX1_whyNotBreak_2 : decode cX1_whyNotBreak 2 = .ok (.invokevirtual 99, 3) := dk_182 0 99 (dk_at dksX1_whyNotBreak_0 2 rfl rfl)
theorem dX1_whyNotBreak_5 : decode cX1_whyNotBreak 5 = .ok (.ifCond .le 7, 3) := dk_158 0 7 (dk_at dksX1_whyNotBreak_0 5 rfl rfl)
theorem dX1_whyNotBreak_8 : decode cX1_whyNotBreak 8 = .ok (.iconst 1, 1) := dk_4 (dk_at dksX1_whyNotBreak_0 8 rfl rfl)
theorem dX1_whyNotBreak_9 : decode cX1_whyNotBreak 9 = .ok (.goto 22, 3) := dk_167 0 22 (dk_at dksX1_whyNotBreak_0 9 rfl rfl)
theorem dX1_whyNotBreak_12 : decode cX1_whyNotBreak 12 = .ok (.aload_n 0, 1) := dk_42 (dk_at dksX1_whyNotBreak_0 12 rfl rfl)
theorem dX1_whyNotBreak_13 : decode cX1_whyNotBreak 13 = .ok (.iload_n 1, 1) := dk_27 (dk_at dksX1_whyNotBreak_0 13 rfl rfl)
theorem dX1_whyNotBreak_14 : decode cX1_whyNotBreak 14 = .ok (.invokevirtual 55, 3) := dk_182 0 55 (dk_at dksX1_whyNotBreak_0 14 rfl rfl)
theorem dX1_whyNotBreak_17 : decode cX1_whyNotBreak 17 = .ok (.getfield 66, 3) := dk_180 0 66 (dk_at dksX1_whyNotBreak_0 17 rfl rfl)
theorem dX1_whyNotBreak_20 : decode cX1_whyNotBreak 20 = .ok (.invokevirtual 69, 3) := dk_182 0 69 (dk_at dksX1_whyNotBreak_0 20 rfl rfl)
theorem dX1_whyNotBreak_23 : decode cX1_whyNotBreak 23 = .ok (.ifCond .eq 7, 3) := dk_153 0 7 (dk_at dksX1_whyNotBreak_1 0 rfl rfl)
theorem dX1_whyNotBreak_26 : decode cX1_whyNotBreak 26 = .ok (.iconst 0, 1) := dk_3 (dk_at dksX1_whyNotBreak_1 3 rfl rfl)
theorem dX1_whyNotBreak_27 : decode cX1_whyNotBreak 27 = .ok (.goto 4, 3) := dk_167 0 4 (dk_at dksX1_whyNotBreak_1 4 rfl rfl)
theorem dX1_whyNotBreak_30 : decode cX1_whyNotBreak 30 = .ok (.iconst 5, 1) := dk_8 (dk_at dksX1_whyNotBreak_1 7 rfl rfl)
theorem dX1_whyNotBreak_31 : decode cX1_whyNotBreak 31 = .ok (.ireturn, 1) := dk_172 (dk_at dksX1_whyNotBreak_1 8 rfl rfl)
abbrev cX1_breaksUp : ByteArray := prog_5_method_18_code
def yX1_breaksUp : MethodName := ⟨RX1, "breaksUp", "(I)V"⟩
def dkwX1_breaksUp_6 : List UInt8 := [184, 0, 87, 182, 0, 112, 87, 132, 4, 1, 167, 255, 174, 167, 255, 127, 177]
abbrev dktX1_breaksUp_6 : List UInt8 := dkwX1_breaksUp_6 ++ []
def dkwX1_breaksUp_5 : List UInt8 := [182, 0, 82, 4, 100, 167, 0, 18, 45, 180, 0, 66, 21, 4, 182, 0, 51, 192, 0, 80, 182, 0, 82]
abbrev dktX1_breaksUp_5 : List UInt8 := dkwX1_breaksUp_5 ++ dktX1_breaksUp_6
def dkwX1_breaksUp_4 : List UInt8 := [192, 0, 80, 182, 0, 82, 27, 164, 0, 23, 45, 180, 0, 66, 21, 4, 182, 0, 51, 192, 0, 80]
abbrev dktX1_breaksUp_4 : List UInt8 := dkwX1_breaksUp_4 ++ dktX1_breaksUp_5
def dkwX1_breaksUp_3 : List UInt8 := [180, 0, 66, 182, 0, 47, 162, 0, 76, 45, 180, 0, 66, 21, 4, 45, 180, 0, 66, 21, 4, 182, 0, 51]
abbrev dktX1_breaksUp_3 : List UInt8 := dkwX1_breaksUp_3 ++ dktX1_breaksUp_4
def dkwX1_breaksUp_2 : List UInt8 := [180, 0, 59, 27, 164, 0, 7, 4, 167, 0, 4, 3, 100, 181, 0, 59, 3, 54, 4, 21, 4, 45]
abbrev dktX1_breaksUp_2 : List UInt8 := dkwX1_breaksUp_2 ++ dktX1_breaksUp_3
def dkwX1_breaksUp_1 : List UInt8 := [185, 0, 23, 1, 0, 153, 0, 126, 44, 185, 0, 29, 1, 0, 192, 0, 33, 78, 45, 89, 180, 0, 59, 45]
abbrev dktX1_breaksUp_1 : List UInt8 := dkwX1_breaksUp_1 ++ dktX1_breaksUp_2
def dkwX1_breaksUp_0 : List UInt8 := [42, 27, 182, 0, 108, 42, 180, 0, 12, 27, 182, 0, 105, 87, 42, 180, 0, 12, 182, 0, 19, 77, 44]
abbrev dktX1_breaksUp_0 : List UInt8 := dkwX1_breaksUp_0 ++ dktX1_breaksUp_1
theorem dksX1_breaksUp_0 : cX1_breaksUp.data.toList.drop 0 = dktX1_breaksUp_0 := by decide +kernel
theorem dksX1_breaksUp_1 : cX1_breaksUp.data.toList.drop 23 = dktX1_breaksUp_1 := dk_seg dksX1_breaksUp_0 23 rfl rfl
theorem dksX1_breaksUp_2 : cX1_breaksUp.data.toList.drop 47 = dktX1_breaksUp_2 := dk_seg dksX1_breaksUp_1 24 rfl rfl
theorem dksX1_breaksUp_3 : cX1_breaksUp.data.toList.drop 69 = dktX1_breaksUp_3 := dk_seg dksX1_breaksUp_2 22 rfl rfl
theorem dksX1_breaksUp_4 : cX1_breaksUp.data.toList.drop 93 = dktX1_breaksUp_4 := dk_seg dksX1_breaksUp_3 24 rfl rfl
theorem dksX1_breaksUp_5 : cX1_breaksUp.data.toList.drop 115 = dktX1_breaksUp_5 := dk_seg dksX1_breaksUp_4 22 rfl rfl
theorem dksX1_breaksUp_6 : cX1_breaksUp.data.toList.drop 138 = dktX1_breaksUp_6 := dk_seg dksX1_breaksUp_5 23 rfl rfl
theorem dX1_breaksUp_0 : decode cX1_breaksUp 0 = .ok (.aload_n 0, 1) := dk_42 (dk_at dksX1_breaksUp_0 0 rfl rfl)
theorem dX1_breaksUp_1 : decode cX1_breaksUp 1 = .ok (.iload_n 1, 1) := dk_27 (dk_at dksX1_breaksUp_0 1 rfl rfl)
theorem dX1_breaksUp_2 : decode cX1_breaksUp 2 = .ok (.invokevirtual 108, 3) := dk_182 0 108 (dk_at dksX1_breaksUp_0 2 rfl rfl)
theorem dX1_breaksUp_5 : decode cX1_breaksUp 5 = .ok (.aload_n 0, 1) := dk_42 (dk_at dksX1_breaksUp_0 5 rfl rfl)
theorem dX1_breaksUp_6 : decode cX1_breaksUp 6 = .ok (.getfield 12, 3) := dk_180 0 12 (dk_at dksX1_breaksUp_0 6 rfl rfl)
theorem dX1_breaksUp_9 : decode cX1_breaksUp 9 = .ok (.iload_n 1, 1) := dk_27 (dk_at dksX1_breaksUp_0 9 rfl rfl)
theorem dX1_breaksUp_10 : decode cX1_breaksUp 10 = .ok (.invokevirtual 105, 3) := dk_182 0 105 (dk_at dksX1_breaksUp_0 10 rfl rfl)
theorem dX1_breaksUp_13 : decode cX1_breaksUp 13 = .ok (.pop, 1) := dk_87 (dk_at dksX1_breaksUp_0 13 rfl rfl)
theorem dX1_breaksUp_14 : decode cX1_breaksUp 14 = .ok (.aload_n 0, 1) := dk_42 (dk_at dksX1_breaksUp_0 14 rfl rfl)
theorem dX1_breaksUp_15 : decode cX1_breaksUp 15 = .ok (.getfield 12, 3) := dk_180 0 12 (dk_at dksX1_breaksUp_0 15 rfl rfl)
theorem dX1_breaksUp_18 : decode cX1_breaksUp 18 = .ok (.invokevirtual 19, 3) := dk_182 0 19 (dk_at dksX1_breaksUp_0 18 rfl rfl)
theorem dX1_breaksUp_21 : decode cX1_breaksUp 21 = .ok (.astore_n 2, 1) := dk_77 (dk_at dksX1_breaksUp_0 21 rfl rfl)
theorem dX1_breaksUp_22 : decode cX1_breaksUp 22 = .ok (.aload_n 2, 1) := dk_44 (dk_at dksX1_breaksUp_0 22 rfl rfl)
theorem dX1_breaksUp_23 : decode cX1_breaksUp 23 = .ok (.invokeinterface 23 1, 5) := by decide +kernel
theorem dX1_breaksUp_28 : decode cX1_breaksUp 28 = .ok (.ifCond .eq 126, 3) := dk_153 0 126 (dk_at dksX1_breaksUp_1 5 rfl rfl)
theorem dX1_breaksUp_31 : decode cX1_breaksUp 31 = .ok (.aload_n 2, 1) := dk_44 (dk_at dksX1_breaksUp_1 8 rfl rfl)
theorem dX1_breaksUp_32 : decode cX1_breaksUp 32 = .ok (.invokeinterface 29 1, 5) := by decide +kernel
theorem dX1_breaksUp_37 : decode cX1_breaksUp 37 = .ok (.checkcast 33, 3) := dk_192 0 33 (dk_at dksX1_breaksUp_1 14 rfl rfl)
theorem dX1_breaksUp_40 : decode cX1_breaksUp 40 = .ok (.astore_n 3, 1) := dk_78 (dk_at dksX1_breaksUp_1 17 rfl rfl)
theorem dX1_breaksUp_41 : decode cX1_breaksUp 41 = .ok (.aload_n 3, 1) := dk_45 (dk_at dksX1_breaksUp_1 18 rfl rfl)
theorem dX1_breaksUp_42 : decode cX1_breaksUp 42 = .ok (.dup, 1) := dk_89 (dk_at dksX1_breaksUp_1 19 rfl rfl)
theorem dX1_breaksUp_43 : decode cX1_breaksUp 43 = .ok (.getfield 59, 3) := dk_180 0 59 (dk_at dksX1_breaksUp_1 20 rfl rfl)
theorem dX1_breaksUp_46 : decode cX1_breaksUp 46 = .ok (.aload_n 3, 1) := dk_45 (dk_at dksX1_breaksUp_1 23 rfl rfl)
theorem dX1_breaksUp_47 : decode cX1_breaksUp 47 = .ok (.getfield 59, 3) := dk_180 0 59 (dk_at dksX1_breaksUp_2 0 rfl rfl)
theorem dX1_breaksUp_50 : decode cX1_breaksUp 50 = .ok (.iload_n 1, 1) := dk_27 (dk_at dksX1_breaksUp_2 3 rfl rfl)
theorem dX1_breaksUp_51 : decode cX1_breaksUp 51 = .ok (.if_icmp .le 7, 3) := dk_164 0 7 (dk_at dksX1_breaksUp_2 4 rfl rfl)
theorem dX1_breaksUp_54 : decode cX1_breaksUp 54 = .ok (.iconst 1, 1) := dk_4 (dk_at dksX1_breaksUp_2 7 rfl rfl)
theorem dX1_breaksUp_55 : decode cX1_breaksUp 55 = .ok (.goto 4, 3) := dk_167 0 4 (dk_at dksX1_breaksUp_2 8 rfl rfl)
theorem dX1_breaksUp_58 : decode cX1_breaksUp 58 = .ok (.iconst 0, 1) := dk_3 (dk_at dksX1_breaksUp_2 11 rfl rfl)
theorem dX1_breaksUp_59 : decode cX1_breaksUp 59 = .ok (.isub, 1) := dk_100 (dk_at dksX1_breaksUp_2 12 rfl rfl)
theorem dX1_breaksUp_60 : decode cX1_breaksUp 60 = .ok (.putfield 59, 3) := dk_181 0 59 (dk_at dksX1_breaksUp_2 13 rfl rfl)
theorem dX1_breaksUp_63 : decode cX1_breaksUp 63 = .ok (.iconst 0, 1) := dk_3 (dk_at dksX1_breaksUp_2 16 rfl rfl)
theorem dX1_breaksUp_64 : decode cX1_breaksUp 64 = .ok (.istore 4, 2) := dk_54 4 (dk_at dksX1_breaksUp_2 17 rfl rfl)
theorem dX1_breaksUp_66 : decode cX1_breaksUp 66 = .ok (.iload 4, 2) := dk_21 4 (dk_at dksX1_breaksUp_2 19 rfl rfl)
theorem dX1_breaksUp_68 : decode cX1_breaksUp 68 = .ok (.aload_n 3, 1) := dk_45 (dk_at dksX1_breaksUp_2 21 rfl rfl)
theorem dX1_breaksUp_69 : decode cX1_breaksUp 69 = .ok (.getfield 66, 3) := dk_180 0 66 (dk_at dksX1_breaksUp_3 0 rfl rfl)
theorem dX1_breaksUp_72 : decode cX1_breaksUp 72 = .ok (.invokevirtual 47, 3) := dk_182 0 47 (dk_at dksX1_breaksUp_3 3 rfl rfl)
theorem dX1_breaksUp_75 : decode cX1_breaksUp 75 = .ok (.if_icmp .ge 76, 3) := dk_162 0 76 (dk_at dksX1_breaksUp_3 6 rfl rfl)
theorem dX1_breaksUp_78 : decode cX1_breaksUp 78 = .ok (.aload_n 3, 1) := dk_45 (dk_at dksX1_breaksUp_3 9 rfl rfl)
theorem dX1_breaksUp_79 : decode cX1_breaksUp 79 = .ok (.getfield 66, 3) := dk_180 0 66 (dk_at dksX1_breaksUp_3 10 rfl rfl)
theorem dX1_breaksUp_82 : decode cX1_breaksUp 82 = .ok (.iload 4, 2) := dk_21 4 (dk_at dksX1_breaksUp_3 13 rfl rfl)
theorem dX1_breaksUp_84 : decode cX1_breaksUp 84 = .ok (.aload_n 3, 1) := dk_45 (dk_at dksX1_breaksUp_3 15 rfl rfl)
theorem dX1_breaksUp_85 : decode cX1_breaksUp 85 = .ok (.getfield 66, 3) := dk_180 0 66 (dk_at dksX1_breaksUp_3 16 rfl rfl)
theorem dX1_breaksUp_88 : decode cX1_breaksUp 88 = .ok (.iload 4, 2) := dk_21 4 (dk_at dksX1_breaksUp_3 19 rfl rfl)
theorem dX1_breaksUp_90 : decode cX1_breaksUp 90 = .ok (.invokevirtual 51, 3) := dk_182 0 51 (dk_at dksX1_breaksUp_3 21 rfl rfl)
theorem dX1_breaksUp_93 : decode cX1_breaksUp 93 = .ok (.checkcast 80, 3) := dk_192 0 80 (dk_at dksX1_breaksUp_4 0 rfl rfl)
theorem dX1_breaksUp_96 : decode cX1_breaksUp 96 = .ok (.invokevirtual 82, 3) := dk_182 0 82 (dk_at dksX1_breaksUp_4 3 rfl rfl)
theorem dX1_breaksUp_99 : decode cX1_breaksUp 99 = .ok (.iload_n 1, 1) := dk_27 (dk_at dksX1_breaksUp_4 6 rfl rfl)
theorem dX1_breaksUp_100 : decode cX1_breaksUp 100 = .ok (.if_icmp .le 23, 3) := dk_164 0 23 (dk_at dksX1_breaksUp_4 7 rfl rfl)
theorem dX1_breaksUp_103 : decode cX1_breaksUp 103 = .ok (.aload_n 3, 1) := dk_45 (dk_at dksX1_breaksUp_4 10 rfl rfl)
theorem dX1_breaksUp_104 : decode cX1_breaksUp 104 = .ok (.getfield 66, 3) := dk_180 0 66 (dk_at dksX1_breaksUp_4 11 rfl rfl)
theorem dX1_breaksUp_107 : decode cX1_breaksUp 107 = .ok (.iload 4, 2) := dk_21 4 (dk_at dksX1_breaksUp_4 14 rfl rfl)
theorem dX1_breaksUp_109 : decode cX1_breaksUp 109 = .ok (.invokevirtual 51, 3) := dk_182 0 51 (dk_at dksX1_breaksUp_4 16 rfl rfl)
theorem dX1_breaksUp_112 : decode cX1_breaksUp 112 = .ok (.checkcast 80, 3) := dk_192 0 80 (dk_at dksX1_breaksUp_4 19 rfl rfl)
theorem dX1_breaksUp_115 : decode cX1_breaksUp 115 = .ok (.invokevirtual 82, 3) := dk_182 0 82 (dk_at dksX1_breaksUp_5 0 rfl rfl)
theorem dX1_breaksUp_118 : decode cX1_breaksUp 118 = .ok (.iconst 1, 1) := dk_4 (dk_at dksX1_breaksUp_5 3 rfl rfl)
theorem dX1_breaksUp_119 : decode cX1_breaksUp 119 = .ok (.isub, 1) := dk_100 (dk_at dksX1_breaksUp_5 4 rfl rfl)
theorem dX1_breaksUp_120 : decode cX1_breaksUp 120 = .ok (.goto 18, 3) := dk_167 0 18 (dk_at dksX1_breaksUp_5 5 rfl rfl)
theorem dX1_breaksUp_123 : decode cX1_breaksUp 123 = .ok (.aload_n 3, 1) := dk_45 (dk_at dksX1_breaksUp_5 8 rfl rfl)
theorem dX1_breaksUp_124 : decode cX1_breaksUp 124 = .ok (.getfield 66, 3) := dk_180 0 66 (dk_at dksX1_breaksUp_5 9 rfl rfl)
theorem dX1_breaksUp_127 : decode cX1_breaksUp 127 = .ok (.iload 4, 2) := dk_21 4 (dk_at dksX1_breaksUp_5 12 rfl rfl)
theorem dX1_breaksUp_129 : decode cX1_breaksUp 129 = .ok (.invokevirtual 51, 3) := dk_182 0 51 (dk_at dksX1_breaksUp_5 14 rfl rfl)
theorem dX1_breaksUp_132 : decode cX1_breaksUp 132 = .ok (.checkcast 80, 3) := dk_192 0 80 (dk_at dksX1_breaksUp_5 17 rfl rfl)
theorem dX1_breaksUp_135 : decode cX1_breaksUp 135 = .ok (.invokevirtual 82, 3) := dk_182 0 82 (dk_at dksX1_breaksUp_5 20 rfl rfl)
theorem dX1_breaksUp_138 : decode cX1_breaksUp 138 = .ok (.invokestatic 87, 3) := dk_184 0 87 (dk_at dksX1_breaksUp_6 0 rfl rfl)
theorem dX1_breaksUp_141 : decode cX1_breaksUp 141 = .ok (.invokevirtual 112, 3) := dk_182 0 112 (dk_at dksX1_breaksUp_6 3 rfl rfl)
theorem dX1_breaksUp_144 : decode cX1_breaksUp 144 = .ok (.pop, 1) := dk_87 (dk_at dksX1_breaksUp_6 6 rfl rfl)
theorem dX1_breaksUp_145 : decode cX1_breaksUp 145 = .ok (.iinc 4 1, 3) := dk_132 4 1 (dk_at dksX1_breaksUp_6 7 rfl rfl)
theorem dX1_breaksUp_148 : decode cX1_breaksUp 148 = .ok (.goto (-82), 3) := dk_167 255 174 (dk_at dksX1_breaksUp_6 10 rfl rfl)
theorem dX1_breaksUp_151 : decode cX1_breaksUp 151 = .ok (.goto (-129), 3) := dk_167 255 127 (dk_at dksX1_breaksUp_6 13 rfl rfl)
theorem dX1_breaksUp_154 : decode cX1_breaksUp 154 = .ok (.return_, 1) := dk_177 (dk_at dksX1_breaksUp_6 16 rfl rfl)
abbrev cX1_writes : ByteArray := prog_5_method_37_code
def yX1_writes : MethodName := ⟨RX1, "writes", "(ILjava/lang/StringBuilder;)V"⟩
def dkwX1_writes_6 : List UInt8 := [21, 5, 44, 182, 0, 210, 167, 255, 224, 44, 16, 93, 182, 0, 198, 87, 177]
abbrev dktX1_writes_6 : List UInt8 := dkwX1_writes_6 ++ []
def dkwX1_writes_5 : List UInt8 := [185, 0, 23, 1, 0, 153, 0, 28, 25, 4, 185, 0, 29, 1, 0, 192, 0, 80, 182, 0, 82, 54, 5, 42]
abbrev dktX1_writes_5 : List UInt8 := dkwX1_writes_5 ++ dktX1_writes_6
def dkwX1_writes_4 : List UInt8 := [182, 0, 69, 154, 0, 61, 44, 16, 91, 182, 0, 198, 87, 45, 180, 0, 66, 182, 0, 19, 58, 4, 25, 4]
abbrev dktX1_writes_4 : List UInt8 := dkwX1_writes_4 ++ dktX1_writes_5
def dkwX1_writes_3 : List UInt8 := [180, 0, 77, 182, 0, 204, 16, 103, 182, 0, 198, 45, 180, 0, 207, 182, 0, 204, 87, 45, 180, 0, 66]
abbrev dktX1_writes_3 : List UInt8 := dkwX1_writes_3 ++ dktX1_writes_4
def dkwX1_writes_2 : List UInt8 := [167, 255, 228, 44, 16, 115, 182, 0, 198, 45, 180, 0, 85, 182, 0, 204, 16, 114, 182, 0, 198, 45]
abbrev dktX1_writes_2 : List UInt8 := dkwX1_writes_2 ++ dktX1_writes_3
def dkwX1_writes_1 : List UInt8 := [162, 0, 27, 25, 4, 21, 6, 46, 54, 7, 44, 16, 65, 21, 7, 96, 146, 182, 0, 198, 87, 132, 6, 1]
abbrev dktX1_writes_1 : List UInt8 := dkwX1_writes_1 ++ dktX1_writes_2
def dkwX1_writes_0 : List UInt8 := [42, 27, 182, 0, 55, 78, 45, 180, 0, 119, 58, 4, 25, 4, 190, 54, 5, 3, 54, 6, 21, 6, 21, 5]
abbrev dktX1_writes_0 : List UInt8 := dkwX1_writes_0 ++ dktX1_writes_1
theorem dksX1_writes_0 : cX1_writes.data.toList.drop 0 = dktX1_writes_0 := by decide +kernel
theorem dksX1_writes_1 : cX1_writes.data.toList.drop 24 = dktX1_writes_1 := dk_seg dksX1_writes_0 24 rfl rfl
theorem dksX1_writes_2 : cX1_writes.data.toList.drop 48 = dktX1_writes_2 := dk_seg dksX1_writes_1 24 rfl rfl
theorem dksX1_writes_3 : cX1_writes.data.toList.drop 70 = dktX1_writes_3 := dk_seg dksX1_writes_2 22 rfl rfl
theorem dksX1_writes_4 : cX1_writes.data.toList.drop 93 = dktX1_writes_4 := dk_seg dksX1_writes_3 23 rfl rfl
theorem dksX1_writes_5 : cX1_writes.data.toList.drop 117 = dktX1_writes_5 := dk_seg dksX1_writes_4 24 rfl rfl
theorem dksX1_writes_6 : cX1_writes.data.toList.drop 141 = dktX1_writes_6 := dk_seg dksX1_writes_5 24 rfl rfl
theorem dX1_writes_0 : decode cX1_writes 0 = .ok (.aload_n 0, 1) := dk_42 (dk_at dksX1_writes_0 0 rfl rfl)
theorem dX1_writes_1 : decode cX1_writes 1 = .ok (.iload_n 1, 1) := dk_27 (dk_at dksX1_writes_0 1 rfl rfl)
theorem dX1_writes_2 : decode cX1_writes 2 = .ok (.invokevirtual 55, 3) := dk_182 0 55 (dk_at dksX1_writes_0 2 rfl rfl)
theorem dX1_writes_5 : decode cX1_writes 5 = .ok (.astore_n 3, 1) := dk_78 (dk_at dksX1_writes_0 5 rfl rfl)
theorem dX1_writes_6 : decode cX1_writes 6 = .ok (.aload_n 3, 1) := dk_45 (dk_at dksX1_writes_0 6 rfl rfl)
theorem dX1_writes_7 : decode cX1_writes 7 = .ok (.getfield 119, 3) := dk_180 0 119 (dk_at dksX1_writes_0 7 rfl rfl)
theorem dX1_writes_10 : decode cX1_writes 10 = .ok (.astore 4, 2) := dk_58 4 (dk_at dksX1_writes_0 10 rfl rfl)
theorem dX1_writes_12 : decode cX1_writes 12 = .ok (.aload 4, 2) := dk_25 4 (dk_at dksX1_writes_0 12 rfl rfl)
theorem dX1_writes_14 : decode cX1_writes 14 = .ok (.arraylength, 1) := dk_190 (dk_at dksX1_writes_0 14 rfl rfl)
theorem dX1_writes_15 : decode cX1_writes 15 = .ok (.istore 5, 2) := dk_54 5 (dk_at dksX1_writes_0 15 rfl rfl)
theorem dX1_writes_17 : decode cX1_writes 17 = .ok (.iconst 0, 1) := dk_3 (dk_at dksX1_writes_0 17 rfl rfl)
theorem dX1_writes_18 : decode cX1_writes 18 = .ok (.istore 6, 2) := dk_54 6 (dk_at dksX1_writes_0 18 rfl rfl)
theorem dX1_writes_20 : decode cX1_writes 20 = .ok (.iload 6, 2) := dk_21 6 (dk_at dksX1_writes_0 20 rfl rfl)
theorem dX1_writes_22 : decode cX1_writes 22 = .ok (.iload 5, 2) := dk_21 5 (dk_at dksX1_writes_0 22 rfl rfl)
theorem dX1_writes_24 : decode cX1_writes 24 = .ok (.if_icmp .ge 27, 3) := dk_162 0 27 (dk_at dksX1_writes_1 0 rfl rfl)
theorem dX1_writes_27 : decode cX1_writes 27 = .ok (.aload 4, 2) := dk_25 4 (dk_at dksX1_writes_1 3 rfl rfl)
theorem dX1_writes_29 : decode cX1_writes 29 = .ok (.iload 6, 2) := dk_21 6 (dk_at dksX1_writes_1 5 rfl rfl)
theorem dX1_writes_31 : decode cX1_writes 31 = .ok (.iaload, 1) := dk_46 (dk_at dksX1_writes_1 7 rfl rfl)
theorem dX1_writes_32 : decode cX1_writes 32 = .ok (.istore 7, 2) := dk_54 7 (dk_at dksX1_writes_1 8 rfl rfl)
theorem dX1_writes_34 : decode cX1_writes 34 = .ok (.aload_n 2, 1) := dk_44 (dk_at dksX1_writes_1 10 rfl rfl)
theorem dX1_writes_35 : decode cX1_writes 35 = .ok (.bipush 65, 2) := dk_16 65 (dk_at dksX1_writes_1 11 rfl rfl)
theorem dX1_writes_37 : decode cX1_writes 37 = .ok (.iload 7, 2) := dk_21 7 (dk_at dksX1_writes_1 13 rfl rfl)
theorem dX1_writes_39 : decode cX1_writes 39 = .ok (.iadd, 1) := dk_96 (dk_at dksX1_writes_1 15 rfl rfl)
theorem dX1_writes_40 : decode cX1_writes 40 = .ok (.i2c, 1) := dk_146 (dk_at dksX1_writes_1 16 rfl rfl)
theorem dX1_writes_41 : decode cX1_writes 41 = .ok (.invokevirtual 198, 3) := dk_182 0 198 (dk_at dksX1_writes_1 17 rfl rfl)
theorem dX1_writes_44 : decode cX1_writes 44 = .ok (.pop, 1) := dk_87 (dk_at dksX1_writes_1 20 rfl rfl)
theorem dX1_writes_45 : decode cX1_writes 45 = .ok (.iinc 6 1, 3) := dk_132 6 1 (dk_at dksX1_writes_1 21 rfl rfl)
theorem dX1_writes_48 : decode cX1_writes 48 = .ok (.goto (-28), 3) := dk_167 255 228 (dk_at dksX1_writes_2 0 rfl rfl)
theorem dX1_writes_51 : decode cX1_writes 51 = .ok (.aload_n 2, 1) := dk_44 (dk_at dksX1_writes_2 3 rfl rfl)
theorem dX1_writes_52 : decode cX1_writes 52 = .ok (.bipush 115, 2) := dk_16 115 (dk_at dksX1_writes_2 4 rfl rfl)
theorem dX1_writes_54 : decode cX1_writes 54 = .ok (.invokevirtual 198, 3) := dk_182 0 198 (dk_at dksX1_writes_2 6 rfl rfl)
theorem dX1_writes_57 : decode cX1_writes 57 = .ok (.aload_n 3, 1) := dk_45 (dk_at dksX1_writes_2 9 rfl rfl)
theorem dX1_writes_58 : decode cX1_writes 58 = .ok (.getfield 85, 3) := dk_180 0 85 (dk_at dksX1_writes_2 10 rfl rfl)
theorem dX1_writes_61 : decode cX1_writes 61 = .ok (.invokevirtual 204, 3) := dk_182 0 204 (dk_at dksX1_writes_2 13 rfl rfl)
theorem dX1_writes_64 : decode cX1_writes 64 = .ok (.bipush 114, 2) := dk_16 114 (dk_at dksX1_writes_2 16 rfl rfl)
theorem dX1_writes_66 : decode cX1_writes 66 = .ok (.invokevirtual 198, 3) := dk_182 0 198 (dk_at dksX1_writes_2 18 rfl rfl)
theorem dX1_writes_69 : decode cX1_writes 69 = .ok (.aload_n 3, 1) := dk_45 (dk_at dksX1_writes_2 21 rfl rfl)
theorem dX1_writes_70 : decode cX1_writes 70 = .ok (.getfield 77, 3) := dk_180 0 77 (dk_at dksX1_writes_3 0 rfl rfl)
theorem dX1_writes_73 : decode cX1_writes 73 = .ok (.invokevirtual 204, 3) := dk_182 0 204 (dk_at dksX1_writes_3 3 rfl rfl)
theorem dX1_writes_76 : decode cX1_writes 76 = .ok (.bipush 103, 2) := dk_16 103 (dk_at dksX1_writes_3 6 rfl rfl)
theorem dX1_writes_78 : decode cX1_writes 78 = .ok (.invokevirtual 198, 3) := dk_182 0 198 (dk_at dksX1_writes_3 8 rfl rfl)
theorem dX1_writes_81 : decode cX1_writes 81 = .ok (.aload_n 3, 1) := dk_45 (dk_at dksX1_writes_3 11 rfl rfl)
theorem dX1_writes_82 : decode cX1_writes 82 = .ok (.getfield 207, 3) := dk_180 0 207 (dk_at dksX1_writes_3 12 rfl rfl)
theorem dX1_writes_85 : decode cX1_writes 85 = .ok (.invokevirtual 204, 3) := dk_182 0 204 (dk_at dksX1_writes_3 15 rfl rfl)
theorem dX1_writes_88 : decode cX1_writes 88 = .ok (.pop, 1) := dk_87 (dk_at dksX1_writes_3 18 rfl rfl)
theorem dX1_writes_89 : decode cX1_writes 89 = .ok (.aload_n 3, 1) := dk_45 (dk_at dksX1_writes_3 19 rfl rfl)
theorem dX1_writes_90 : decode cX1_writes 90 = .ok (.getfield 66, 3) := dk_180 0 66 (dk_at dksX1_writes_3 20 rfl rfl)
theorem dX1_writes_93 : decode cX1_writes 93 = .ok (.invokevirtual 69, 3) := dk_182 0 69 (dk_at dksX1_writes_4 0 rfl rfl)
theorem dX1_writes_96 : decode cX1_writes 96 = .ok (.ifCond .ne 61, 3) := dk_154 0 61 (dk_at dksX1_writes_4 3 rfl rfl)
theorem dX1_writes_99 : decode cX1_writes 99 = .ok (.aload_n 2, 1) := dk_44 (dk_at dksX1_writes_4 6 rfl rfl)
theorem dX1_writes_100 : decode cX1_writes 100 = .ok (.bipush 91, 2) := dk_16 91 (dk_at dksX1_writes_4 7 rfl rfl)
theorem dX1_writes_102 : decode cX1_writes 102 = .ok (.invokevirtual 198, 3) := dk_182 0 198 (dk_at dksX1_writes_4 9 rfl rfl)
theorem dX1_writes_105 : decode cX1_writes 105 = .ok (.pop, 1) := dk_87 (dk_at dksX1_writes_4 12 rfl rfl)
theorem dX1_writes_106 : decode cX1_writes 106 = .ok (.aload_n 3, 1) := dk_45 (dk_at dksX1_writes_4 13 rfl rfl)
theorem dX1_writes_107 : decode cX1_writes 107 = .ok (.getfield 66, 3) := dk_180 0 66 (dk_at dksX1_writes_4 14 rfl rfl)
theorem dX1_writes_110 : decode cX1_writes 110 = .ok (.invokevirtual 19, 3) := dk_182 0 19 (dk_at dksX1_writes_4 17 rfl rfl)
theorem dX1_writes_113 : decode cX1_writes 113 = .ok (.astore 4, 2) := dk_58 4 (dk_at dksX1_writes_4 20 rfl rfl)
theorem dX1_writes_115 : decode cX1_writes 115 = .ok (.aload 4, 2) := dk_25 4 (dk_at dksX1_writes_4 22 rfl rfl)
theorem dX1_writes_117 : decode cX1_writes 117 = .ok (.invokeinterface 23 1, 5) := by decide +kernel
theorem dX1_writes_122 : decode cX1_writes 122 = .ok (.ifCond .eq 28, 3) := dk_153 0 28 (dk_at dksX1_writes_5 5 rfl rfl)
theorem dX1_writes_125 : decode cX1_writes 125 = .ok (.aload 4, 2) := dk_25 4 (dk_at dksX1_writes_5 8 rfl rfl)
theorem dX1_writes_127 : decode cX1_writes 127 = .ok (.invokeinterface 29 1, 5) := by decide +kernel
theorem dX1_writes_132 : decode cX1_writes 132 = .ok (.checkcast 80, 3) := dk_192 0 80 (dk_at dksX1_writes_5 15 rfl rfl)
theorem dX1_writes_135 : decode cX1_writes 135 = .ok (.invokevirtual 82, 3) := dk_182 0 82 (dk_at dksX1_writes_5 18 rfl rfl)
theorem dX1_writes_138 : decode cX1_writes 138 = .ok (.istore 5, 2) := dk_54 5 (dk_at dksX1_writes_5 21 rfl rfl)
theorem dX1_writes_140 : decode cX1_writes 140 = .ok (.aload_n 0, 1) := dk_42 (dk_at dksX1_writes_5 23 rfl rfl)
theorem dX1_writes_141 : decode cX1_writes 141 = .ok (.iload 5, 2) := dk_21 5 (dk_at dksX1_writes_6 0 rfl rfl)
theorem dX1_writes_143 : decode cX1_writes 143 = .ok (.aload_n 2, 1) := dk_44 (dk_at dksX1_writes_6 2 rfl rfl)
theorem dX1_writes_144 : decode cX1_writes 144 = .ok (.invokevirtual 210, 3) := dk_182 0 210 (dk_at dksX1_writes_6 3 rfl rfl)
theorem dX1_writes_147 : decode cX1_writes 147 = .ok (.goto (-32), 3) := dk_167 255 224 (dk_at dksX1_writes_6 6 rfl rfl)
theorem dX1_writes_150 : decode cX1_writes 150 = .ok (.aload_n 2, 1) := dk_44 (dk_at dksX1_writes_6 9 rfl rfl)
theorem dX1_writes_151 : decode cX1_writes 151 = .ok (.bipush 93, 2) := dk_16 93 (dk_at dksX1_writes_6 10 rfl rfl)
theorem dX1_writes_153 : decode cX1_writes 153 = .ok (.invokevirtual 198, 3) := dk_182 0 198 (dk_at dksX1_writes_6 12 rfl rfl)
theorem dX1_writes_156 : decode cX1_writes 156 = .ok (.pop, 1) := dk_87 (dk_at dksX1_writes_6 15 rfl rfl)
theorem dX1_writes_157 : decode cX1_writes 157 = .ok (.return_, 1) := dk_177 (dk_at dksX1_writes_6 16 rfl rfl)
abbrev cX1_load : ByteArray := prog_5_method_9_code
def yX1_load : MethodName := ⟨RX1, "load", "(I)I"⟩
def dkwX1_load_1 : List UInt8 := [167, 0, 4, 3, 96, 61, 132, 3, 1, 167, 255, 228, 28, 172]
abbrev dktX1_load_1 : List UInt8 := dkwX1_load_1 ++ []
def dkwX1_load_0 : List UInt8 := [3, 61, 3, 62, 29, 42, 182, 0, 72, 162, 0, 26, 28, 42, 27, 29, 182, 0, 73, 153, 0, 7, 4]
abbrev dktX1_load_0 : List UInt8 := dkwX1_load_0 ++ dktX1_load_1
theorem dksX1_load_0 : cX1_load.data.toList.drop 0 = dktX1_load_0 := by decide +kernel
theorem dksX1_load_1 : cX1_load.data.toList.drop 23 = dktX1_load_1 := dk_seg dksX1_load_0 23 rfl rfl
theorem dX1_load_0 : decode cX1_load 0 = .ok (.iconst 0, 1) := dk_3 (dk_at dksX1_load_0 0 rfl rfl)
theorem dX1_load_1 : decode cX1_load 1 = .ok (.istore_n 2, 1) := dk_61 (dk_at dksX1_load_0 1 rfl rfl)
theorem dX1_load_2 : decode cX1_load 2 = .ok (.iconst 0, 1) := dk_3 (dk_at dksX1_load_0 2 rfl rfl)
theorem dX1_load_3 : decode cX1_load 3 = .ok (.istore_n 3, 1) := dk_62 (dk_at dksX1_load_0 3 rfl rfl)
theorem dX1_load_4 : decode cX1_load 4 = .ok (.iload_n 3, 1) := dk_29 (dk_at dksX1_load_0 4 rfl rfl)
theorem dX1_load_5 : decode cX1_load 5 = .ok (.aload_n 0, 1) := dk_42 (dk_at dksX1_load_0 5 rfl rfl)
theorem dX1_load_6 : decode cX1_load 6 = .ok (.invokevirtual 72, 3) := dk_182 0 72 (dk_at dksX1_load_0 6 rfl rfl)
theorem dX1_load_9 : decode cX1_load 9 = .ok (.if_icmp .ge 26, 3) := dk_162 0 26 (dk_at dksX1_load_0 9 rfl rfl)
theorem dX1_load_12 : decode cX1_load 12 = .ok (.iload_n 2, 1) := dk_28 (dk_at dksX1_load_0 12 rfl rfl)
theorem dX1_load_13 : decode cX1_load 13 = .ok (.aload_n 0, 1) := dk_42 (dk_at dksX1_load_0 13 rfl rfl)
theorem dX1_load_14 : decode cX1_load 14 = .ok (.iload_n 1, 1) := dk_27 (dk_at dksX1_load_0 14 rfl rfl)
theorem dX1_load_15 : decode cX1_load 15 = .ok (.iload_n 3, 1) := dk_29 (dk_at dksX1_load_0 15 rfl rfl)
theorem dX1_load_16 : decode cX1_load 16 = .ok (.invokevirtual 73, 3) := dk_182 0 73 (dk_at dksX1_load_0 16 rfl rfl)
theorem dX1_load_19 : decode cX1_load 19 = .ok (.ifCond .eq 7, 3) := dk_153 0 7 (dk_at dksX1_load_0 19 rfl rfl)
theorem dX1_load_22 : decode cX1_load 22 = .ok (.iconst 1, 1) := dk_4 (dk_at dksX1_load_0 22 rfl rfl)
theorem dX1_load_23 : decode cX1_load 23 = .ok (.goto 4, 3) := dk_167 0 4 (dk_at dksX1_load_1 0 rfl rfl)
theorem dX1_load_26 : decode cX1_load 26 = .ok (.iconst 0, 1) := dk_3 (dk_at dksX1_load_1 3 rfl rfl)
theorem dX1_load_27 : decode cX1_load 27 = .ok (.iadd, 1) := dk_96 (dk_at dksX1_load_1 4 rfl rfl)
theorem dX1_load_28 : decode cX1_load 28 = .ok (.istore_n 2, 1) := dk_61 (dk_at dksX1_load_1 5 rfl rfl)
theorem dX1_load_29 : decode cX1_load 29 = .ok (.iinc 3 1, 3) := dk_132 3 1 (dk_at dksX1_load_1 6 rfl rfl)
theorem dX1_load_32 : decode cX1_load 32 = .ok (.goto (-28), 3) := dk_167 255 228 (dk_at dksX1_load_1 9 rfl rfl)
theorem dX1_load_35 : decode cX1_load 35 = .ok (.iload_n 2, 1) := dk_28 (dk_at dksX1_load_1 12 rfl rfl)
theorem dX1_load_36 : decode cX1_load 36 = .ok (.ireturn, 1) := dk_172 (dk_at dksX1_load_1 13 rfl rfl)
abbrev cX1_effort : ByteArray := prog_5_method_28_code
def yX1_effort : MethodName := ⟨RX1, "effort", "(I)I"⟩
def dkwX1_effort_1 : List UInt8 := [182, 0, 55, 180, 0, 59, 62, 167, 255, 229, 28, 172]
abbrev dktX1_effort_1 : List UInt8 := dkwX1_effort_1 ++ []
def dkwX1_effort_0 : List UInt8 := [3, 61, 27, 62, 42, 29, 182, 0, 62, 154, 0, 25, 28, 4, 42, 29, 182, 0, 99, 96, 96, 61, 42, 29]
abbrev dktX1_effort_0 : List UInt8 := dkwX1_effort_0 ++ dktX1_effort_1
theorem dksX1_effort_0 : cX1_effort.data.toList.drop 0 = dktX1_effort_0 := by decide +kernel
theorem dksX1_effort_1 : cX1_effort.data.toList.drop 24 = dktX1_effort_1 := dk_seg dksX1_effort_0 24 rfl rfl
theorem dX1_effort_0 : decode cX1_effort 0 = .ok (.iconst 0, 1) := dk_3 (dk_at dksX1_effort_0 0 rfl rfl)
theorem dX1_effort_1 : decode cX1_effort 1 = .ok (.istore_n 2, 1) := dk_61 (dk_at dksX1_effort_0 1 rfl rfl)
theorem dX1_effort_2 : decode cX1_effort 2 = .ok (.iload_n 1, 1) := dk_27 (dk_at dksX1_effort_0 2 rfl rfl)
theorem dX1_effort_3 : decode cX1_effort 3 = .ok (.istore_n 3, 1) := dk_62 (dk_at dksX1_effort_0 3 rfl rfl)
theorem dX1_effort_4 : decode cX1_effort 4 = .ok (.aload_n 0, 1) := dk_42 (dk_at dksX1_effort_0 4 rfl rfl)
theorem dX1_effort_5 : decode cX1_effort 5 = .ok (.iload_n 3, 1) := dk_29 (dk_at dksX1_effort_0 5 rfl rfl)
theorem dX1_effort_6 : decode cX1_effort 6 = .ok (.invokevirtual 62, 3) := dk_182 0 62 (dk_at dksX1_effort_0 6 rfl rfl)
theorem dX1_effort_9 : decode cX1_effort 9 = .ok (.ifCond .ne 25, 3) := dk_154 0 25 (dk_at dksX1_effort_0 9 rfl rfl)
theorem dX1_effort_12 : decode cX1_effort 12 = .ok (.iload_n 2, 1) := dk_28 (dk_at dksX1_effort_0 12 rfl rfl)
theorem dX1_effort_13 : decode cX1_effort 13 = .ok (.iconst 1, 1) := dk_4 (dk_at dksX1_effort_0 13 rfl rfl)
theorem dX1_effort_14 : decode cX1_effort 14 = .ok (.aload_n 0, 1) := dk_42 (dk_at dksX1_effort_0 14 rfl rfl)
theorem dX1_effort_15 : decode cX1_effort 15 = .ok (.iload_n 3, 1) := dk_29 (dk_at dksX1_effort_0 15 rfl rfl)
theorem dX1_effort_16 : decode cX1_effort 16 = .ok (.invokevirtual 99, 3) := dk_182 0 99 (dk_at dksX1_effort_0 16 rfl rfl)
theorem dX1_effort_19 : decode cX1_effort 19 = .ok (.iadd, 1) := dk_96 (dk_at dksX1_effort_0 19 rfl rfl)
theorem dX1_effort_20 : decode cX1_effort 20 = .ok (.iadd, 1) := dk_96 (dk_at dksX1_effort_0 20 rfl rfl)
theorem dX1_effort_21 : decode cX1_effort 21 = .ok (.istore_n 2, 1) := dk_61 (dk_at dksX1_effort_0 21 rfl rfl)
theorem dX1_effort_22 : decode cX1_effort 22 = .ok (.aload_n 0, 1) := dk_42 (dk_at dksX1_effort_0 22 rfl rfl)
theorem dX1_effort_23 : decode cX1_effort 23 = .ok (.iload_n 3, 1) := dk_29 (dk_at dksX1_effort_0 23 rfl rfl)
theorem dX1_effort_24 : decode cX1_effort 24 = .ok (.invokevirtual 55, 3) := dk_182 0 55 (dk_at dksX1_effort_1 0 rfl rfl)
theorem dX1_effort_27 : decode cX1_effort 27 = .ok (.getfield 59, 3) := dk_180 0 59 (dk_at dksX1_effort_1 3 rfl rfl)
theorem dX1_effort_30 : decode cX1_effort 30 = .ok (.istore_n 3, 1) := dk_62 (dk_at dksX1_effort_1 6 rfl rfl)
theorem dX1_effort_31 : decode cX1_effort 31 = .ok (.goto (-27), 3) := dk_167 255 229 (dk_at dksX1_effort_1 7 rfl rfl)
theorem dX1_effort_34 : decode cX1_effort 34 = .ok (.iload_n 2, 1) := dk_28 (dk_at dksX1_effort_1 10 rfl rfl)
theorem dX1_effort_35 : decode cX1_effort 35 = .ok (.ireturn, 1) := dk_172 (dk_at dksX1_effort_1 11 rfl rfl)
abbrev cX1_canBeTold : ByteArray := prog_5_method_25_code
def yX1_canBeTold : MethodName := ⟨RX1, "canBeTold", "(I)Z"⟩
def dkwX1_canBeTold_1 : List UInt8 := [167, 0, 4, 3, 172]
abbrev dktX1_canBeTold_1 : List UInt8 := dkwX1_canBeTold_1 ++ []
def dkwX1_canBeTold_0 : List UInt8 := [42, 182, 0, 155, 42, 27, 182, 0, 144, 182, 0, 148, 192, 0, 80, 182, 0, 82, 4, 160, 0, 7, 4]
abbrev dktX1_canBeTold_0 : List UInt8 := dkwX1_canBeTold_0 ++ dktX1_canBeTold_1
theorem dksX1_canBeTold_0 : cX1_canBeTold.data.toList.drop 0 = dktX1_canBeTold_0 := by decide +kernel
theorem dksX1_canBeTold_1 : cX1_canBeTold.data.toList.drop 23 = dktX1_canBeTold_1 := dk_seg dksX1_canBeTold_0 23 rfl rfl
theorem dX1_canBeTold_0 : decode cX1_canBeTold 0 = .ok (.aload_n 0, 1) := dk_42 (dk_at dksX1_canBeTold_0 0 rfl rfl)
theorem dX1_canBeTold_1 : decode cX1_canBeTold 1 = .ok (.invokevirtual 155, 3) := dk_182 0 155 (dk_at dksX1_canBeTold_0 1 rfl rfl)
theorem dX1_canBeTold_4 : decode cX1_canBeTold 4 = .ok (.aload_n 0, 1) := dk_42 (dk_at dksX1_canBeTold_0 4 rfl rfl)
theorem dX1_canBeTold_5 : decode cX1_canBeTold 5 = .ok (.iload_n 1, 1) := dk_27 (dk_at dksX1_canBeTold_0 5 rfl rfl)
theorem dX1_canBeTold_6 : decode cX1_canBeTold 6 = .ok (.invokevirtual 144, 3) := dk_182 0 144 (dk_at dksX1_canBeTold_0 6 rfl rfl)
theorem dX1_canBeTold_9 : decode cX1_canBeTold 9 = .ok (.invokevirtual 148, 3) := dk_182 0 148 (dk_at dksX1_canBeTold_0 9 rfl rfl)
theorem dX1_canBeTold_12 : decode cX1_canBeTold 12 = .ok (.checkcast 80, 3) := dk_192 0 80 (dk_at dksX1_canBeTold_0 12 rfl rfl)
theorem dX1_canBeTold_15 : decode cX1_canBeTold 15 = .ok (.invokevirtual 82, 3) := dk_182 0 82 (dk_at dksX1_canBeTold_0 15 rfl rfl)
theorem dX1_canBeTold_18 : decode cX1_canBeTold 18 = .ok (.iconst 1, 1) := dk_4 (dk_at dksX1_canBeTold_0 18 rfl rfl)
theorem dX1_canBeTold_19 : decode cX1_canBeTold 19 = .ok (.if_icmp .ne 7, 3) := dk_160 0 7 (dk_at dksX1_canBeTold_0 19 rfl rfl)
theorem dX1_canBeTold_22 : decode cX1_canBeTold 22 = .ok (.iconst 1, 1) := dk_4 (dk_at dksX1_canBeTold_0 22 rfl rfl)
theorem dX1_canBeTold_23 : decode cX1_canBeTold 23 = .ok (.goto 4, 3) := dk_167 0 4 (dk_at dksX1_canBeTold_1 0 rfl rfl)
theorem dX1_canBeTold_26 : decode cX1_canBeTold 26 = .ok (.iconst 0, 1) := dk_3 (dk_at dksX1_canBeTold_1 3 rfl rfl)
theorem dX1_canBeTold_27 : decode cX1_canBeTold 27 = .ok (.ireturn, 1) := dk_172 (dk_at dksX1_canBeTold_1 4 rfl rfl)
abbrev cX1_looks : ByteArray := prog_5_method_24_code
def yX1_looks : MethodName := ⟨RX1, "looks", "()Ljava/util/HashMap;"⟩
def dkwX1_looks_2 : List UInt8 := [182, 0, 82, 4, 96, 184, 0, 87, 182, 0, 151, 87, 132, 2, 1, 167, 255, 204, 43, 176]
abbrev dktX1_looks_2 : List UInt8 := dkwX1_looks_2 ++ []
def dkwX1_looks_1 : List UInt8 := [43, 45, 182, 0, 148, 192, 0, 80, 58, 4, 43, 45, 25, 4, 199, 0, 7, 4, 167, 0, 10, 25, 4]
abbrev dktX1_looks_1 : List UInt8 := dkwX1_looks_1 ++ dktX1_looks_2
def dkwX1_looks_0 : List UInt8 := [187, 0, 141, 89, 183, 0, 143, 76, 3, 61, 28, 42, 182, 0, 72, 162, 0, 50, 42, 28, 182, 0, 144, 78]
abbrev dktX1_looks_0 : List UInt8 := dkwX1_looks_0 ++ dktX1_looks_1
theorem dksX1_looks_0 : cX1_looks.data.toList.drop 0 = dktX1_looks_0 := by decide +kernel
theorem dksX1_looks_1 : cX1_looks.data.toList.drop 24 = dktX1_looks_1 := dk_seg dksX1_looks_0 24 rfl rfl
theorem dksX1_looks_2 : cX1_looks.data.toList.drop 47 = dktX1_looks_2 := dk_seg dksX1_looks_1 23 rfl rfl
theorem dX1_looks_0 : decode cX1_looks 0 = .ok (.new 141, 3) := dk_187 0 141 (dk_at dksX1_looks_0 0 rfl rfl)
theorem dX1_looks_3 : decode cX1_looks 3 = .ok (.dup, 1) := dk_89 (dk_at dksX1_looks_0 3 rfl rfl)
theorem dX1_looks_4 : decode cX1_looks 4 = .ok (.invokespecial 143, 3) := dk_183 0 143 (dk_at dksX1_looks_0 4 rfl rfl)
theorem dX1_looks_7 : decode cX1_looks 7 = .ok (.astore_n 1, 1) := dk_76 (dk_at dksX1_looks_0 7 rfl rfl)
theorem dX1_looks_8 : decode cX1_looks 8 = .ok (.iconst 0, 1) := dk_3 (dk_at dksX1_looks_0 8 rfl rfl)
theorem dX1_looks_9 : decode cX1_looks 9 = .ok (.istore_n 2, 1) := dk_61 (dk_at dksX1_looks_0 9 rfl rfl)
theorem dX1_looks_10 : decode cX1_looks 10 = .ok (.iload_n 2, 1) := dk_28 (dk_at dksX1_looks_0 10 rfl rfl)
theorem dX1_looks_11 : decode cX1_looks 11 = .ok (.aload_n 0, 1) := dk_42 (dk_at dksX1_looks_0 11 rfl rfl)
theorem dX1_looks_12 : decode cX1_looks 12 = .ok (.invokevirtual 72, 3) := dk_182 0 72 (dk_at dksX1_looks_0 12 rfl rfl)
theorem dX1_looks_15 : decode cX1_looks 15 = .ok (.if_icmp .ge 50, 3) := dk_162 0 50 (dk_at dksX1_looks_0 15 rfl rfl)
theorem dX1_looks_18 : decode cX1_looks 18 = .ok (.aload_n 0, 1) := dk_42 (dk_at dksX1_looks_0 18 rfl rfl)
theorem dX1_looks_19 : decode cX1_looks 19 = .ok (.iload_n 2, 1) := dk_28 (dk_at dksX1_looks_0 19 rfl rfl)
theorem dX1_looks_20 : decode cX1_looks 20 = .ok (.invokevirtual 144, 3) := dk_182 0 144 (dk_at dksX1_looks_0 20 rfl rfl)
theorem dX1_looks_23 : decode cX1_looks 23 = .ok (.astore_n 3, 1) := dk_78 (dk_at dksX1_looks_0 23 rfl rfl)
theorem dX1_looks_24 : decode cX1_looks 24 = .ok (.aload_n 1, 1) := dk_43 (dk_at dksX1_looks_1 0 rfl rfl)
theorem dX1_looks_25 : decode cX1_looks 25 = .ok (.aload_n 3, 1) := dk_45 (dk_at dksX1_looks_1 1 rfl rfl)
theorem dX1_looks_26 : decode cX1_looks 26 = .ok (.invokevirtual 148, 3) := dk_182 0 148 (dk_at dksX1_looks_1 2 rfl rfl)
theorem dX1_looks_29 : decode cX1_looks 29 = .ok (.checkcast 80, 3) := dk_192 0 80 (dk_at dksX1_looks_1 5 rfl rfl)
theorem dX1_looks_32 : decode cX1_looks 32 = .ok (.astore 4, 2) := dk_58 4 (dk_at dksX1_looks_1 8 rfl rfl)
theorem dX1_looks_34 : decode cX1_looks 34 = .ok (.aload_n 1, 1) := dk_43 (dk_at dksX1_looks_1 10 rfl rfl)
theorem dX1_looks_35 : decode cX1_looks 35 = .ok (.aload_n 3, 1) := dk_45 (dk_at dksX1_looks_1 11 rfl rfl)
theorem dX1_looks_36 : decode cX1_looks 36 = .ok (.aload 4, 2) := dk_25 4 (dk_at dksX1_looks_1 12 rfl rfl)
theorem dX1_looks_38 : decode cX1_looks 38 = .ok (.ifnonnull 7, 3) := dk_199 0 7 (dk_at dksX1_looks_1 14 rfl rfl)
theorem dX1_looks_41 : decode cX1_looks 41 = .ok (.iconst 1, 1) := dk_4 (dk_at dksX1_looks_1 17 rfl rfl)
theorem dX1_looks_42 : decode cX1_looks 42 = .ok (.goto 10, 3) := dk_167 0 10 (dk_at dksX1_looks_1 18 rfl rfl)
theorem dX1_looks_45 : decode cX1_looks 45 = .ok (.aload 4, 2) := dk_25 4 (dk_at dksX1_looks_1 21 rfl rfl)
theorem dX1_looks_47 : decode cX1_looks 47 = .ok (.invokevirtual 82, 3) := dk_182 0 82 (dk_at dksX1_looks_2 0 rfl rfl)
theorem dX1_looks_50 : decode cX1_looks 50 = .ok (.iconst 1, 1) := dk_4 (dk_at dksX1_looks_2 3 rfl rfl)
theorem dX1_looks_51 : decode cX1_looks 51 = .ok (.iadd, 1) := dk_96 (dk_at dksX1_looks_2 4 rfl rfl)
theorem dX1_looks_52 : decode cX1_looks 52 = .ok (.invokestatic 87, 3) := dk_184 0 87 (dk_at dksX1_looks_2 5 rfl rfl)
theorem dX1_looks_55 : decode cX1_looks 55 = .ok (.invokevirtual 151, 3) := dk_182 0 151 (dk_at dksX1_looks_2 8 rfl rfl)
theorem dX1_looks_58 : decode cX1_looks 58 = .ok (.pop, 1) := dk_87 (dk_at dksX1_looks_2 11 rfl rfl)
theorem dX1_looks_59 : decode cX1_looks 59 = .ok (.iinc 2 1, 3) := dk_132 2 1 (dk_at dksX1_looks_2 12 rfl rfl)
theorem dX1_looks_62 : decode cX1_looks 62 = .ok (.goto (-52), 3) := dk_167 255 204 (dk_at dksX1_looks_2 15 rfl rfl)
theorem dX1_looks_65 : decode cX1_looks 65 = .ok (.aload_n 1, 1) := dk_43 (dk_at dksX1_looks_2 18 rfl rfl)
theorem dX1_looks_66 : decode cX1_looks 66 = .ok (.areturn, 1) := dk_176 (dk_at dksX1_looks_2 19 rfl rfl)
abbrev cX1_seen : ByteArray := prog_5_method_21_code
def yX1_seen : MethodName := ⟨RX1, "seen", "(I)LSlatCrates$Seen;"⟩
def dkwX1_seen_2 : List UInt8 := [176]
abbrev dktX1_seen_2 : List UInt8 := dkwX1_seen_2 ++ []
def dkwX1_seen_1 : List UInt8 := [167, 255, 237, 187, 0, 130, 89, 42, 27, 182, 0, 55, 180, 0, 85, 42, 27, 182, 0, 132, 28, 183, 0, 135]
abbrev dktX1_seen_1 : List UInt8 := dkwX1_seen_1 ++ dktX1_seen_2
def dkwX1_seen_0 : List UInt8 := [3, 61, 6, 62, 29, 155, 0, 21, 16, 28, 28, 104, 42, 27, 29, 182, 0, 126, 96, 61, 132, 3, 255]
abbrev dktX1_seen_0 : List UInt8 := dkwX1_seen_0 ++ dktX1_seen_1
theorem dksX1_seen_0 : cX1_seen.data.toList.drop 0 = dktX1_seen_0 := by decide +kernel
theorem dksX1_seen_1 : cX1_seen.data.toList.drop 23 = dktX1_seen_1 := dk_seg dksX1_seen_0 23 rfl rfl
theorem dksX1_seen_2 : cX1_seen.data.toList.drop 47 = dktX1_seen_2 := dk_seg dksX1_seen_1 24 rfl rfl
theorem dX1_seen_0 : decode cX1_seen 0 = .ok (.iconst 0, 1) := dk_3 (dk_at dksX1_seen_0 0 rfl rfl)
theorem dX1_seen_1 : decode cX1_seen 1 = .ok (.istore_n 2, 1) := dk_61 (dk_at dksX1_seen_0 1 rfl rfl)
theorem dX1_seen_2 : decode cX1_seen 2 = .ok (.iconst 3, 1) := dk_6 (dk_at dksX1_seen_0 2 rfl rfl)
theorem dX1_seen_3 : decode cX1_seen 3 = .ok (.istore_n 3, 1) := dk_62 (dk_at dksX1_seen_0 3 rfl rfl)
theorem dX1_seen_4 : decode cX1_seen 4 = .ok (.iload_n 3, 1) := dk_29 (dk_at dksX1_seen_0 4 rfl rfl)
theorem dX1_seen_5 : decode cX1_seen 5 = .ok (.ifCond .lt 21, 3) := dk_155 0 21 (dk_at dksX1_seen_0 5 rfl rfl)
theorem dX1_seen_8 : decode cX1_seen 8 = .ok (.bipush 28, 2) := dk_16 28 (dk_at dksX1_seen_0 8 rfl rfl)
theorem dX1_seen_10 : decode cX1_seen 10 = .ok (.iload_n 2, 1) := dk_28 (dk_at dksX1_seen_0 10 rfl rfl)
theorem dX1_seen_11 : decode cX1_seen 11 = .ok (.imul, 1) := dk_104 (dk_at dksX1_seen_0 11 rfl rfl)
theorem dX1_seen_12 : decode cX1_seen 12 = .ok (.aload_n 0, 1) := dk_42 (dk_at dksX1_seen_0 12 rfl rfl)
theorem dX1_seen_13 : decode cX1_seen 13 = .ok (.iload_n 1, 1) := dk_27 (dk_at dksX1_seen_0 13 rfl rfl)
theorem dX1_seen_14 : decode cX1_seen 14 = .ok (.iload_n 3, 1) := dk_29 (dk_at dksX1_seen_0 14 rfl rfl)
theorem dX1_seen_15 : decode cX1_seen 15 = .ok (.invokevirtual 126, 3) := dk_182 0 126 (dk_at dksX1_seen_0 15 rfl rfl)
theorem dX1_seen_18 : decode cX1_seen 18 = .ok (.iadd, 1) := dk_96 (dk_at dksX1_seen_0 18 rfl rfl)
theorem dX1_seen_19 : decode cX1_seen 19 = .ok (.istore_n 2, 1) := dk_61 (dk_at dksX1_seen_0 19 rfl rfl)
theorem dX1_seen_20 : decode cX1_seen 20 = .ok (.iinc 3 (-1), 3) := dk_132 3 255 (dk_at dksX1_seen_0 20 rfl rfl)
theorem dX1_seen_23 : decode cX1_seen 23 = .ok (.goto (-19), 3) := dk_167 255 237 (dk_at dksX1_seen_1 0 rfl rfl)
theorem dX1_seen_26 : decode cX1_seen 26 = .ok (.new 130, 3) := dk_187 0 130 (dk_at dksX1_seen_1 3 rfl rfl)
theorem dX1_seen_29 : decode cX1_seen 29 = .ok (.dup, 1) := dk_89 (dk_at dksX1_seen_1 6 rfl rfl)
theorem dX1_seen_30 : decode cX1_seen 30 = .ok (.aload_n 0, 1) := dk_42 (dk_at dksX1_seen_1 7 rfl rfl)
theorem dX1_seen_31 : decode cX1_seen 31 = .ok (.iload_n 1, 1) := dk_27 (dk_at dksX1_seen_1 8 rfl rfl)
theorem dX1_seen_32 : decode cX1_seen 32 = .ok (.invokevirtual 55, 3) := dk_182 0 55 (dk_at dksX1_seen_1 9 rfl rfl)
theorem dX1_seen_35 : decode cX1_seen 35 = .ok (.getfield 85, 3) := dk_180 0 85 (dk_at dksX1_seen_1 12 rfl rfl)
theorem dX1_seen_38 : decode cX1_seen 38 = .ok (.aload_n 0, 1) := dk_42 (dk_at dksX1_seen_1 15 rfl rfl)
theorem dX1_seen_39 : decode cX1_seen 39 = .ok (.iload_n 1, 1) := dk_27 (dk_at dksX1_seen_1 16 rfl rfl)
theorem dX1_seen_40 : decode cX1_seen 40 = .ok (.invokevirtual 132, 3) := dk_182 0 132 (dk_at dksX1_seen_1 17 rfl rfl)
theorem dX1_seen_43 : decode cX1_seen 43 = .ok (.iload_n 2, 1) := dk_28 (dk_at dksX1_seen_1 20 rfl rfl)
theorem dX1_seen_44 : decode cX1_seen 44 = .ok (.invokespecial 135, 3) := dk_183 0 135 (dk_at dksX1_seen_1 21 rfl rfl)
theorem dX1_seen_47 : decode cX1_seen 47 = .ok (.areturn, 1) := dk_176 (dk_at dksX1_seen_2 0 rfl rfl)
abbrev cX1_sign : ByteArray := prog_5_method_20_code
def yX1_sign : MethodName := ⟨RX1, "sign", "(II)I"⟩
def dkwX1_sign_1 : List UInt8 := [45, 190, 162, 0, 9, 45, 28, 46, 167, 0, 5, 16, 27, 172]
abbrev dktX1_sign_1 : List UInt8 := dkwX1_sign_1 ++ []
def dkwX1_sign_0 : List UInt8 := [42, 27, 182, 0, 55, 180, 0, 119, 78, 42, 27, 28, 182, 0, 123, 154, 0, 8, 16, 26, 167, 0, 17, 28]
abbrev dktX1_sign_0 : List UInt8 := dkwX1_sign_0 ++ dktX1_sign_1
theorem dksX1_sign_0 : cX1_sign.data.toList.drop 0 = dktX1_sign_0 := by decide +kernel
theorem dksX1_sign_1 : cX1_sign.data.toList.drop 24 = dktX1_sign_1 := dk_seg dksX1_sign_0 24 rfl rfl
theorem dX1_sign_0 : decode cX1_sign 0 = .ok (.aload_n 0, 1) := dk_42 (dk_at dksX1_sign_0 0 rfl rfl)
theorem dX1_sign_1 : decode cX1_sign 1 = .ok (.iload_n 1, 1) := dk_27 (dk_at dksX1_sign_0 1 rfl rfl)
theorem dX1_sign_2 : decode cX1_sign 2 = .ok (.invokevirtual 55, 3) := dk_182 0 55 (dk_at dksX1_sign_0 2 rfl rfl)
theorem dX1_sign_5 : decode cX1_sign 5 = .ok (.getfield 119, 3) := dk_180 0 119 (dk_at dksX1_sign_0 5 rfl rfl)
theorem dX1_sign_8 : decode cX1_sign 8 = .ok (.astore_n 3, 1) := dk_78 (dk_at dksX1_sign_0 8 rfl rfl)
theorem dX1_sign_9 : decode cX1_sign 9 = .ok (.aload_n 0, 1) := dk_42 (dk_at dksX1_sign_0 9 rfl rfl)
theorem dX1_sign_10 : decode cX1_sign 10 = .ok (.iload_n 1, 1) := dk_27 (dk_at dksX1_sign_0 10 rfl rfl)
theorem dX1_sign_11 : decode cX1_sign 11 = .ok (.iload_n 2, 1) := dk_28 (dk_at dksX1_sign_0 11 rfl rfl)
theorem dX1_sign_12 : decode cX1_sign 12 = .ok (.invokevirtual 123, 3) := dk_182 0 123 (dk_at dksX1_sign_0 12 rfl rfl)
theorem dX1_sign_15 : decode cX1_sign 15 = .ok (.ifCond .ne 8, 3) := dk_154 0 8 (dk_at dksX1_sign_0 15 rfl rfl)
theorem dX1_sign_18 : decode cX1_sign 18 = .ok (.bipush 26, 2) := dk_16 26 (dk_at dksX1_sign_0 18 rfl rfl)
theorem dX1_sign_20 : decode cX1_sign 20 = .ok (.goto 17, 3) := dk_167 0 17 (dk_at dksX1_sign_0 20 rfl rfl)
theorem dX1_sign_23 : decode cX1_sign 23 = .ok (.iload_n 2, 1) := dk_28 (dk_at dksX1_sign_0 23 rfl rfl)
theorem dX1_sign_24 : decode cX1_sign 24 = .ok (.aload_n 3, 1) := dk_45 (dk_at dksX1_sign_1 0 rfl rfl)
theorem dX1_sign_25 : decode cX1_sign 25 = .ok (.arraylength, 1) := dk_190 (dk_at dksX1_sign_1 1 rfl rfl)
theorem dX1_sign_26 : decode cX1_sign 26 = .ok (.if_icmp .ge 9, 3) := dk_162 0 9 (dk_at dksX1_sign_1 2 rfl rfl)
theorem dX1_sign_29 : decode cX1_sign 29 = .ok (.aload_n 3, 1) := dk_45 (dk_at dksX1_sign_1 5 rfl rfl)
theorem dX1_sign_30 : decode cX1_sign 30 = .ok (.iload_n 2, 1) := dk_28 (dk_at dksX1_sign_1 6 rfl rfl)
theorem dX1_sign_31 : decode cX1_sign 31 = .ok (.iaload, 1) := dk_46 (dk_at dksX1_sign_1 7 rfl rfl)
theorem dX1_sign_32 : decode cX1_sign 32 = .ok (.goto 5, 3) := dk_167 0 5 (dk_at dksX1_sign_1 8 rfl rfl)
theorem dX1_sign_35 : decode cX1_sign 35 = .ok (.bipush 27, 2) := dk_16 27 (dk_at dksX1_sign_1 11 rfl rfl)
theorem dX1_sign_37 : decode cX1_sign 37 = .ok (.ireturn, 1) := dk_172 (dk_at dksX1_sign_1 13 rfl rfl)
abbrev cX1_isOpen : ByteArray := prog_5_method_19_code
def yX1_isOpen : MethodName := ⟨RX1, "isOpen", "(II)Z"⟩
def dkwX1_isOpen_2 : List UInt8 := [180, 0, 59, 54, 4, 167, 255, 216, 29, 172]
abbrev dktX1_isOpen_2 : List UInt8 := dkwX1_isOpen_2 ++ []
def dkwX1_isOpen_1 : List UInt8 := [21, 4, 182, 0, 55, 28, 182, 0, 116, 153, 0, 7, 4, 167, 0, 4, 3, 62, 42, 21, 4, 182, 0, 55]
abbrev dktX1_isOpen_1 : List UInt8 := dkwX1_isOpen_1 ++ dktX1_isOpen_2
def dkwX1_isOpen_0 : List UInt8 := [4, 62, 42, 27, 182, 0, 55, 180, 0, 59, 54, 4, 21, 4, 2, 159, 0, 40, 29, 153, 0, 20, 42]
abbrev dktX1_isOpen_0 : List UInt8 := dkwX1_isOpen_0 ++ dktX1_isOpen_1
theorem dksX1_isOpen_0 : cX1_isOpen.data.toList.drop 0 = dktX1_isOpen_0 := by decide +kernel
theorem dksX1_isOpen_1 : cX1_isOpen.data.toList.drop 23 = dktX1_isOpen_1 := dk_seg dksX1_isOpen_0 23 rfl rfl
theorem dksX1_isOpen_2 : cX1_isOpen.data.toList.drop 47 = dktX1_isOpen_2 := dk_seg dksX1_isOpen_1 24 rfl rfl
theorem dX1_isOpen_0 : decode cX1_isOpen 0 = .ok (.iconst 1, 1) := dk_4 (dk_at dksX1_isOpen_0 0 rfl rfl)
theorem dX1_isOpen_1 : decode cX1_isOpen 1 = .ok (.istore_n 3, 1) := dk_62 (dk_at dksX1_isOpen_0 1 rfl rfl)
theorem dX1_isOpen_2 : decode cX1_isOpen 2 = .ok (.aload_n 0, 1) := dk_42 (dk_at dksX1_isOpen_0 2 rfl rfl)
theorem dX1_isOpen_3 : decode cX1_isOpen 3 = .ok (.iload_n 1, 1) := dk_27 (dk_at dksX1_isOpen_0 3 rfl rfl)
theorem dX1_isOpen_4 : decode cX1_isOpen 4 = .ok (.invokevirtual 55, 3) := dk_182 0 55 (dk_at dksX1_isOpen_0 4 rfl rfl)
theorem dX1_isOpen_7 : decode cX1_isOpen 7 = .ok (.getfield 59, 3) := dk_180 0 59 (dk_at dksX1_isOpen_0 7 rfl rfl)
theorem dX1_isOpen_10 : decode cX1_isOpen 10 = .ok (.istore 4, 2) := dk_54 4 (dk_at dksX1_isOpen_0 10 rfl rfl)
theorem dX1_isOpen_12 : decode cX1_isOpen 12 = .ok (.iload 4, 2) := dk_21 4 (dk_at dksX1_isOpen_0 12 rfl rfl)
theorem dX1_isOpen_14 : decode cX1_isOpen 14 = .ok (.iconst (-1), 1) := dk_2 (dk_at dksX1_isOpen_0 14 rfl rfl)
theorem dX1_isOpen_15 : decode cX1_isOpen 15 = .ok (.if_icmp .eq 40, 3) := dk_159 0 40 (dk_at dksX1_isOpen_0 15 rfl rfl)
theorem dX1_isOpen_18 : decode cX1_isOpen 18 = .ok (.iload_n 3, 1) := dk_29 (dk_at dksX1_isOpen_0 18 rfl rfl)
theorem dX1_isOpen_19 : decode cX1_isOpen 19 = .ok (.ifCond .eq 20, 3) := dk_153 0 20 (dk_at dksX1_isOpen_0 19 rfl rfl)
theorem dX1_isOpen_22 : decode cX1_isOpen 22 = .ok (.aload_n 0, 1) := dk_42 (dk_at dksX1_isOpen_0 22 rfl rfl)
theorem dX1_isOpen_23 : decode cX1_isOpen 23 = .ok (.iload 4, 2) := dk_21 4 (dk_at dksX1_isOpen_1 0 rfl rfl)
theorem dX1_isOpen_25 : decode cX1_isOpen 25 = .ok (.invokevirtual 55, 3) := dk_182 0 55 (dk_at dksX1_isOpen_1 2 rfl rfl)
theorem dX1_isOpen_28 : decode cX1_isOpen 28 = .ok (.iload_n 2, 1) := dk_28 (dk_at dksX1_isOpen_1 5 rfl rfl)
theorem dX1_isOpen_29 : decode cX1_isOpen 29 = .ok (.invokevirtual 116, 3) := dk_182 0 116 (dk_at dksX1_isOpen_1 6 rfl rfl)
theorem dX1_isOpen_32 : decode cX1_isOpen 32 = .ok (.ifCond .eq 7, 3) := dk_153 0 7 (dk_at dksX1_isOpen_1 9 rfl rfl)
theorem dX1_isOpen_35 : decode cX1_isOpen 35 = .ok (.iconst 1, 1) := dk_4 (dk_at dksX1_isOpen_1 12 rfl rfl)
theorem dX1_isOpen_36 : decode cX1_isOpen 36 = .ok (.goto 4, 3) := dk_167 0 4 (dk_at dksX1_isOpen_1 13 rfl rfl)
theorem dX1_isOpen_39 : decode cX1_isOpen 39 = .ok (.iconst 0, 1) := dk_3 (dk_at dksX1_isOpen_1 16 rfl rfl)
theorem dX1_isOpen_40 : decode cX1_isOpen 40 = .ok (.istore_n 3, 1) := dk_62 (dk_at dksX1_isOpen_1 17 rfl rfl)
theorem dX1_isOpen_41 : decode cX1_isOpen 41 = .ok (.aload_n 0, 1) := dk_42 (dk_at dksX1_isOpen_1 18 rfl rfl)
theorem dX1_isOpen_42 : decode cX1_isOpen 42 = .ok (.iload 4, 2) := dk_21 4 (dk_at dksX1_isOpen_1 19 rfl rfl)
theorem dX1_isOpen_44 : decode cX1_isOpen 44 = .ok (.invokevirtual 55, 3) := dk_182 0 55 (dk_at dksX1_isOpen_1 21 rfl rfl)
theorem dX1_isOpen_47 : decode cX1_isOpen 47 = .ok (.getfield 59, 3) := dk_180 0 59 (dk_at dksX1_isOpen_2 0 rfl rfl)
theorem dX1_isOpen_50 : decode cX1_isOpen 50 = .ok (.istore 4, 2) := dk_54 4 (dk_at dksX1_isOpen_2 3 rfl rfl)
theorem dX1_isOpen_52 : decode cX1_isOpen 52 = .ok (.goto (-40), 3) := dk_167 255 216 (dk_at dksX1_isOpen_2 5 rfl rfl)
theorem dX1_isOpen_55 : decode cX1_isOpen 55 = .ok (.iload_n 3, 1) := dk_29 (dk_at dksX1_isOpen_2 8 rfl rfl)
theorem dX1_isOpen_56 : decode cX1_isOpen 56 = .ok (.ireturn, 1) := dk_172 (dk_at dksX1_isOpen_2 9 rfl rfl)
abbrev cX1_lettersSeen : ByteArray := prog_5_method_22_code
def yX1_lettersSeen : MethodName := ⟨RX1, "lettersSeen", "(I)I"⟩
def dkwX1_lettersSeen_1 : List UInt8 := [153, 0, 7, 4, 167, 0, 4, 3, 96, 61, 132, 3, 1, 167, 255, 223, 28, 172]
abbrev dktX1_lettersSeen_1 : List UInt8 := dkwX1_lettersSeen_1 ++ []
def dkwX1_lettersSeen_0 : List UInt8 := [3, 61, 3, 62, 29, 42, 27, 182, 0, 55, 180, 0, 119, 190, 162, 0, 26, 28, 42, 27, 29, 182, 0, 123]
abbrev dktX1_lettersSeen_0 : List UInt8 := dkwX1_lettersSeen_0 ++ dktX1_lettersSeen_1
theorem dksX1_lettersSeen_0 : cX1_lettersSeen.data.toList.drop 0 = dktX1_lettersSeen_0 := by decide +kernel
theorem dksX1_lettersSeen_1 : cX1_lettersSeen.data.toList.drop 24 = dktX1_lettersSeen_1 := dk_seg dksX1_lettersSeen_0 24 rfl rfl
theorem dX1_lettersSeen_0 : decode cX1_lettersSeen 0 = .ok (.iconst 0, 1) := dk_3 (dk_at dksX1_lettersSeen_0 0 rfl rfl)
theorem dX1_lettersSeen_1 : decode cX1_lettersSeen 1 = .ok (.istore_n 2, 1) := dk_61 (dk_at dksX1_lettersSeen_0 1 rfl rfl)
theorem dX1_lettersSeen_2 : decode cX1_lettersSeen 2 = .ok (.iconst 0, 1) := dk_3 (dk_at dksX1_lettersSeen_0 2 rfl rfl)
theorem dX1_lettersSeen_3 : decode cX1_lettersSeen 3 = .ok (.istore_n 3, 1) := dk_62 (dk_at dksX1_lettersSeen_0 3 rfl rfl)
theorem dX1_lettersSeen_4 : decode cX1_lettersSeen 4 = .ok (.iload_n 3, 1) := dk_29 (dk_at dksX1_lettersSeen_0 4 rfl rfl)
theorem dX1_lettersSeen_5 : decode cX1_lettersSeen 5 = .ok (.aload_n 0, 1) := dk_42 (dk_at dksX1_lettersSeen_0 5 rfl rfl)
theorem dX1_lettersSeen_6 : decode cX1_lettersSeen 6 = .ok (.iload_n 1, 1) := dk_27 (dk_at dksX1_lettersSeen_0 6 rfl rfl)
theorem dX1_lettersSeen_7 : decode cX1_lettersSeen 7 = .ok (.invokevirtual 55, 3) := dk_182 0 55 (dk_at dksX1_lettersSeen_0 7 rfl rfl)
theorem dX1_lettersSeen_10 : decode cX1_lettersSeen 10 = .ok (.getfield 119, 3) := dk_180 0 119 (dk_at dksX1_lettersSeen_0 10 rfl rfl)
theorem dX1_lettersSeen_13 : decode cX1_lettersSeen 13 = .ok (.arraylength, 1) := dk_190 (dk_at dksX1_lettersSeen_0 13 rfl rfl)
theorem dX1_lettersSeen_14 : decode cX1_lettersSeen 14 = .ok (.if_icmp .ge 26, 3) := dk_162 0 26 (dk_at dksX1_lettersSeen_0 14 rfl rfl)
theorem dX1_lettersSeen_17 : decode cX1_lettersSeen 17 = .ok (.iload_n 2, 1) := dk_28 (dk_at dksX1_lettersSeen_0 17 rfl rfl)
theorem dX1_lettersSeen_18 : decode cX1_lettersSeen 18 = .ok (.aload_n 0, 1) := dk_42 (dk_at dksX1_lettersSeen_0 18 rfl rfl)
theorem dX1_lettersSeen_19 : decode cX1_lettersSeen 19 = .ok (.iload_n 1, 1) := dk_27 (dk_at dksX1_lettersSeen_0 19 rfl rfl)
theorem dX1_lettersSeen_20 : decode cX1_lettersSeen 20 = .ok (.iload_n 3, 1) := dk_29 (dk_at dksX1_lettersSeen_0 20 rfl rfl)
theorem dX1_lettersSeen_21 : decode cX1_lettersSeen 21 = .ok (.invokevirtual 123, 3) := dk_182 0 123 (dk_at dksX1_lettersSeen_0 21 rfl rfl)
theorem dX1_lettersSeen_24 : decode cX1_lettersSeen 24 = .ok (.ifCond .eq 7, 3) := dk_153 0 7 (dk_at dksX1_lettersSeen_1 0 rfl rfl)
theorem dX1_lettersSeen_27 : decode cX1_lettersSeen 27 = .ok (.iconst 1, 1) := dk_4 (dk_at dksX1_lettersSeen_1 3 rfl rfl)
theorem dX1_lettersSeen_28 : decode cX1_lettersSeen 28 = .ok (.goto 4, 3) := dk_167 0 4 (dk_at dksX1_lettersSeen_1 4 rfl rfl)
theorem dX1_lettersSeen_31 : decode cX1_lettersSeen 31 = .ok (.iconst 0, 1) := dk_3 (dk_at dksX1_lettersSeen_1 7 rfl rfl)
theorem dX1_lettersSeen_32 : decode cX1_lettersSeen 32 = .ok (.iadd, 1) := dk_96 (dk_at dksX1_lettersSeen_1 8 rfl rfl)
theorem dX1_lettersSeen_33 : decode cX1_lettersSeen 33 = .ok (.istore_n 2, 1) := dk_61 (dk_at dksX1_lettersSeen_1 9 rfl rfl)
theorem dX1_lettersSeen_34 : decode cX1_lettersSeen 34 = .ok (.iinc 3 1, 3) := dk_132 3 1 (dk_at dksX1_lettersSeen_1 10 rfl rfl)
theorem dX1_lettersSeen_37 : decode cX1_lettersSeen 37 = .ok (.goto (-33), 3) := dk_167 255 223 (dk_at dksX1_lettersSeen_1 13 rfl rfl)
theorem dX1_lettersSeen_40 : decode cX1_lettersSeen 40 = .ok (.iload_n 2, 1) := dk_28 (dk_at dksX1_lettersSeen_1 16 rfl rfl)
theorem dX1_lettersSeen_41 : decode cX1_lettersSeen 41 = .ok (.ireturn, 1) := dk_172 (dk_at dksX1_lettersSeen_1 17 rfl rfl)
abbrev cX1_bestFor : ByteArray := prog_5_method_36_code
def yX1_bestFor : MethodName := ⟨RX1, "bestFor", "(I)I"⟩
def dkwX1_bestFor_4 : List UInt8 := [132, 3, 1, 167, 255, 168, 28, 172]
abbrev dktX1_bestFor_4 : List UInt8 := dkwX1_bestFor_4 ++ []
def dkwX1_bestFor_3 : List UInt8 := [155, 0, 16, 42, 29, 182, 0, 102, 42, 28, 182, 0, 102, 162, 0, 7, 29, 167, 0, 4, 28, 61]
abbrev dktX1_bestFor_3 : List UInt8 := dkwX1_bestFor_3 ++ dktX1_bestFor_4
def dkwX1_bestFor_2 : List UInt8 := [182, 0, 55, 180, 0, 85, 161, 0, 7, 4, 167, 0, 4, 3, 54, 4, 21, 4, 153, 0, 24, 28]
abbrev dktX1_bestFor_2 : List UInt8 := dkwX1_bestFor_2 ++ dktX1_bestFor_3
def dkwX1_bestFor_1 : List UInt8 := [154, 0, 35, 42, 27, 182, 0, 55, 180, 0, 59, 29, 159, 0, 23, 42, 29, 182, 0, 102, 42, 27]
abbrev dktX1_bestFor_1 : List UInt8 := dkwX1_bestFor_1 ++ dktX1_bestFor_2
def dkwX1_bestFor_0 : List UInt8 := [16, 252, 61, 3, 62, 29, 42, 182, 0, 72, 162, 0, 86, 29, 27, 159, 0, 44, 42, 27, 29, 182, 0, 73]
abbrev dktX1_bestFor_0 : List UInt8 := dkwX1_bestFor_0 ++ dktX1_bestFor_1
theorem dksX1_bestFor_0 : cX1_bestFor.data.toList.drop 0 = dktX1_bestFor_0 := by decide +kernel
theorem dksX1_bestFor_1 : cX1_bestFor.data.toList.drop 24 = dktX1_bestFor_1 := dk_seg dksX1_bestFor_0 24 rfl rfl
theorem dksX1_bestFor_2 : cX1_bestFor.data.toList.drop 46 = dktX1_bestFor_2 := dk_seg dksX1_bestFor_1 22 rfl rfl
theorem dksX1_bestFor_3 : cX1_bestFor.data.toList.drop 68 = dktX1_bestFor_3 := dk_seg dksX1_bestFor_2 22 rfl rfl
theorem dksX1_bestFor_4 : cX1_bestFor.data.toList.drop 90 = dktX1_bestFor_4 := dk_seg dksX1_bestFor_3 22 rfl rfl
theorem dX1_bestFor_0 : decode cX1_bestFor 0 = .ok (.bipush (-4), 2) := dk_16 252 (dk_at dksX1_bestFor_0 0 rfl rfl)
theorem dX1_bestFor_2 : decode cX1_bestFor 2 = .ok (.istore_n 2, 1) := dk_61 (dk_at dksX1_bestFor_0 2 rfl rfl)
theorem dX1_bestFor_3 : decode cX1_bestFor 3 = .ok (.iconst 0, 1) := dk_3 (dk_at dksX1_bestFor_0 3 rfl rfl)
theorem dX1_bestFor_4 : decode cX1_bestFor 4 = .ok (.istore_n 3, 1) := dk_62 (dk_at dksX1_bestFor_0 4 rfl rfl)
theorem dX1_bestFor_5 : decode cX1_bestFor 5 = .ok (.iload_n 3, 1) := dk_29 (dk_at dksX1_bestFor_0 5 rfl rfl)
theorem dX1_bestFor_6 : decode cX1_bestFor 6 = .ok (.aload_n 0, 1) := dk_42 (dk_at dksX1_bestFor_0 6 rfl rfl)
theorem dX1_bestFor_7 : decode cX1_bestFor 7 = .ok (.invokevirtual 72, 3) := dk_182 0 72 (dk_at dksX1_bestFor_0 7 rfl rfl)
theorem dX1_bestFor_10 : decode cX1_bestFor 10 = .ok (.if_icmp .ge 86, 3) := dk_162 0 86 (dk_at dksX1_bestFor_0 10 rfl rfl)
theorem dX1_bestFor_13 : decode cX1_bestFor 13 = .ok (.iload_n 3, 1) := dk_29 (dk_at dksX1_bestFor_0 13 rfl rfl)
theorem dX1_bestFor_14 : decode cX1_bestFor 14 = .ok (.iload_n 1, 1) := dk_27 (dk_at dksX1_bestFor_0 14 rfl rfl)
theorem dX1_bestFor_15 : decode cX1_bestFor 15 = .ok (.if_icmp .eq 44, 3) := dk_159 0 44 (dk_at dksX1_bestFor_0 15 rfl rfl)
theorem dX1_bestFor_18 : decode cX1_bestFor 18 = .ok (.aload_n 0, 1) := dk_42 (dk_at dksX1_bestFor_0 18 rfl rfl)
theorem dX1_bestFor_19 : decode cX1_bestFor 19 = .ok (.iload_n 1, 1) := dk_27 (dk_at dksX1_bestFor_0 19 rfl rfl)
theorem dX1_bestFor_20 : decode cX1_bestFor 20 = .ok (.iload_n 3, 1) := dk_29 (dk_at dksX1_bestFor_0 20 rfl rfl)
theorem dX1_bestFor_21 : decode cX1_bestFor 21 = .ok (.invokevirtual 73, 3) := dk_182 0 73 (dk_at dksX1_bestFor_0 21 rfl rfl)
theorem dX1_bestFor_24 : decode cX1_bestFor 24 = .ok (.ifCond .ne 35, 3) := dk_154 0 35 (dk_at dksX1_bestFor_1 0 rfl rfl)
theorem dX1_bestFor_27 : decode cX1_bestFor 27 = .ok (.aload_n 0, 1) := dk_42 (dk_at dksX1_bestFor_1 3 rfl rfl)
theorem dX1_bestFor_28 : decode cX1_bestFor 28 = .ok (.iload_n 1, 1) := dk_27 (dk_at dksX1_bestFor_1 4 rfl rfl)
theorem dX1_bestFor_29 : decode cX1_bestFor 29 = .ok (.invokevirtual 55, 3) := dk_182 0 55 (dk_at dksX1_bestFor_1 5 rfl rfl)
theorem dX1_bestFor_32 : decode cX1_bestFor 32 = .ok (.getfield 59, 3) := dk_180 0 59 (dk_at dksX1_bestFor_1 8 rfl rfl)
theorem dX1_bestFor_35 : decode cX1_bestFor 35 = .ok (.iload_n 3, 1) := dk_29 (dk_at dksX1_bestFor_1 11 rfl rfl)
theorem dX1_bestFor_36 : decode cX1_bestFor 36 = .ok (.if_icmp .eq 23, 3) := dk_159 0 23 (dk_at dksX1_bestFor_1 12 rfl rfl)
theorem dX1_bestFor_39 : decode cX1_bestFor 39 = .ok (.aload_n 0, 1) := dk_42 (dk_at dksX1_bestFor_1 15 rfl rfl)
theorem dX1_bestFor_40 : decode cX1_bestFor 40 = .ok (.iload_n 3, 1) := dk_29 (dk_at dksX1_bestFor_1 16 rfl rfl)
theorem dX1_bestFor_41 : decode cX1_bestFor 41 = .ok (.invokevirtual 102, 3) := dk_182 0 102 (dk_at dksX1_bestFor_1 17 rfl rfl)
theorem dX1_bestFor_44 : decode cX1_bestFor 44 = .ok (.aload_n 0, 1) := dk_42 (dk_at dksX1_bestFor_1 20 rfl rfl)
theorem dX1_bestFor_45 : decode cX1_bestFor 45 = .ok (.iload_n 1, 1) := dk_27 (dk_at dksX1_bestFor_1 21 rfl rfl)
theorem dX1_bestFor_46 : decode cX1_bestFor 46 = .ok (.invokevirtual 55, 3) := dk_182 0 55 (dk_at dksX1_bestFor_2 0 rfl rfl)
theorem dX1_bestFor_49 : decode cX1_bestFor 49 = .ok (.getfield 85, 3) := dk_180 0 85 (dk_at dksX1_bestFor_2 3 rfl rfl)
theorem dX1_bestFor_52 : decode cX1_bestFor 52 = .ok (.if_icmp .lt 7, 3) := dk_161 0 7 (dk_at dksX1_bestFor_2 6 rfl rfl)
theorem dX1_bestFor_55 : decode cX1_bestFor 55 = .ok (.iconst 1, 1) := dk_4 (dk_at dksX1_bestFor_2 9 rfl rfl)
theorem dX1_bestFor_56 : decode cX1_bestFor 56 = .ok (.goto 4, 3) := dk_167 0 4 (dk_at dksX1_bestFor_2 10 rfl rfl)
theorem dX1_bestFor_59 : decode cX1_bestFor 59 = .ok (.iconst 0, 1) := dk_3 (dk_at dksX1_bestFor_2 13 rfl rfl)
theorem dX1_bestFor_60 : decode cX1_bestFor 60 = .ok (.istore 4, 2) := dk_54 4 (dk_at dksX1_bestFor_2 14 rfl rfl)
theorem dX1_bestFor_62 : decode cX1_bestFor 62 = .ok (.iload 4, 2) := dk_21 4 (dk_at dksX1_bestFor_2 16 rfl rfl)
theorem dX1_bestFor_64 : decode cX1_bestFor 64 = .ok (.ifCond .eq 24, 3) := dk_153 0 24 (dk_at dksX1_bestFor_2 18 rfl rfl)
theorem dX1_bestFor_67 : decode cX1_bestFor 67 = .ok (.iload_n 2, 1) := dk_28 (dk_at dksX1_bestFor_2 21 rfl rfl)
theorem dX1_bestFor_68 : decode cX1_bestFor 68 = .ok (.ifCond .lt 16, 3) := dk_155 0 16 (dk_at dksX1_bestFor_3 0 rfl rfl)
theorem dX1_bestFor_71 : decode cX1_bestFor 71 = .ok (.aload_n 0, 1) := dk_42 (dk_at dksX1_bestFor_3 3 rfl rfl)
theorem dX1_bestFor_72 : decode cX1_bestFor 72 = .ok (.iload_n 3, 1) := dk_29 (dk_at dksX1_bestFor_3 4 rfl rfl)
theorem dX1_bestFor_73 : decode cX1_bestFor 73 = .ok (.invokevirtual 102, 3) := dk_182 0 102 (dk_at dksX1_bestFor_3 5 rfl rfl)
theorem dX1_bestFor_76 : decode cX1_bestFor 76 = .ok (.aload_n 0, 1) := dk_42 (dk_at dksX1_bestFor_3 8 rfl rfl)
theorem dX1_bestFor_77 : decode cX1_bestFor 77 = .ok (.iload_n 2, 1) := dk_28 (dk_at dksX1_bestFor_3 9 rfl rfl)
theorem dX1_bestFor_78 : decode cX1_bestFor 78 = .ok (.invokevirtual 102, 3) := dk_182 0 102 (dk_at dksX1_bestFor_3 10 rfl rfl)
theorem dX1_bestFor_81 : decode cX1_bestFor 81 = .ok (.if_icmp .ge 7, 3) := dk_162 0 7 (dk_at dksX1_bestFor_3 13 rfl rfl)
theorem dX1_bestFor_84 : decode cX1_bestFor 84 = .ok (.iload_n 3, 1) := dk_29 (dk_at dksX1_bestFor_3 16 rfl rfl)
theorem dX1_bestFor_85 : decode cX1_bestFor 85 = .ok (.goto 4, 3) := dk_167 0 4 (dk_at dksX1_bestFor_3 17 rfl rfl)
theorem dX1_bestFor_88 : decode cX1_bestFor 88 = .ok (.iload_n 2, 1) := dk_28 (dk_at dksX1_bestFor_3 20 rfl rfl)
theorem dX1_bestFor_89 : decode cX1_bestFor 89 = .ok (.istore_n 2, 1) := dk_61 (dk_at dksX1_bestFor_3 21 rfl rfl)
theorem dX1_bestFor_90 : decode cX1_bestFor 90 = .ok (.iinc 3 1, 3) := dk_132 3 1 (dk_at dksX1_bestFor_4 0 rfl rfl)
theorem dX1_bestFor_93 : decode cX1_bestFor 93 = .ok (.goto (-88), 3) := dk_167 255 168 (dk_at dksX1_bestFor_4 3 rfl rfl)
theorem dX1_bestFor_96 : decode cX1_bestFor 96 = .ok (.iload_n 2, 1) := dk_28 (dk_at dksX1_bestFor_4 6 rfl rfl)
theorem dX1_bestFor_97 : decode cX1_bestFor 97 = .ok (.ireturn, 1) := dk_172 (dk_at dksX1_bestFor_4 7 rfl rfl)
abbrev cX1_effortsUp : ByteArray := prog_5_method_30_code
def yX1_effortsUp : MethodName := ⟨RX1, "effortsUp", "(I)I"⟩
def dkwX1_effortsUp_1 : List UInt8 := [160, 0, 11, 42, 29, 182, 0, 175, 167, 0, 4, 3, 96, 61, 132, 3, 1, 167, 255, 221, 28, 172]
abbrev dktX1_effortsUp_1 : List UInt8 := dkwX1_effortsUp_1 ++ []
def dkwX1_effortsUp_0 : List UInt8 := [3, 61, 3, 62, 29, 42, 182, 0, 72, 162, 0, 33, 28, 42, 29, 182, 0, 55, 180, 0, 85, 27]
abbrev dktX1_effortsUp_0 : List UInt8 := dkwX1_effortsUp_0 ++ dktX1_effortsUp_1
theorem dksX1_effortsUp_0 : cX1_effortsUp.data.toList.drop 0 = dktX1_effortsUp_0 := by decide +kernel
theorem dksX1_effortsUp_1 : cX1_effortsUp.data.toList.drop 22 = dktX1_effortsUp_1 := dk_seg dksX1_effortsUp_0 22 rfl rfl
theorem dX1_effortsUp_0 : decode cX1_effortsUp 0 = .ok (.iconst 0, 1) := dk_3 (dk_at dksX1_effortsUp_0 0 rfl rfl)
theorem dX1_effortsUp_1 : decode cX1_effortsUp 1 = .ok (.istore_n 2, 1) := dk_61 (dk_at dksX1_effortsUp_0 1 rfl rfl)
theorem dX1_effortsUp_2 : decode cX1_effortsUp 2 = .ok (.iconst 0, 1) := dk_3 (dk_at dksX1_effortsUp_0 2 rfl rfl)
theorem dX1_effortsUp_3 : decode cX1_effortsUp 3 = .ok (.istore_n 3, 1) := dk_62 (dk_at dksX1_effortsUp_0 3 rfl rfl)
theorem dX1_effortsUp_4 : decode cX1_effortsUp 4 = .ok (.iload_n 3, 1) := dk_29 (dk_at dksX1_effortsUp_0 4 rfl rfl)
theorem dX1_effortsUp_5 : decode cX1_effortsUp 5 = .ok (.aload_n 0, 1) := dk_42 (dk_at dksX1_effortsUp_0 5 rfl rfl)
theorem dX1_effortsUp_6 : decode cX1_effortsUp 6 = .ok (.invokevirtual 72, 3) := dk_182 0 72 (dk_at dksX1_effortsUp_0 6 rfl rfl)
theorem dX1_effortsUp_9 : decode cX1_effortsUp 9 = .ok (.if_icmp .ge 33, 3) := dk_162 0 33 (dk_at dksX1_effortsUp_0 9 rfl rfl)
theorem dX1_effortsUp_12 : decode cX1_effortsUp 12 = .ok (.iload_n 2, 1) := dk_28 (dk_at dksX1_effortsUp_0 12 rfl rfl)
theorem dX1_effortsUp_13 : decode cX1_effortsUp 13 = .ok (.aload_n 0, 1) := dk_42 (dk_at dksX1_effortsUp_0 13 rfl rfl)
theorem dX1_effortsUp_14 : decode cX1_effortsUp 14 = .ok (.iload_n 3, 1) := dk_29 (dk_at dksX1_effortsUp_0 14 rfl rfl)
theorem dX1_effortsUp_15 : decode cX1_effortsUp 15 = .ok (.invokevirtual 55, 3) := dk_182 0 55 (dk_at dksX1_effortsUp_0 15 rfl rfl)
theorem dX1_effortsUp_18 : decode cX1_effortsUp 18 = .ok (.getfield 85, 3) := dk_180 0 85 (dk_at dksX1_effortsUp_0 18 rfl rfl)
theorem dX1_effortsUp_21 : decode cX1_effortsUp 21 = .ok (.iload_n 1, 1) := dk_27 (dk_at dksX1_effortsUp_0 21 rfl rfl)
theorem dX1_effortsUp_22 : decode cX1_effortsUp 22 = .ok (.if_icmp .ne 11, 3) := dk_160 0 11 (dk_at dksX1_effortsUp_1 0 rfl rfl)
theorem dX1_effortsUp_25 : decode cX1_effortsUp 25 = .ok (.aload_n 0, 1) := dk_42 (dk_at dksX1_effortsUp_1 3 rfl rfl)
theorem dX1_effortsUp_26 : decode cX1_effortsUp 26 = .ok (.iload_n 3, 1) := dk_29 (dk_at dksX1_effortsUp_1 4 rfl rfl)
theorem dX1_effortsUp_27 : decode cX1_effortsUp 27 = .ok (.invokevirtual 175, 3) := dk_182 0 175 (dk_at dksX1_effortsUp_1 5 rfl rfl)
theorem dX1_effortsUp_30 : decode cX1_effortsUp 30 = .ok (.goto 4, 3) := dk_167 0 4 (dk_at dksX1_effortsUp_1 8 rfl rfl)
theorem dX1_effortsUp_33 : decode cX1_effortsUp 33 = .ok (.iconst 0, 1) := dk_3 (dk_at dksX1_effortsUp_1 11 rfl rfl)
theorem dX1_effortsUp_34 : decode cX1_effortsUp 34 = .ok (.iadd, 1) := dk_96 (dk_at dksX1_effortsUp_1 12 rfl rfl)
theorem dX1_effortsUp_35 : decode cX1_effortsUp 35 = .ok (.istore_n 2, 1) := dk_61 (dk_at dksX1_effortsUp_1 13 rfl rfl)
theorem dX1_effortsUp_36 : decode cX1_effortsUp 36 = .ok (.iinc 3 1, 3) := dk_132 3 1 (dk_at dksX1_effortsUp_1 14 rfl rfl)
theorem dX1_effortsUp_39 : decode cX1_effortsUp 39 = .ok (.goto (-35), 3) := dk_167 255 221 (dk_at dksX1_effortsUp_1 17 rfl rfl)
theorem dX1_effortsUp_42 : decode cX1_effortsUp 42 = .ok (.iload_n 2, 1) := dk_28 (dk_at dksX1_effortsUp_1 20 rfl rfl)
theorem dX1_effortsUp_43 : decode cX1_effortsUp 43 = .ok (.ireturn, 1) := dk_172 (dk_at dksX1_effortsUp_1 21 rfl rfl)
abbrev cX1_effortsDown : ByteArray := prog_5_method_31_code
def yX1_effortsDown : MethodName := ⟨RX1, "effortsDown", "(I)I"⟩
def dkwX1_effortsDown_1 : List UInt8 := [3, 182, 0, 178, 167, 0, 4, 3, 96, 61, 132, 3, 1, 167, 255, 223, 28, 172]
abbrev dktX1_effortsDown_1 : List UInt8 := dkwX1_effortsDown_1 ++ []
def dkwX1_effortsDown_0 : List UInt8 := [3, 61, 3, 62, 29, 42, 182, 0, 72, 162, 0, 31, 28, 42, 29, 182, 0, 62, 153, 0, 13, 42, 29, 27]
abbrev dktX1_effortsDown_0 : List UInt8 := dkwX1_effortsDown_0 ++ dktX1_effortsDown_1
theorem dksX1_effortsDown_0 : cX1_effortsDown.data.toList.drop 0 = dktX1_effortsDown_0 := by decide +kernel
theorem dksX1_effortsDown_1 : cX1_effortsDown.data.toList.drop 24 = dktX1_effortsDown_1 := dk_seg dksX1_effortsDown_0 24 rfl rfl
theorem dX1_effortsDown_0 : decode cX1_effortsDown 0 = .ok (.iconst 0, 1) := dk_3 (dk_at dksX1_effortsDown_0 0 rfl rfl)
theorem dX1_effortsDown_1 : decode cX1_effortsDown 1 = .ok (.istore_n 2, 1) := dk_61 (dk_at dksX1_effortsDown_0 1 rfl rfl)
theorem dX1_effortsDown_2 : decode cX1_effortsDown 2 = .ok (.iconst 0, 1) := dk_3 (dk_at dksX1_effortsDown_0 2 rfl rfl)
theorem dX1_effortsDown_3 : decode cX1_effortsDown 3 = .ok (.istore_n 3, 1) := dk_62 (dk_at dksX1_effortsDown_0 3 rfl rfl)
theorem dX1_effortsDown_4 : decode cX1_effortsDown 4 = .ok (.iload_n 3, 1) := dk_29 (dk_at dksX1_effortsDown_0 4 rfl rfl)
theorem dX1_effortsDown_5 : decode cX1_effortsDown 5 = .ok (.aload_n 0, 1) := dk_42 (dk_at dksX1_effortsDown_0 5 rfl rfl)
theorem dX1_effortsDown_6 : decode cX1_effortsDown 6 = .ok (.invokevirtual 72, 3) := dk_182 0 72 (dk_at dksX1_effortsDown_0 6 rfl rfl)
theorem dX1_effortsDown_9 : decode cX1_effortsDown 9 = .ok (.if_icmp .ge 31, 3) := dk_162 0 31 (dk_at dksX1_effortsDown_0 9 rfl rfl)
theorem dX1_effortsDown_12 : decode cX1_effortsDown 12 = .ok (.iload_n 2, 1) := dk_28 (dk_at dksX1_effortsDown_0 12 rfl rfl)
theorem dX1_effortsDown_13 : decode cX1_effortsDown 13 = .ok (.aload_n 0, 1) := dk_42 (dk_at dksX1_effortsDown_0 13 rfl rfl)
theorem dX1_effortsDown_14 : decode cX1_effortsDown 14 = .ok (.iload_n 3, 1) := dk_29 (dk_at dksX1_effortsDown_0 14 rfl rfl)
theorem dX1_effortsDown_15 : decode cX1_effortsDown 15 = .ok (.invokevirtual 62, 3) := dk_182 0 62 (dk_at dksX1_effortsDown_0 15 rfl rfl)
theorem dX1_effortsDown_18 : decode cX1_effortsDown 18 = .ok (.ifCond .eq 13, 3) := dk_153 0 13 (dk_at dksX1_effortsDown_0 18 rfl rfl)
theorem dX1_effortsDown_21 : decode cX1_effortsDown 21 = .ok (.aload_n 0, 1) := dk_42 (dk_at dksX1_effortsDown_0 21 rfl rfl)
theorem dX1_effortsDown_22 : decode cX1_effortsDown 22 = .ok (.iload_n 3, 1) := dk_29 (dk_at dksX1_effortsDown_0 22 rfl rfl)
theorem dX1_effortsDown_23 : decode cX1_effortsDown 23 = .ok (.iload_n 1, 1) := dk_27 (dk_at dksX1_effortsDown_0 23 rfl rfl)
theorem dX1_effortsDown_24 : decode cX1_effortsDown 24 = .ok (.iconst 0, 1) := dk_3 (dk_at dksX1_effortsDown_1 0 rfl rfl)
theorem dX1_effortsDown_25 : decode cX1_effortsDown 25 = .ok (.invokevirtual 178, 3) := dk_182 0 178 (dk_at dksX1_effortsDown_1 1 rfl rfl)
theorem dX1_effortsDown_28 : decode cX1_effortsDown 28 = .ok (.goto 4, 3) := dk_167 0 4 (dk_at dksX1_effortsDown_1 4 rfl rfl)
theorem dX1_effortsDown_31 : decode cX1_effortsDown 31 = .ok (.iconst 0, 1) := dk_3 (dk_at dksX1_effortsDown_1 7 rfl rfl)
theorem dX1_effortsDown_32 : decode cX1_effortsDown 32 = .ok (.iadd, 1) := dk_96 (dk_at dksX1_effortsDown_1 8 rfl rfl)
theorem dX1_effortsDown_33 : decode cX1_effortsDown 33 = .ok (.istore_n 2, 1) := dk_61 (dk_at dksX1_effortsDown_1 9 rfl rfl)
theorem dX1_effortsDown_34 : decode cX1_effortsDown 34 = .ok (.iinc 3 1, 3) := dk_132 3 1 (dk_at dksX1_effortsDown_1 10 rfl rfl)
theorem dX1_effortsDown_37 : decode cX1_effortsDown 37 = .ok (.goto (-33), 3) := dk_167 255 223 (dk_at dksX1_effortsDown_1 13 rfl rfl)
theorem dX1_effortsDown_40 : decode cX1_effortsDown 40 = .ok (.iload_n 2, 1) := dk_28 (dk_at dksX1_effortsDown_1 16 rfl rfl)
theorem dX1_effortsDown_41 : decode cX1_effortsDown 41 = .ok (.ireturn, 1) := dk_172 (dk_at dksX1_effortsDown_1 17 rfl rfl)
abbrev cX1_effortsBelow : ByteArray := prog_5_method_32_code
def yX1_effortsBelow : MethodName := ⟨RX1, "effortsBelow", "(III)I"⟩
def dkwX1_effortsBelow_3 : List UInt8 := [21, 6, 100, 182, 0, 178, 96, 54, 4, 132, 6, 1, 167, 255, 206, 21, 4, 172]
abbrev dktX1_effortsBelow_3 : List UInt8 := dkwX1_effortsBelow_3 ++ []
def dkwX1_effortsBelow_2 : List UInt8 := [21, 6, 182, 0, 51, 192, 0, 80, 182, 0, 82, 28, 29, 4, 96, 25, 5, 182, 0, 47, 96, 4, 100]
abbrev dktX1_effortsBelow_2 : List UInt8 := dkwX1_effortsBelow_2 ++ dktX1_effortsBelow_3
def dkwX1_effortsBelow_1 : List UInt8 := [180, 0, 66, 58, 5, 3, 54, 6, 21, 6, 25, 5, 182, 0, 47, 162, 0, 46, 21, 4, 42, 25, 5]
abbrev dktX1_effortsBelow_1 : List UInt8 := dkwX1_effortsBelow_1 ++ dktX1_effortsBelow_2
def dkwX1_effortsBelow_0 : List UInt8 := [42, 27, 182, 0, 55, 180, 0, 85, 28, 160, 0, 7, 29, 167, 0, 4, 3, 54, 4, 42, 27, 182, 0, 55]
abbrev dktX1_effortsBelow_0 : List UInt8 := dkwX1_effortsBelow_0 ++ dktX1_effortsBelow_1
theorem dksX1_effortsBelow_0 : cX1_effortsBelow.data.toList.drop 0 = dktX1_effortsBelow_0 := by decide +kernel
theorem dksX1_effortsBelow_1 : cX1_effortsBelow.data.toList.drop 24 = dktX1_effortsBelow_1 := dk_seg dksX1_effortsBelow_0 24 rfl rfl
theorem dksX1_effortsBelow_2 : cX1_effortsBelow.data.toList.drop 47 = dktX1_effortsBelow_2 := dk_seg dksX1_effortsBelow_1 23 rfl rfl
theorem dksX1_effortsBelow_3 : cX1_effortsBelow.data.toList.drop 70 = dktX1_effortsBelow_3 := dk_seg dksX1_effortsBelow_2 23 rfl rfl
theorem dX1_effortsBelow_0 : decode cX1_effortsBelow 0 = .ok (.aload_n 0, 1) := dk_42 (dk_at dksX1_effortsBelow_0 0 rfl rfl)
theorem dX1_effortsBelow_1 : decode cX1_effortsBelow 1 = .ok (.iload_n 1, 1) := dk_27 (dk_at dksX1_effortsBelow_0 1 rfl rfl)
theorem dX1_effortsBelow_2 : decode cX1_effortsBelow 2 = .ok (.invokevirtual 55, 3) := dk_182 0 55 (dk_at dksX1_effortsBelow_0 2 rfl rfl)
theorem dX1_effortsBelow_5 : decode cX1_effortsBelow 5 = .ok (.getfield 85, 3) := dk_180 0 85 (dk_at dksX1_effortsBelow_0 5 rfl rfl)
theorem dX1_effortsBelow_8 : decode cX1_effortsBelow 8 = .ok (.iload_n 2, 1) := dk_28 (dk_at dksX1_effortsBelow_0 8 rfl rfl)
theorem dX1_effortsBelow_9 : decode cX1_effortsBelow 9 = .ok (.if_icmp .ne 7, 3) := dk_160 0 7 (dk_at dksX1_effortsBelow_0 9 rfl rfl)
theorem dX1_effortsBelow_12 : decode cX1_effortsBelow 12 = .ok (.iload_n 3, 1) := dk_29 (dk_at dksX1_effortsBelow_0 12 rfl rfl)
theorem dX1_effortsBelow_13 : decode cX1_effortsBelow 13 = .ok (.goto 4, 3) := dk_167 0 4 (dk_at dksX1_effortsBelow_0 13 rfl rfl)
theorem dX1_effortsBelow_16 : decode cX1_effortsBelow 16 = .ok (.iconst 0, 1) := dk_3 (dk_at dksX1_effortsBelow_0 16 rfl rfl)
theorem dX1_effortsBelow_17 : decode cX1_effortsBelow 17 = .ok (.istore 4, 2) := dk_54 4 (dk_at dksX1_effortsBelow_0 17 rfl rfl)
theorem dX1_effortsBelow_19 : decode cX1_effortsBelow 19 = .ok (.aload_n 0, 1) := dk_42 (dk_at dksX1_effortsBelow_0 19 rfl rfl)
theorem dX1_effortsBelow_20 : decode cX1_effortsBelow 20 = .ok (.iload_n 1, 1) := dk_27 (dk_at dksX1_effortsBelow_0 20 rfl rfl)
theorem dX1_effortsBelow_21 : decode cX1_effortsBelow 21 = .ok (.invokevirtual 55, 3) := dk_182 0 55 (dk_at dksX1_effortsBelow_0 21 rfl rfl)
theorem dX1_effortsBelow_24 : decode cX1_effortsBelow 24 = .ok (.getfield 66, 3) := dk_180 0 66 (dk_at dksX1_effortsBelow_1 0 rfl rfl)
theorem dX1_effortsBelow_27 : decode cX1_effortsBelow 27 = .ok (.astore 5, 2) := dk_58 5 (dk_at dksX1_effortsBelow_1 3 rfl rfl)
theorem dX1_effortsBelow_29 : decode cX1_effortsBelow 29 = .ok (.iconst 0, 1) := dk_3 (dk_at dksX1_effortsBelow_1 5 rfl rfl)
theorem dX1_effortsBelow_30 : decode cX1_effortsBelow 30 = .ok (.istore 6, 2) := dk_54 6 (dk_at dksX1_effortsBelow_1 6 rfl rfl)
theorem dX1_effortsBelow_32 : decode cX1_effortsBelow 32 = .ok (.iload 6, 2) := dk_21 6 (dk_at dksX1_effortsBelow_1 8 rfl rfl)
theorem dX1_effortsBelow_34 : decode cX1_effortsBelow 34 = .ok (.aload 5, 2) := dk_25 5 (dk_at dksX1_effortsBelow_1 10 rfl rfl)
theorem dX1_effortsBelow_36 : decode cX1_effortsBelow 36 = .ok (.invokevirtual 47, 3) := dk_182 0 47 (dk_at dksX1_effortsBelow_1 12 rfl rfl)
theorem dX1_effortsBelow_39 : decode cX1_effortsBelow 39 = .ok (.if_icmp .ge 46, 3) := dk_162 0 46 (dk_at dksX1_effortsBelow_1 15 rfl rfl)
theorem dX1_effortsBelow_42 : decode cX1_effortsBelow 42 = .ok (.iload 4, 2) := dk_21 4 (dk_at dksX1_effortsBelow_1 18 rfl rfl)
theorem dX1_effortsBelow_44 : decode cX1_effortsBelow 44 = .ok (.aload_n 0, 1) := dk_42 (dk_at dksX1_effortsBelow_1 20 rfl rfl)
theorem dX1_effortsBelow_45 : decode cX1_effortsBelow 45 = .ok (.aload 5, 2) := dk_25 5 (dk_at dksX1_effortsBelow_1 21 rfl rfl)
theorem dX1_effortsBelow_47 : decode cX1_effortsBelow 47 = .ok (.iload 6, 2) := dk_21 6 (dk_at dksX1_effortsBelow_2 0 rfl rfl)
theorem dX1_effortsBelow_49 : decode cX1_effortsBelow 49 = .ok (.invokevirtual 51, 3) := dk_182 0 51 (dk_at dksX1_effortsBelow_2 2 rfl rfl)
theorem dX1_effortsBelow_52 : decode cX1_effortsBelow 52 = .ok (.checkcast 80, 3) := dk_192 0 80 (dk_at dksX1_effortsBelow_2 5 rfl rfl)
theorem dX1_effortsBelow_55 : decode cX1_effortsBelow 55 = .ok (.invokevirtual 82, 3) := dk_182 0 82 (dk_at dksX1_effortsBelow_2 8 rfl rfl)
theorem dX1_effortsBelow_58 : decode cX1_effortsBelow 58 = .ok (.iload_n 2, 1) := dk_28 (dk_at dksX1_effortsBelow_2 11 rfl rfl)
theorem dX1_effortsBelow_59 : decode cX1_effortsBelow 59 = .ok (.iload_n 3, 1) := dk_29 (dk_at dksX1_effortsBelow_2 12 rfl rfl)
theorem dX1_effortsBelow_60 : decode cX1_effortsBelow 60 = .ok (.iconst 1, 1) := dk_4 (dk_at dksX1_effortsBelow_2 13 rfl rfl)
theorem dX1_effortsBelow_61 : decode cX1_effortsBelow 61 = .ok (.iadd, 1) := dk_96 (dk_at dksX1_effortsBelow_2 14 rfl rfl)
theorem dX1_effortsBelow_62 : decode cX1_effortsBelow 62 = .ok (.aload 5, 2) := dk_25 5 (dk_at dksX1_effortsBelow_2 15 rfl rfl)
theorem dX1_effortsBelow_64 : decode cX1_effortsBelow 64 = .ok (.invokevirtual 47, 3) := dk_182 0 47 (dk_at dksX1_effortsBelow_2 17 rfl rfl)
theorem dX1_effortsBelow_67 : decode cX1_effortsBelow 67 = .ok (.iadd, 1) := dk_96 (dk_at dksX1_effortsBelow_2 20 rfl rfl)
theorem dX1_effortsBelow_68 : decode cX1_effortsBelow 68 = .ok (.iconst 1, 1) := dk_4 (dk_at dksX1_effortsBelow_2 21 rfl rfl)
theorem dX1_effortsBelow_69 : decode cX1_effortsBelow 69 = .ok (.isub, 1) := dk_100 (dk_at dksX1_effortsBelow_2 22 rfl rfl)
theorem dX1_effortsBelow_70 : decode cX1_effortsBelow 70 = .ok (.iload 6, 2) := dk_21 6 (dk_at dksX1_effortsBelow_3 0 rfl rfl)
theorem dX1_effortsBelow_72 : decode cX1_effortsBelow 72 = .ok (.isub, 1) := dk_100 (dk_at dksX1_effortsBelow_3 2 rfl rfl)
theorem dX1_effortsBelow_73 : decode cX1_effortsBelow 73 = .ok (.invokevirtual 178, 3) := dk_182 0 178 (dk_at dksX1_effortsBelow_3 3 rfl rfl)
theorem dX1_effortsBelow_76 : decode cX1_effortsBelow 76 = .ok (.iadd, 1) := dk_96 (dk_at dksX1_effortsBelow_3 6 rfl rfl)
theorem dX1_effortsBelow_77 : decode cX1_effortsBelow 77 = .ok (.istore 4, 2) := dk_54 4 (dk_at dksX1_effortsBelow_3 7 rfl rfl)
theorem dX1_effortsBelow_79 : decode cX1_effortsBelow 79 = .ok (.iinc 6 1, 3) := dk_132 6 1 (dk_at dksX1_effortsBelow_3 9 rfl rfl)
theorem dX1_effortsBelow_82 : decode cX1_effortsBelow 82 = .ok (.goto (-50), 3) := dk_167 255 206 (dk_at dksX1_effortsBelow_3 12 rfl rfl)
theorem dX1_effortsBelow_85 : decode cX1_effortsBelow 85 = .ok (.iload 4, 2) := dk_21 4 (dk_at dksX1_effortsBelow_3 15 rfl rfl)
theorem dX1_effortsBelow_87 : decode cX1_effortsBelow 87 = .ok (.ireturn, 1) := dk_172 (dk_at dksX1_effortsBelow_3 17 rfl rfl)
abbrev cX1_nest : ByteArray := prog_5_method_35_code
def yX1_nest : MethodName := ⟨RX1, "nest", "()Ljava/util/ArrayList;"⟩
def dkwX1_nest_3 : List UInt8 := [21, 5, 182, 0, 55, 180, 0, 77, 62, 132, 4, 255, 167, 255, 197, 44, 176]
abbrev dktX1_nest_3 : List UInt8 := dkwX1_nest_3 ++ []
def dkwX1_nest_2 : List UInt8 := [180, 0, 85, 29, 164, 0, 9, 132, 5, 1, 167, 255, 231, 44, 21, 5, 184, 0, 87, 182, 0, 39, 87, 42]
abbrev dktX1_nest_2 : List UInt8 := dkwX1_nest_2 ++ dktX1_nest_3
def dkwX1_nest_1 : List UInt8 := [21, 4, 158, 0, 60, 3, 54, 5, 43, 21, 5, 46, 21, 4, 160, 0, 16, 42, 21, 5, 182, 0, 55]
abbrev dktX1_nest_1 : List UInt8 := dkwX1_nest_1 ++ dktX1_nest_2
def dkwX1_nest_0 : List UInt8 := [42, 182, 0, 194, 76, 187, 0, 9, 89, 183, 0, 11, 77, 16, 60, 62, 42, 43, 29, 182, 0, 185, 54, 4]
abbrev dktX1_nest_0 : List UInt8 := dkwX1_nest_0 ++ dktX1_nest_1
theorem dksX1_nest_0 : cX1_nest.data.toList.drop 0 = dktX1_nest_0 := by decide +kernel
theorem dksX1_nest_1 : cX1_nest.data.toList.drop 24 = dktX1_nest_1 := dk_seg dksX1_nest_0 24 rfl rfl
theorem dksX1_nest_2 : cX1_nest.data.toList.drop 47 = dktX1_nest_2 := dk_seg dksX1_nest_1 23 rfl rfl
theorem dksX1_nest_3 : cX1_nest.data.toList.drop 71 = dktX1_nest_3 := dk_seg dksX1_nest_2 24 rfl rfl
theorem dX1_nest_0 : decode cX1_nest 0 = .ok (.aload_n 0, 1) := dk_42 (dk_at dksX1_nest_0 0 rfl rfl)
theorem dX1_nest_1 : decode cX1_nest 1 = .ok (.invokevirtual 194, 3) := dk_182 0 194 (dk_at dksX1_nest_0 1 rfl rfl)
theorem dX1_nest_4 : decode cX1_nest 4 = .ok (.astore_n 1, 1) := dk_76 (dk_at dksX1_nest_0 4 rfl rfl)
theorem dX1_nest_5 : decode cX1_nest 5 = .ok (.new 9, 3) := dk_187 0 9 (dk_at dksX1_nest_0 5 rfl rfl)
theorem dX1_nest_8 : decode cX1_nest 8 = .ok (.dup, 1) := dk_89 (dk_at dksX1_nest_0 8 rfl rfl)
theorem dX1_nest_9 : decode cX1_nest 9 = .ok (.invokespecial 11, 3) := dk_183 0 11 (dk_at dksX1_nest_0 9 rfl rfl)
theorem dX1_nest_12 : decode cX1_nest 12 = .ok (.astore_n 2, 1) := dk_77 (dk_at dksX1_nest_0 12 rfl rfl)
theorem dX1_nest_13 : decode cX1_nest 13 = .ok (.bipush 60, 2) := dk_16 60 (dk_at dksX1_nest_0 13 rfl rfl)
theorem dX1_nest_15 : decode cX1_nest 15 = .ok (.istore_n 3, 1) := dk_62 (dk_at dksX1_nest_0 15 rfl rfl)
theorem dX1_nest_16 : decode cX1_nest 16 = .ok (.aload_n 0, 1) := dk_42 (dk_at dksX1_nest_0 16 rfl rfl)
theorem dX1_nest_17 : decode cX1_nest 17 = .ok (.aload_n 1, 1) := dk_43 (dk_at dksX1_nest_0 17 rfl rfl)
theorem dX1_nest_18 : decode cX1_nest 18 = .ok (.iload_n 3, 1) := dk_29 (dk_at dksX1_nest_0 18 rfl rfl)
theorem dX1_nest_19 : decode cX1_nest 19 = .ok (.invokevirtual 185, 3) := dk_182 0 185 (dk_at dksX1_nest_0 19 rfl rfl)
theorem dX1_nest_22 : decode cX1_nest 22 = .ok (.istore 4, 2) := dk_54 4 (dk_at dksX1_nest_0 22 rfl rfl)
theorem dX1_nest_24 : decode cX1_nest 24 = .ok (.iload 4, 2) := dk_21 4 (dk_at dksX1_nest_1 0 rfl rfl)
theorem dX1_nest_26 : decode cX1_nest 26 = .ok (.ifCond .le 60, 3) := dk_158 0 60 (dk_at dksX1_nest_1 2 rfl rfl)
theorem dX1_nest_29 : decode cX1_nest 29 = .ok (.iconst 0, 1) := dk_3 (dk_at dksX1_nest_1 5 rfl rfl)
theorem dX1_nest_30 : decode cX1_nest 30 = .ok (.istore 5, 2) := dk_54 5 (dk_at dksX1_nest_1 6 rfl rfl)
theorem dX1_nest_32 : decode cX1_nest 32 = .ok (.aload_n 1, 1) := dk_43 (dk_at dksX1_nest_1 8 rfl rfl)
theorem dX1_nest_33 : decode cX1_nest 33 = .ok (.iload 5, 2) := dk_21 5 (dk_at dksX1_nest_1 9 rfl rfl)
theorem dX1_nest_35 : decode cX1_nest 35 = .ok (.iaload, 1) := dk_46 (dk_at dksX1_nest_1 11 rfl rfl)
theorem dX1_nest_36 : decode cX1_nest 36 = .ok (.iload 4, 2) := dk_21 4 (dk_at dksX1_nest_1 12 rfl rfl)
theorem dX1_nest_38 : decode cX1_nest 38 = .ok (.if_icmp .ne 16, 3) := dk_160 0 16 (dk_at dksX1_nest_1 14 rfl rfl)
theorem dX1_nest_41 : decode cX1_nest 41 = .ok (.aload_n 0, 1) := dk_42 (dk_at dksX1_nest_1 17 rfl rfl)
theorem dX1_nest_42 : decode cX1_nest 42 = .ok (.iload 5, 2) := dk_21 5 (dk_at dksX1_nest_1 18 rfl rfl)
theorem dX1_nest_44 : decode cX1_nest 44 = .ok (.invokevirtual 55, 3) := dk_182 0 55 (dk_at dksX1_nest_1 20 rfl rfl)
theorem dX1_nest_47 : decode cX1_nest 47 = .ok (.getfield 85, 3) := dk_180 0 85 (dk_at dksX1_nest_2 0 rfl rfl)
theorem dX1_nest_50 : decode cX1_nest 50 = .ok (.iload_n 3, 1) := dk_29 (dk_at dksX1_nest_2 3 rfl rfl)
theorem dX1_nest_51 : decode cX1_nest 51 = .ok (.if_icmp .le 9, 3) := dk_164 0 9 (dk_at dksX1_nest_2 4 rfl rfl)
theorem dX1_nest_54 : decode cX1_nest 54 = .ok (.iinc 5 1, 3) := dk_132 5 1 (dk_at dksX1_nest_2 7 rfl rfl)
theorem dX1_nest_57 : decode cX1_nest 57 = .ok (.goto (-25), 3) := dk_167 255 231 (dk_at dksX1_nest_2 10 rfl rfl)
theorem dX1_nest_60 : decode cX1_nest 60 = .ok (.aload_n 2, 1) := dk_44 (dk_at dksX1_nest_2 13 rfl rfl)
theorem dX1_nest_61 : decode cX1_nest 61 = .ok (.iload 5, 2) := dk_21 5 (dk_at dksX1_nest_2 14 rfl rfl)
theorem dX1_nest_63 : decode cX1_nest 63 = .ok (.invokestatic 87, 3) := dk_184 0 87 (dk_at dksX1_nest_2 16 rfl rfl)
theorem dX1_nest_66 : decode cX1_nest 66 = .ok (.invokevirtual 39, 3) := dk_182 0 39 (dk_at dksX1_nest_2 19 rfl rfl)
theorem dX1_nest_69 : decode cX1_nest 69 = .ok (.pop, 1) := dk_87 (dk_at dksX1_nest_2 22 rfl rfl)
theorem dX1_nest_70 : decode cX1_nest 70 = .ok (.aload_n 0, 1) := dk_42 (dk_at dksX1_nest_2 23 rfl rfl)
theorem dX1_nest_71 : decode cX1_nest 71 = .ok (.iload 5, 2) := dk_21 5 (dk_at dksX1_nest_3 0 rfl rfl)
theorem dX1_nest_73 : decode cX1_nest 73 = .ok (.invokevirtual 55, 3) := dk_182 0 55 (dk_at dksX1_nest_3 2 rfl rfl)
theorem dX1_nest_76 : decode cX1_nest 76 = .ok (.getfield 77, 3) := dk_180 0 77 (dk_at dksX1_nest_3 5 rfl rfl)
theorem dX1_nest_79 : decode cX1_nest 79 = .ok (.istore_n 3, 1) := dk_62 (dk_at dksX1_nest_3 8 rfl rfl)
theorem dX1_nest_80 : decode cX1_nest 80 = .ok (.iinc 4 (-1), 3) := dk_132 4 255 (dk_at dksX1_nest_3 9 rfl rfl)
theorem dX1_nest_83 : decode cX1_nest 83 = .ok (.goto (-59), 3) := dk_167 255 197 (dk_at dksX1_nest_3 12 rfl rfl)
theorem dX1_nest_86 : decode cX1_nest 86 = .ok (.aload_n 2, 1) := dk_44 (dk_at dksX1_nest_3 15 rfl rfl)
theorem dX1_nest_87 : decode cX1_nest 87 = .ok (.areturn, 1) := dk_176 (dk_at dksX1_nest_3 16 rfl rfl)
abbrev cX1_lengths : ByteArray := prog_5_method_33_code
def yX1_lengths : MethodName := ⟨RX1, "lengths", "()[I"⟩
def dkwX1_lengths_3 : List UInt8 := [132, 2, 1, 167, 255, 193, 43, 176]
abbrev dktX1_lengths_3 : List UInt8 := dkwX1_lengths_3 ++ []
def dkwX1_lengths_2 : List UInt8 := [29, 4, 42, 43, 42, 29, 182, 0, 55, 180, 0, 77, 182, 0, 185, 96, 79, 132, 3, 1, 167, 255, 207]
abbrev dktX1_lengths_2 : List UInt8 := dkwX1_lengths_2 ++ dktX1_lengths_3
def dkwX1_lengths_1 : List UInt8 := [162, 0, 47, 42, 29, 182, 0, 55, 180, 0, 85, 28, 160, 0, 29, 42, 29, 182, 0, 182, 153, 0, 21, 43]
abbrev dktX1_lengths_1 : List UInt8 := dkwX1_lengths_1 ++ dktX1_lengths_2
def dkwX1_lengths_0 : List UInt8 := [42, 182, 0, 72, 188, 10, 76, 4, 61, 28, 16, 60, 163, 0, 63, 3, 62, 29, 42, 182, 0, 72]
abbrev dktX1_lengths_0 : List UInt8 := dkwX1_lengths_0 ++ dktX1_lengths_1
theorem dksX1_lengths_0 : cX1_lengths.data.toList.drop 0 = dktX1_lengths_0 := by decide +kernel
theorem dksX1_lengths_1 : cX1_lengths.data.toList.drop 22 = dktX1_lengths_1 := dk_seg dksX1_lengths_0 22 rfl rfl
theorem dksX1_lengths_2 : cX1_lengths.data.toList.drop 46 = dktX1_lengths_2 := dk_seg dksX1_lengths_1 24 rfl rfl
theorem dksX1_lengths_3 : cX1_lengths.data.toList.drop 69 = dktX1_lengths_3 := dk_seg dksX1_lengths_2 23 rfl rfl
theorem dX1_lengths_0 : decode cX1_lengths 0 = .ok (.aload_n 0, 1) := dk_42 (dk_at dksX1_lengths_0 0 rfl rfl)
theorem dX1_lengths_1 : decode cX1_lengths 1 = .ok (.invokevirtual 72, 3) := dk_182 0 72 (dk_at dksX1_lengths_0 1 rfl rfl)
theorem dX1_lengths_4 : decode cX1_lengths 4 = .ok (.newarray .int, 2) := dk_188_10 (dk_at dksX1_lengths_0 4 rfl rfl)
theorem dX1_lengths_6 : decode cX1_lengths 6 = .ok (.astore_n 1, 1) := dk_76 (dk_at dksX1_lengths_0 6 rfl rfl)
theorem dX1_lengths_7 : decode cX1_lengths 7 = .ok (.iconst 1, 1) := dk_4 (dk_at dksX1_lengths_0 7 rfl rfl)
theorem dX1_lengths_8 : decode cX1_lengths 8 = .ok (.istore_n 2, 1) := dk_61 (dk_at dksX1_lengths_0 8 rfl rfl)
theorem dX1_lengths_9 : decode cX1_lengths 9 = .ok (.iload_n 2, 1) := dk_28 (dk_at dksX1_lengths_0 9 rfl rfl)
theorem dX1_lengths_10 : decode cX1_lengths 10 = .ok (.bipush 60, 2) := dk_16 60 (dk_at dksX1_lengths_0 10 rfl rfl)
theorem dX1_lengths_12 : decode cX1_lengths 12 = .ok (.if_icmp .gt 63, 3) := dk_163 0 63 (dk_at dksX1_lengths_0 12 rfl rfl)
theorem dX1_lengths_15 : decode cX1_lengths 15 = .ok (.iconst 0, 1) := dk_3 (dk_at dksX1_lengths_0 15 rfl rfl)
theorem dX1_lengths_16 : decode cX1_lengths 16 = .ok (.istore_n 3, 1) := dk_62 (dk_at dksX1_lengths_0 16 rfl rfl)
theorem dX1_lengths_17 : decode cX1_lengths 17 = .ok (.iload_n 3, 1) := dk_29 (dk_at dksX1_lengths_0 17 rfl rfl)
theorem dX1_lengths_18 : decode cX1_lengths 18 = .ok (.aload_n 0, 1) := dk_42 (dk_at dksX1_lengths_0 18 rfl rfl)
theorem dX1_lengths_19 : decode cX1_lengths 19 = .ok (.invokevirtual 72, 3) := dk_182 0 72 (dk_at dksX1_lengths_0 19 rfl rfl)
theorem dX1_lengths_22 : decode cX1_lengths 22 = .ok (.if_icmp .ge 47, 3) := dk_162 0 47 (dk_at dksX1_lengths_1 0 rfl rfl)
theorem dX1_lengths_25 : decode cX1_lengths 25 = .ok (.aload_n 0, 1) := dk_42 (dk_at dksX1_lengths_1 3 rfl rfl)
theorem dX1_lengths_26 : decode cX1_lengths 26 = .ok (.iload_n 3, 1) := dk_29 (dk_at dksX1_lengths_1 4 rfl rfl)
theorem dX1_lengths_27 : decode cX1_lengths 27 = .ok (.invokevirtual 55, 3) := dk_182 0 55 (dk_at dksX1_lengths_1 5 rfl rfl)
theorem dX1_lengths_30 : decode cX1_lengths 30 = .ok (.getfield 85, 3) := dk_180 0 85 (dk_at dksX1_lengths_1 8 rfl rfl)
theorem dX1_lengths_33 : decode cX1_lengths 33 = .ok (.iload_n 2, 1) := dk_28 (dk_at dksX1_lengths_1 11 rfl rfl)
theorem dX1_lengths_34 : decode cX1_lengths 34 = .ok (.if_icmp .ne 29, 3) := dk_160 0 29 (dk_at dksX1_lengths_1 12 rfl rfl)
theorem dX1_lengths_37 : decode cX1_lengths 37 = .ok (.aload_n 0, 1) := dk_42 (dk_at dksX1_lengths_1 15 rfl rfl)
theorem dX1_lengths_38 : decode cX1_lengths 38 = .ok (.iload_n 3, 1) := dk_29 (dk_at dksX1_lengths_1 16 rfl rfl)
theorem dX1_lengths_39 : decode cX1_lengths 39 = .ok (.invokevirtual 182, 3) := dk_182 0 182 (dk_at dksX1_lengths_1 17 rfl rfl)
theorem dX1_lengths_42 : decode cX1_lengths 42 = .ok (.ifCond .eq 21, 3) := dk_153 0 21 (dk_at dksX1_lengths_1 20 rfl rfl)
theorem dX1_lengths_45 : decode cX1_lengths 45 = .ok (.aload_n 1, 1) := dk_43 (dk_at dksX1_lengths_1 23 rfl rfl)
theorem dX1_lengths_46 : decode cX1_lengths 46 = .ok (.iload_n 3, 1) := dk_29 (dk_at dksX1_lengths_2 0 rfl rfl)
theorem dX1_lengths_47 : decode cX1_lengths 47 = .ok (.iconst 1, 1) := dk_4 (dk_at dksX1_lengths_2 1 rfl rfl)
theorem dX1_lengths_48 : decode cX1_lengths 48 = .ok (.aload_n 0, 1) := dk_42 (dk_at dksX1_lengths_2 2 rfl rfl)
theorem dX1_lengths_49 : decode cX1_lengths 49 = .ok (.aload_n 1, 1) := dk_43 (dk_at dksX1_lengths_2 3 rfl rfl)
theorem dX1_lengths_50 : decode cX1_lengths 50 = .ok (.aload_n 0, 1) := dk_42 (dk_at dksX1_lengths_2 4 rfl rfl)
theorem dX1_lengths_51 : decode cX1_lengths 51 = .ok (.iload_n 3, 1) := dk_29 (dk_at dksX1_lengths_2 5 rfl rfl)
theorem dX1_lengths_52 : decode cX1_lengths 52 = .ok (.invokevirtual 55, 3) := dk_182 0 55 (dk_at dksX1_lengths_2 6 rfl rfl)
theorem dX1_lengths_55 : decode cX1_lengths 55 = .ok (.getfield 77, 3) := dk_180 0 77 (dk_at dksX1_lengths_2 9 rfl rfl)
theorem dX1_lengths_58 : decode cX1_lengths 58 = .ok (.invokevirtual 185, 3) := dk_182 0 185 (dk_at dksX1_lengths_2 12 rfl rfl)
theorem dX1_lengths_61 : decode cX1_lengths 61 = .ok (.iadd, 1) := dk_96 (dk_at dksX1_lengths_2 15 rfl rfl)
theorem dX1_lengths_62 : decode cX1_lengths 62 = .ok (.iastore, 1) := dk_79 (dk_at dksX1_lengths_2 16 rfl rfl)
theorem dX1_lengths_63 : decode cX1_lengths 63 = .ok (.iinc 3 1, 3) := dk_132 3 1 (dk_at dksX1_lengths_2 17 rfl rfl)
theorem dX1_lengths_66 : decode cX1_lengths 66 = .ok (.goto (-49), 3) := dk_167 255 207 (dk_at dksX1_lengths_2 20 rfl rfl)
theorem dX1_lengths_69 : decode cX1_lengths 69 = .ok (.iinc 2 1, 3) := dk_132 2 1 (dk_at dksX1_lengths_3 0 rfl rfl)
theorem dX1_lengths_72 : decode cX1_lengths 72 = .ok (.goto (-63), 3) := dk_167 255 193 (dk_at dksX1_lengths_3 3 rfl rfl)
theorem dX1_lengths_75 : decode cX1_lengths 75 = .ok (.aload_n 1, 1) := dk_43 (dk_at dksX1_lengths_3 6 rfl rfl)
theorem dX1_lengths_76 : decode cX1_lengths 76 = .ok (.areturn, 1) := dk_176 (dk_at dksX1_lengths_3 7 rfl rfl)
abbrev cX1_isLoose : ByteArray := prog_5_method_6_code
def yX1_isLoose : MethodName := ⟨RX1, "isLoose", "(I)Z"⟩
def dkwX1_isLoose_1 : List UInt8 := [167, 0, 4, 3, 172]
abbrev dktX1_isLoose_1 : List UInt8 := dkwX1_isLoose_1 ++ []
def dkwX1_isLoose_0 : List UInt8 := [42, 27, 182, 0, 62, 153, 0, 21, 42, 27, 182, 0, 55, 180, 0, 66, 182, 0, 69, 153, 0, 7, 4]
abbrev dktX1_isLoose_0 : List UInt8 := dkwX1_isLoose_0 ++ dktX1_isLoose_1
theorem dksX1_isLoose_0 : cX1_isLoose.data.toList.drop 0 = dktX1_isLoose_0 := by decide +kernel
theorem dksX1_isLoose_1 : cX1_isLoose.data.toList.drop 23 = dktX1_isLoose_1 := dk_seg dksX1_isLoose_0 23 rfl rfl
theorem dX1_isLoose_0 : decode cX1_isLoose 0 = .ok (.aload_n 0, 1) := dk_42 (dk_at dksX1_isLoose_0 0 rfl rfl)
theorem dX1_isLoose_1 : decode cX1_isLoose 1 = .ok (.iload_n 1, 1) := dk_27 (dk_at dksX1_isLoose_0 1 rfl rfl)
theorem dX1_isLoose_2 : decode cX1_isLoose 2 = .ok (.invokevirtual 62, 3) := dk_182 0 62 (dk_at dksX1_isLoose_0 2 rfl rfl)
theorem dX1_isLoose_5 : decode cX1_isLoose 5 = .ok (.ifCond .eq 21, 3) := dk_153 0 21 (dk_at dksX1_isLoose_0 5 rfl rfl)
theorem dX1_isLoose_8 : decode cX1_isLoose 8 = .ok (.aload_n 0, 1) := dk_42 (dk_at dksX1_isLoose_0 8 rfl rfl)
theorem dX1_isLoose_9 : decode cX1_isLoose 9 = .ok (.iload_n 1, 1) := dk_27 (dk_at dksX1_isLoose_0 9 rfl rfl)
theorem dX1_isLoose_10 : decode cX1_isLoose 10 = .ok (.invokevirtual 55, 3) := dk_182 0 55 (dk_at dksX1_isLoose_0 10 rfl rfl)
theorem dX1_isLoose_13 : decode cX1_isLoose 13 = .ok (.getfield 66, 3) := dk_180 0 66 (dk_at dksX1_isLoose_0 13 rfl rfl)
theorem dX1_isLoose_16 : decode cX1_isLoose 16 = .ok (.invokevirtual 69, 3) := dk_182 0 69 (dk_at dksX1_isLoose_0 16 rfl rfl)
theorem dX1_isLoose_19 : decode cX1_isLoose 19 = .ok (.ifCond .eq 7, 3) := dk_153 0 7 (dk_at dksX1_isLoose_0 19 rfl rfl)
theorem dX1_isLoose_22 : decode cX1_isLoose 22 = .ok (.iconst 1, 1) := dk_4 (dk_at dksX1_isLoose_0 22 rfl rfl)
theorem dX1_isLoose_23 : decode cX1_isLoose 23 = .ok (.goto 4, 3) := dk_167 0 4 (dk_at dksX1_isLoose_1 0 rfl rfl)
theorem dX1_isLoose_26 : decode cX1_isLoose 26 = .ok (.iconst 0, 1) := dk_3 (dk_at dksX1_isLoose_1 3 rfl rfl)
theorem dX1_isLoose_27 : decode cX1_isLoose 27 = .ok (.ireturn, 1) := dk_172 (dk_at dksX1_isLoose_1 4 rfl rfl)
abbrev cX1_longest : ByteArray := prog_5_method_34_code
def yX1_longest : MethodName := ⟨RX1, "longest", "([II)I"⟩
def dkwX1_longest_1 : List UInt8 := [163, 0, 14, 29, 43, 21, 4, 46, 184, 0, 189, 167, 0, 4, 29, 62, 132, 4, 1, 167, 255, 218, 29, 172]
abbrev dktX1_longest_1 : List UInt8 := dkwX1_longest_1 ++ []
def dkwX1_longest_0 : List UInt8 := [3, 62, 3, 54, 4, 21, 4, 42, 182, 0, 72, 162, 0, 35, 42, 21, 4, 182, 0, 55, 180, 0, 85, 28]
abbrev dktX1_longest_0 : List UInt8 := dkwX1_longest_0 ++ dktX1_longest_1
theorem dksX1_longest_0 : cX1_longest.data.toList.drop 0 = dktX1_longest_0 := by decide +kernel
theorem dksX1_longest_1 : cX1_longest.data.toList.drop 24 = dktX1_longest_1 := dk_seg dksX1_longest_0 24 rfl rfl
theorem dX1_longest_0 : decode cX1_longest 0 = .ok (.iconst 0, 1) := dk_3 (dk_at dksX1_longest_0 0 rfl rfl)
theorem dX1_longest_1 : decode cX1_longest 1 = .ok (.istore_n 3, 1) := dk_62 (dk_at dksX1_longest_0 1 rfl rfl)
theorem dX1_longest_2 : decode cX1_longest 2 = .ok (.iconst 0, 1) := dk_3 (dk_at dksX1_longest_0 2 rfl rfl)
theorem dX1_longest_3 : decode cX1_longest 3 = .ok (.istore 4, 2) := dk_54 4 (dk_at dksX1_longest_0 3 rfl rfl)
theorem dX1_longest_5 : decode cX1_longest 5 = .ok (.iload 4, 2) := dk_21 4 (dk_at dksX1_longest_0 5 rfl rfl)
theorem dX1_longest_7 : decode cX1_longest 7 = .ok (.aload_n 0, 1) := dk_42 (dk_at dksX1_longest_0 7 rfl rfl)
theorem dX1_longest_8 : decode cX1_longest 8 = .ok (.invokevirtual 72, 3) := dk_182 0 72 (dk_at dksX1_longest_0 8 rfl rfl)
theorem dX1_longest_11 : decode cX1_longest 11 = .ok (.if_icmp .ge 35, 3) := dk_162 0 35 (dk_at dksX1_longest_0 11 rfl rfl)
theorem dX1_longest_14 : decode cX1_longest 14 = .ok (.aload_n 0, 1) := dk_42 (dk_at dksX1_longest_0 14 rfl rfl)
theorem dX1_longest_15 : decode cX1_longest 15 = .ok (.iload 4, 2) := dk_21 4 (dk_at dksX1_longest_0 15 rfl rfl)
theorem dX1_longest_17 : decode cX1_longest 17 = .ok (.invokevirtual 55, 3) := dk_182 0 55 (dk_at dksX1_longest_0 17 rfl rfl)
theorem dX1_longest_20 : decode cX1_longest 20 = .ok (.getfield 85, 3) := dk_180 0 85 (dk_at dksX1_longest_0 20 rfl rfl)
theorem dX1_longest_23 : decode cX1_longest 23 = .ok (.iload_n 2, 1) := dk_28 (dk_at dksX1_longest_0 23 rfl rfl)
theorem dX1_longest_24 : decode cX1_longest 24 = .ok (.if_icmp .gt 14, 3) := dk_163 0 14 (dk_at dksX1_longest_1 0 rfl rfl)
theorem dX1_longest_27 : decode cX1_longest 27 = .ok (.iload_n 3, 1) := dk_29 (dk_at dksX1_longest_1 3 rfl rfl)
theorem dX1_longest_28 : decode cX1_longest 28 = .ok (.aload_n 1, 1) := dk_43 (dk_at dksX1_longest_1 4 rfl rfl)
theorem dX1_longest_29 : decode cX1_longest 29 = .ok (.iload 4, 2) := dk_21 4 (dk_at dksX1_longest_1 5 rfl rfl)
theorem dX1_longest_31 : decode cX1_longest 31 = .ok (.iaload, 1) := dk_46 (dk_at dksX1_longest_1 7 rfl rfl)
theorem dX1_longest_32 : decode cX1_longest 32 = .ok (.invokestatic 189, 3) := dk_184 0 189 (dk_at dksX1_longest_1 8 rfl rfl)
theorem dX1_longest_35 : decode cX1_longest 35 = .ok (.goto 4, 3) := dk_167 0 4 (dk_at dksX1_longest_1 11 rfl rfl)
theorem dX1_longest_38 : decode cX1_longest 38 = .ok (.iload_n 3, 1) := dk_29 (dk_at dksX1_longest_1 14 rfl rfl)
theorem dX1_longest_39 : decode cX1_longest 39 = .ok (.istore_n 3, 1) := dk_62 (dk_at dksX1_longest_1 15 rfl rfl)
theorem dX1_longest_40 : decode cX1_longest 40 = .ok (.iinc 4 1, 3) := dk_132 4 1 (dk_at dksX1_longest_1 16 rfl rfl)
theorem dX1_longest_43 : decode cX1_longest 43 = .ok (.goto (-38), 3) := dk_167 255 218 (dk_at dksX1_longest_1 19 rfl rfl)
theorem dX1_longest_46 : decode cX1_longest 46 = .ok (.iload_n 3, 1) := dk_29 (dk_at dksX1_longest_1 22 rfl rfl)
theorem dX1_longest_47 : decode cX1_longest 47 = .ok (.ireturn, 1) := dk_172 (dk_at dksX1_longest_1 23 rfl rfl)
abbrev cX1_told : ByteArray := prog_5_method_26_code
def yX1_told : MethodName := ⟨RX1, "told", "()I"⟩
def dkwX1_told_2 : List UInt8 := [96, 60, 167, 255, 221, 27, 172]
abbrev dktX1_told_2 : List UInt8 := dkwX1_told_2 ++ []
def dkwX1_told_1 : List UInt8 := [44, 185, 0, 29, 1, 0, 192, 0, 80, 182, 0, 82, 62, 27, 29, 4, 160, 0, 7, 4, 167, 0, 4, 3]
abbrev dktX1_told_1 : List UInt8 := dkwX1_told_1 ++ dktX1_told_2
def dkwX1_told_0 : List UInt8 := [3, 60, 42, 182, 0, 155, 182, 0, 159, 185, 0, 163, 1, 0, 77, 44, 185, 0, 23, 1, 0, 153, 0, 32]
abbrev dktX1_told_0 : List UInt8 := dkwX1_told_0 ++ dktX1_told_1
theorem dksX1_told_0 : cX1_told.data.toList.drop 0 = dktX1_told_0 := by decide +kernel
theorem dksX1_told_1 : cX1_told.data.toList.drop 24 = dktX1_told_1 := dk_seg dksX1_told_0 24 rfl rfl
theorem dksX1_told_2 : cX1_told.data.toList.drop 48 = dktX1_told_2 := dk_seg dksX1_told_1 24 rfl rfl
theorem dX1_told_0 : decode cX1_told 0 = .ok (.iconst 0, 1) := dk_3 (dk_at dksX1_told_0 0 rfl rfl)
theorem dX1_told_1 : decode cX1_told 1 = .ok (.istore_n 1, 1) := dk_60 (dk_at dksX1_told_0 1 rfl rfl)
theorem dX1_told_2 : decode cX1_told 2 = .ok (.aload_n 0, 1) := dk_42 (dk_at dksX1_told_0 2 rfl rfl)
theorem dX1_told_3 : decode cX1_told 3 = .ok (.invokevirtual 155, 3) := dk_182 0 155 (dk_at dksX1_told_0 3 rfl rfl)
theorem dX1_told_6 : decode cX1_told 6 = .ok (.invokevirtual 159, 3) := dk_182 0 159 (dk_at dksX1_told_0 6 rfl rfl)
theorem dX1_told_9 : decode cX1_told 9 = .ok (.invokeinterface 163 1, 5) := by decide +kernel
theorem dX1_told_14 : decode cX1_told 14 = .ok (.astore_n 2, 1) := dk_77 (dk_at dksX1_told_0 14 rfl rfl)
theorem dX1_told_15 : decode cX1_told 15 = .ok (.aload_n 2, 1) := dk_44 (dk_at dksX1_told_0 15 rfl rfl)
theorem dX1_told_16 : decode cX1_told 16 = .ok (.invokeinterface 23 1, 5) := by decide +kernel
theorem dX1_told_21 : decode cX1_told 21 = .ok (.ifCond .eq 32, 3) := dk_153 0 32 (dk_at dksX1_told_0 21 rfl rfl)
theorem dX1_told_24 : decode cX1_told 24 = .ok (.aload_n 2, 1) := dk_44 (dk_at dksX1_told_1 0 rfl rfl)
theorem dX1_told_25 : decode cX1_told 25 = .ok (.invokeinterface 29 1, 5) := by decide +kernel
theorem dX1_told_30 : decode cX1_told 30 = .ok (.checkcast 80, 3) := dk_192 0 80 (dk_at dksX1_told_1 6 rfl rfl)
theorem dX1_told_33 : decode cX1_told 33 = .ok (.invokevirtual 82, 3) := dk_182 0 82 (dk_at dksX1_told_1 9 rfl rfl)
theorem dX1_told_36 : decode cX1_told 36 = .ok (.istore_n 3, 1) := dk_62 (dk_at dksX1_told_1 12 rfl rfl)
theorem dX1_told_37 : decode cX1_told 37 = .ok (.iload_n 1, 1) := dk_27 (dk_at dksX1_told_1 13 rfl rfl)
theorem dX1_told_38 : decode cX1_told 38 = .ok (.iload_n 3, 1) := dk_29 (dk_at dksX1_told_1 14 rfl rfl)
theorem dX1_told_39 : decode cX1_told 39 = .ok (.iconst 1, 1) := dk_4 (dk_at dksX1_told_1 15 rfl rfl)
theorem dX1_told_40 : decode cX1_told 40 = .ok (.if_icmp .ne 7, 3) := dk_160 0 7 (dk_at dksX1_told_1 16 rfl rfl)
theorem dX1_told_43 : decode cX1_told 43 = .ok (.iconst 1, 1) := dk_4 (dk_at dksX1_told_1 19 rfl rfl)
theorem dX1_told_44 : decode cX1_told 44 = .ok (.goto 4, 3) := dk_167 0 4 (dk_at dksX1_told_1 20 rfl rfl)
theorem dX1_told_47 : decode cX1_told 47 = .ok (.iconst 0, 1) := dk_3 (dk_at dksX1_told_1 23 rfl rfl)
theorem dX1_told_48 : decode cX1_told 48 = .ok (.iadd, 1) := dk_96 (dk_at dksX1_told_2 0 rfl rfl)
theorem dX1_told_49 : decode cX1_told 49 = .ok (.istore_n 1, 1) := dk_60 (dk_at dksX1_told_2 1 rfl rfl)
theorem dX1_told_50 : decode cX1_told 50 = .ok (.goto (-35), 3) := dk_167 255 221 (dk_at dksX1_told_2 2 rfl rfl)
theorem dX1_told_53 : decode cX1_told 53 = .ok (.iload_n 1, 1) := dk_27 (dk_at dksX1_told_2 5 rfl rfl)
theorem dX1_told_54 : decode cX1_told 54 = .ok (.ireturn, 1) := dk_172 (dk_at dksX1_told_2 6 rfl rfl)
abbrev cX1_allLettersSeen : ByteArray := prog_5_method_23_code
def yX1_allLettersSeen : MethodName := ⟨RX1, "allLettersSeen", "()I"⟩
def dkwX1_allLettersSeen_1 : List UInt8 := [167, 255, 237, 27, 172]
abbrev dktX1_allLettersSeen_1 : List UInt8 := dkwX1_allLettersSeen_1 ++ []
def dkwX1_allLettersSeen_0 : List UInt8 := [3, 60, 3, 61, 28, 42, 182, 0, 72, 162, 0, 17, 27, 42, 28, 182, 0, 138, 96, 60, 132, 2, 1]
abbrev dktX1_allLettersSeen_0 : List UInt8 := dkwX1_allLettersSeen_0 ++ dktX1_allLettersSeen_1
theorem dksX1_allLettersSeen_0 : cX1_allLettersSeen.data.toList.drop 0 = dktX1_allLettersSeen_0 := by decide +kernel
theorem dksX1_allLettersSeen_1 : cX1_allLettersSeen.data.toList.drop 23 = dktX1_allLettersSeen_1 := dk_seg dksX1_allLettersSeen_0 23 rfl rfl
theorem dX1_allLettersSeen_0 : decode cX1_allLettersSeen 0 = .ok (.iconst 0, 1) := dk_3 (dk_at dksX1_allLettersSeen_0 0 rfl rfl)
theorem dX1_allLettersSeen_1 : decode cX1_allLettersSeen 1 = .ok (.istore_n 1, 1) := dk_60 (dk_at dksX1_allLettersSeen_0 1 rfl rfl)
theorem dX1_allLettersSeen_2 : decode cX1_allLettersSeen 2 = .ok (.iconst 0, 1) := dk_3 (dk_at dksX1_allLettersSeen_0 2 rfl rfl)
theorem dX1_allLettersSeen_3 : decode cX1_allLettersSeen 3 = .ok (.istore_n 2, 1) := dk_61 (dk_at dksX1_allLettersSeen_0 3 rfl rfl)
theorem dX1_allLettersSeen_4 : decode cX1_allLettersSeen 4 = .ok (.iload_n 2, 1) := dk_28 (dk_at dksX1_allLettersSeen_0 4 rfl rfl)
theorem dX1_allLettersSeen_5 : decode cX1_allLettersSeen 5 = .ok (.aload_n 0, 1) := dk_42 (dk_at dksX1_allLettersSeen_0 5 rfl rfl)
theorem dX1_allLettersSeen_6 : decode cX1_allLettersSeen 6 = .ok (.invokevirtual 72, 3) := dk_182 0 72 (dk_at dksX1_allLettersSeen_0 6 rfl rfl)
theorem dX1_allLettersSeen_9 : decode cX1_allLettersSeen 9 = .ok (.if_icmp .ge 17, 3) := dk_162 0 17 (dk_at dksX1_allLettersSeen_0 9 rfl rfl)
theorem dX1_allLettersSeen_12 : decode cX1_allLettersSeen 12 = .ok (.iload_n 1, 1) := dk_27 (dk_at dksX1_allLettersSeen_0 12 rfl rfl)
theorem dX1_allLettersSeen_13 : decode cX1_allLettersSeen 13 = .ok (.aload_n 0, 1) := dk_42 (dk_at dksX1_allLettersSeen_0 13 rfl rfl)
theorem dX1_allLettersSeen_14 : decode cX1_allLettersSeen 14 = .ok (.iload_n 2, 1) := dk_28 (dk_at dksX1_allLettersSeen_0 14 rfl rfl)
theorem dX1_allLettersSeen_15 : decode cX1_allLettersSeen 15 = .ok (.invokevirtual 138, 3) := dk_182 0 138 (dk_at dksX1_allLettersSeen_0 15 rfl rfl)
theorem dX1_allLettersSeen_18 : decode cX1_allLettersSeen 18 = .ok (.iadd, 1) := dk_96 (dk_at dksX1_allLettersSeen_0 18 rfl rfl)
theorem dX1_allLettersSeen_19 : decode cX1_allLettersSeen 19 = .ok (.istore_n 1, 1) := dk_60 (dk_at dksX1_allLettersSeen_0 19 rfl rfl)
theorem dX1_allLettersSeen_20 : decode cX1_allLettersSeen 20 = .ok (.iinc 2 1, 3) := dk_132 2 1 (dk_at dksX1_allLettersSeen_0 20 rfl rfl)
theorem dX1_allLettersSeen_23 : decode cX1_allLettersSeen 23 = .ok (.goto (-19), 3) := dk_167 255 237 (dk_at dksX1_allLettersSeen_1 0 rfl rfl)
theorem dX1_allLettersSeen_26 : decode cX1_allLettersSeen 26 = .ok (.iload_n 1, 1) := dk_27 (dk_at dksX1_allLettersSeen_1 3 rfl rfl)
theorem dX1_allLettersSeen_27 : decode cX1_allLettersSeen 27 = .ok (.ireturn, 1) := dk_172 (dk_at dksX1_allLettersSeen_1 4 rfl rfl)
abbrev cX1_differentRows : ByteArray := prog_5_method_27_code
def yX1_differentRows : MethodName := ⟨RX1, "differentRows", "()I"⟩
def dkwX1_differentRows_1 : List UInt8 := [182, 0, 169, 182, 0, 173, 87, 132, 2, 1, 167, 255, 232, 43, 182, 0, 174, 172]
abbrev dktX1_differentRows_1 : List UInt8 := dkwX1_differentRows_1 ++ []
def dkwX1_differentRows_0 : List UInt8 := [187, 0, 166, 89, 183, 0, 168, 76, 3, 61, 28, 42, 182, 0, 72, 162, 0, 22, 43, 42, 28, 182, 0, 144]
abbrev dktX1_differentRows_0 : List UInt8 := dkwX1_differentRows_0 ++ dktX1_differentRows_1
theorem dksX1_differentRows_0 : cX1_differentRows.data.toList.drop 0 = dktX1_differentRows_0 := by decide +kernel
theorem dksX1_differentRows_1 : cX1_differentRows.data.toList.drop 24 = dktX1_differentRows_1 := dk_seg dksX1_differentRows_0 24 rfl rfl
theorem dX1_differentRows_0 : decode cX1_differentRows 0 = .ok (.new 166, 3) := dk_187 0 166 (dk_at dksX1_differentRows_0 0 rfl rfl)
theorem dX1_differentRows_3 : decode cX1_differentRows 3 = .ok (.dup, 1) := dk_89 (dk_at dksX1_differentRows_0 3 rfl rfl)
theorem dX1_differentRows_4 : decode cX1_differentRows 4 = .ok (.invokespecial 168, 3) := dk_183 0 168 (dk_at dksX1_differentRows_0 4 rfl rfl)
theorem dX1_differentRows_7 : decode cX1_differentRows 7 = .ok (.astore_n 1, 1) := dk_76 (dk_at dksX1_differentRows_0 7 rfl rfl)
theorem dX1_differentRows_8 : decode cX1_differentRows 8 = .ok (.iconst 0, 1) := dk_3 (dk_at dksX1_differentRows_0 8 rfl rfl)
theorem dX1_differentRows_9 : decode cX1_differentRows 9 = .ok (.istore_n 2, 1) := dk_61 (dk_at dksX1_differentRows_0 9 rfl rfl)
theorem dX1_differentRows_10 : decode cX1_differentRows 10 = .ok (.iload_n 2, 1) := dk_28 (dk_at dksX1_differentRows_0 10 rfl rfl)
theorem dX1_differentRows_11 : decode cX1_differentRows 11 = .ok (.aload_n 0, 1) := dk_42 (dk_at dksX1_differentRows_0 11 rfl rfl)
theorem dX1_differentRows_12 : decode cX1_differentRows 12 = .ok (.invokevirtual 72, 3) := dk_182 0 72 (dk_at dksX1_differentRows_0 12 rfl rfl)
theorem dX1_differentRows_15 : decode cX1_differentRows 15 = .ok (.if_icmp .ge 22, 3) := dk_162 0 22 (dk_at dksX1_differentRows_0 15 rfl rfl)
theorem dX1_differentRows_18 : decode cX1_differentRows 18 = .ok (.aload_n 1, 1) := dk_43 (dk_at dksX1_differentRows_0 18 rfl rfl)
theorem dX1_differentRows_19 : decode cX1_differentRows 19 = .ok (.aload_n 0, 1) := dk_42 (dk_at dksX1_differentRows_0 19 rfl rfl)
theorem dX1_differentRows_20 : decode cX1_differentRows 20 = .ok (.iload_n 2, 1) := dk_28 (dk_at dksX1_differentRows_0 20 rfl rfl)
theorem dX1_differentRows_21 : decode cX1_differentRows 21 = .ok (.invokevirtual 144, 3) := dk_182 0 144 (dk_at dksX1_differentRows_0 21 rfl rfl)
theorem dX1_differentRows_24 : decode cX1_differentRows 24 = .ok (.invokevirtual 169, 3) := dk_182 0 169 (dk_at dksX1_differentRows_1 0 rfl rfl)
theorem dX1_differentRows_27 : decode cX1_differentRows 27 = .ok (.invokevirtual 173, 3) := dk_182 0 173 (dk_at dksX1_differentRows_1 3 rfl rfl)
theorem dX1_differentRows_30 : decode cX1_differentRows 30 = .ok (.pop, 1) := dk_87 (dk_at dksX1_differentRows_1 6 rfl rfl)
theorem dX1_differentRows_31 : decode cX1_differentRows 31 = .ok (.iinc 2 1, 3) := dk_132 2 1 (dk_at dksX1_differentRows_1 7 rfl rfl)
theorem dX1_differentRows_34 : decode cX1_differentRows 34 = .ok (.goto (-24), 3) := dk_167 255 232 (dk_at dksX1_differentRows_1 10 rfl rfl)
theorem dX1_differentRows_37 : decode cX1_differentRows 37 = .ok (.aload_n 1, 1) := dk_43 (dk_at dksX1_differentRows_1 13 rfl rfl)
theorem dX1_differentRows_38 : decode cX1_differentRows 38 = .ok (.invokevirtual 174, 3) := dk_182 0 174 (dk_at dksX1_differentRows_1 14 rfl rfl)
theorem dX1_differentRows_41 : decode cX1_differentRows 41 = .ok (.ireturn, 1) := dk_172 (dk_at dksX1_differentRows_1 17 rfl rfl)
abbrev cX1_allEfforts : ByteArray := prog_5_method_29_code
def yX1_allEfforts : MethodName := ⟨RX1, "allEfforts", "()I"⟩
def dkwX1_allEfforts_1 : List UInt8 := [167, 255, 237, 27, 172]
abbrev dktX1_allEfforts_1 : List UInt8 := dkwX1_allEfforts_1 ++ []
def dkwX1_allEfforts_0 : List UInt8 := [3, 60, 3, 61, 28, 42, 182, 0, 72, 162, 0, 17, 27, 42, 28, 182, 0, 175, 96, 60, 132, 2, 1]
abbrev dktX1_allEfforts_0 : List UInt8 := dkwX1_allEfforts_0 ++ dktX1_allEfforts_1
theorem dksX1_allEfforts_0 : cX1_allEfforts.data.toList.drop 0 = dktX1_allEfforts_0 := by decide +kernel
theorem dksX1_allEfforts_1 : cX1_allEfforts.data.toList.drop 23 = dktX1_allEfforts_1 := dk_seg dksX1_allEfforts_0 23 rfl rfl
theorem dX1_allEfforts_0 : decode cX1_allEfforts 0 = .ok (.iconst 0, 1) := dk_3 (dk_at dksX1_allEfforts_0 0 rfl rfl)
theorem dX1_allEfforts_1 : decode cX1_allEfforts 1 = .ok (.istore_n 1, 1) := dk_60 (dk_at dksX1_allEfforts_0 1 rfl rfl)
theorem dX1_allEfforts_2 : decode cX1_allEfforts 2 = .ok (.iconst 0, 1) := dk_3 (dk_at dksX1_allEfforts_0 2 rfl rfl)
theorem dX1_allEfforts_3 : decode cX1_allEfforts 3 = .ok (.istore_n 2, 1) := dk_61 (dk_at dksX1_allEfforts_0 3 rfl rfl)
theorem dX1_allEfforts_4 : decode cX1_allEfforts 4 = .ok (.iload_n 2, 1) := dk_28 (dk_at dksX1_allEfforts_0 4 rfl rfl)
theorem dX1_allEfforts_5 : decode cX1_allEfforts 5 = .ok (.aload_n 0, 1) := dk_42 (dk_at dksX1_allEfforts_0 5 rfl rfl)
theorem dX1_allEfforts_6 : decode cX1_allEfforts 6 = .ok (.invokevirtual 72, 3) := dk_182 0 72 (dk_at dksX1_allEfforts_0 6 rfl rfl)
theorem dX1_allEfforts_9 : decode cX1_allEfforts 9 = .ok (.if_icmp .ge 17, 3) := dk_162 0 17 (dk_at dksX1_allEfforts_0 9 rfl rfl)
theorem dX1_allEfforts_12 : decode cX1_allEfforts 12 = .ok (.iload_n 1, 1) := dk_27 (dk_at dksX1_allEfforts_0 12 rfl rfl)
theorem dX1_allEfforts_13 : decode cX1_allEfforts 13 = .ok (.aload_n 0, 1) := dk_42 (dk_at dksX1_allEfforts_0 13 rfl rfl)
theorem dX1_allEfforts_14 : decode cX1_allEfforts 14 = .ok (.iload_n 2, 1) := dk_28 (dk_at dksX1_allEfforts_0 14 rfl rfl)
theorem dX1_allEfforts_15 : decode cX1_allEfforts 15 = .ok (.invokevirtual 175, 3) := dk_182 0 175 (dk_at dksX1_allEfforts_0 15 rfl rfl)
theorem dX1_allEfforts_18 : decode cX1_allEfforts 18 = .ok (.iadd, 1) := dk_96 (dk_at dksX1_allEfforts_0 18 rfl rfl)
theorem dX1_allEfforts_19 : decode cX1_allEfforts 19 = .ok (.istore_n 1, 1) := dk_60 (dk_at dksX1_allEfforts_0 19 rfl rfl)
theorem dX1_allEfforts_20 : decode cX1_allEfforts 20 = .ok (.iinc 2 1, 3) := dk_132 2 1 (dk_at dksX1_allEfforts_0 20 rfl rfl)
theorem dX1_allEfforts_23 : decode cX1_allEfforts 23 = .ok (.goto (-19), 3) := dk_167 255 237 (dk_at dksX1_allEfforts_1 0 rfl rfl)
theorem dX1_allEfforts_26 : decode cX1_allEfforts 26 = .ok (.iload_n 1, 1) := dk_27 (dk_at dksX1_allEfforts_1 3 rfl rfl)
theorem dX1_allEfforts_27 : decode cX1_allEfforts 27 = .ok (.ireturn, 1) := dk_172 (dk_at dksX1_allEfforts_1 4 rfl rfl)
theorem q79 : (Jvm.Cond.initialized "SlatCrates$Yard") ∈ lw_all := lw_g (lw_at lw_m1 2 rfl) rfl
theorem q137 : (Jvm.Cond.instantiable "SlatCrates$Yard" (2 : Nat)) ∈ lw_all := lw_g (lw_at lw_m1 60 rfl) rfl
theorem q139 : (Jvm.Cond.instanceMethod ({ cls := "SlatCrates$Yard", name := "<init>", desc := "()V" } : Jvm.MethodName)) ∈ lw_all := lw_g (lw_at lw_m1 62 rfl) rfl
theorem q140 : (Jvm.Cond.code ({ cls := "SlatCrates$Yard", name := "<init>", desc := "()V" } : Jvm.MethodName) prog_5_method_1_code (1 : Nat) (Option.none : Option Jvm.ClassFile.FieldType)) ∈ lw_all := lw_g (lw_at lw_m1 63 rfl) rfl
theorem q141 : (Jvm.Cond.methodLink "SlatCrates$Yard" (3 : Nat) ({ cls := "java/lang/Object", name := "<init>", desc := "()V" } : Jvm.MethodName)) ∈ lw_all := lw_g (lw_at lw_m1 64 rfl) rfl
theorem q142 : (Jvm.Cond.classLink "SlatCrates$Yard" (9 : Nat) "java/util/ArrayList") ∈ lw_all := lw_g (lw_at lw_m1 65 rfl) rfl
theorem q144 : (Jvm.Cond.methodLink "SlatCrates$Yard" (11 : Nat) ({ cls := "java/util/ArrayList", name := "<init>", desc := "()V" } : Jvm.MethodName)) ∈ lw_all := lw_g (lw_at lw_m1 67 rfl) rfl
theorem q175 : (Jvm.Cond.fieldLink "SlatCrates$Yard" (12 : Nat) "SlatCrates$Yard" "crates" "Ljava/util/ArrayList;") ∈ lw_all := lw_g (lw_at lw_m1 98 rfl) rfl
theorem q177 : (Jvm.Cond.fieldLink "SlatCrates$Yard" (43 : Nat) "SlatCrates$Yard" "refused" "I") ∈ lw_all := lw_g (lw_at lw_m1 100 rfl) rfl
theorem q179 : (Jvm.Cond.laysFinal "SlatCrates$Yard" "SlatCrates$Yard" "crates" "Ljava/util/ArrayList;") ∈ lw_all := lw_g (lw_at lw_m1 102 rfl) rfl
theorem q180 : (Jvm.Cond.soleField "SlatCrates$Yard" "crates") ∈ lw_all := lw_g (lw_at lw_m1 103 rfl) rfl
theorem q181 : (Jvm.Cond.lays "SlatCrates$Yard" "SlatCrates$Yard" "refused" "I") ∈ lw_all := lw_g (lw_at lw_m1 104 rfl) rfl
theorem q182 : (Jvm.Cond.soleField "SlatCrates$Yard" "refused") ∈ lw_all := lw_g (lw_at lw_m1 105 rfl) rfl
theorem q183 : (Jvm.Cond.superclass "SlatCrates$Yard" "java/lang/Object") ∈ lw_all := lw_g (lw_at lw_m1 106 rfl) rfl
theorem q262 : (Jvm.Cond.instanceMethod ({ cls := "SlatCrates$Yard", name := "size", desc := "()I" } : Jvm.MethodName)) ∈ lw_all := lw_g (lw_at lw_m1 185 rfl) rfl
theorem q263 : (Jvm.Cond.selects "SlatCrates$Yard" ({ cls := "SlatCrates$Yard", name := "size", desc := "()I" } : Jvm.MethodName) ({ cls := "SlatCrates$Yard", name := "size", desc := "()I" } : Jvm.MethodName)) ∈ lw_all := lw_g (lw_at lw_m1 186 rfl) rfl
theorem q264 : (Jvm.Cond.code ({ cls := "SlatCrates$Yard", name := "size", desc := "()I" } : Jvm.MethodName) prog_5_method_3_code (1 : Nat) (Option.some Jvm.ClassFile.FieldType.int)) ∈ lw_all := lw_g (lw_at lw_m1 187 rfl) rfl
theorem q265 : (Jvm.Cond.methodLink "SlatCrates$Yard" (47 : Nat) ({ cls := "java/util/ArrayList", name := "size", desc := "()I" } : Jvm.MethodName)) ∈ lw_all := lw_g (lw_at lw_m1 188 rfl) rfl
theorem q286 : (Jvm.Cond.instanceMethod ({ cls := "SlatCrates$Yard", name := "copy", desc := "()LSlatCrates$Yard;" } : Jvm.MethodName)) ∈ lw_all := lw_g (lw_at lw_m1 209 rfl) rfl
theorem q287 : (Jvm.Cond.selects "SlatCrates$Yard" ({ cls := "SlatCrates$Yard", name := "copy", desc := "()LSlatCrates$Yard;" } : Jvm.MethodName) ({ cls := "SlatCrates$Yard", name := "copy", desc := "()LSlatCrates$Yard;" } : Jvm.MethodName)) ∈ lw_all := lw_g (lw_at lw_m1 210 rfl) rfl
theorem q288 : (Jvm.Cond.code ({ cls := "SlatCrates$Yard", name := "copy", desc := "()LSlatCrates$Yard;" } : Jvm.MethodName) prog_5_method_2_code (4 : Nat) (Option.some (Jvm.ClassFile.FieldType.object "SlatCrates$Yard"))) ∈ lw_all := lw_g (lw_at lw_m1 211 rfl) rfl
theorem q289 : (Jvm.Cond.classLink "SlatCrates$Yard" (13 : Nat) "SlatCrates$Yard") ∈ lw_all := lw_g (lw_at lw_m1 212 rfl) rfl
theorem q290 : (Jvm.Cond.methodLink "SlatCrates$Yard" (18 : Nat) ({ cls := "SlatCrates$Yard", name := "<init>", desc := "()V" } : Jvm.MethodName)) ∈ lw_all := lw_g (lw_at lw_m1 213 rfl) rfl
theorem q291 : (Jvm.Cond.methodLink "SlatCrates$Yard" (19 : Nat) ({ cls := "java/util/ArrayList", name := "iterator", desc := "()Ljava/util/Iterator;" } : Jvm.MethodName)) ∈ lw_all := lw_g (lw_at lw_m1 214 rfl) rfl
theorem q317 : (Jvm.Cond.interfaceEntry "SlatCrates$Yard" (23 : Nat)) ∈ lw_tbl := lw_at lw_m2 0 rfl
theorem q318 : (Jvm.Cond.methodLink "SlatCrates$Yard" (23 : Nat) ({ cls := "java/util/Iterator", name := "hasNext", desc := "()Z" } : Jvm.MethodName)) ∈ lw_all := lw_g (lw_at lw_m2 1 rfl) rfl
theorem q356 : (Jvm.Cond.interfaceEntry "SlatCrates$Yard" (29 : Nat)) ∈ lw_tbl := lw_at lw_m2 39 rfl
theorem q357 : (Jvm.Cond.methodLink "SlatCrates$Yard" (29 : Nat) ({ cls := "java/util/Iterator", name := "next", desc := "()Ljava/lang/Object;" } : Jvm.MethodName)) ∈ lw_all := lw_g (lw_at lw_m2 40 rfl) rfl
theorem q464 : (Jvm.Cond.selects "SlatCrates$Yard" ({ cls := "java/lang/Object", name := "getClass", desc := "()Ljava/lang/Class;" } : Jvm.MethodName) ({ cls := "java/lang/Object", name := "getClass", desc := "()Ljava/lang/Class;" } : Jvm.MethodName)) ∈ lw_all := lw_g (lw_at lw_m2 147 rfl) rfl
theorem q738 : (Jvm.Cond.classLink "SlatCrates$Yard" (33 : Nat) "SlatCrates$Crate") ∈ lw_all := lw_g (lw_at lw_m3 181 rfl) rfl
theorem q739 : (Jvm.Cond.methodLink "SlatCrates$Yard" (35 : Nat) ({ cls := "SlatCrates$Crate", name := "copy", desc := "()LSlatCrates$Crate;" } : Jvm.MethodName)) ∈ lw_all := lw_g (lw_at lw_m3 182 rfl) rfl
theorem q752 : (Jvm.Cond.fieldLinkNest "SlatCrates$Yard" (85 : Nat) "SlatCrates$Crate" "size" "I" "SlatCrates") ∈ lw_tbl := lw_at lw_m3 195 rfl
theorem q755 : (Jvm.Cond.fieldLinkNest "SlatCrates$Yard" (77 : Nat) "SlatCrates$Crate" "room" "I" "SlatCrates") ∈ lw_tbl := lw_at lw_m3 198 rfl
theorem q759 : (Jvm.Cond.fieldLinkNest "SlatCrates$Yard" (207 : Nat) "SlatCrates$Crate" "gaps" "I" "SlatCrates") ∈ lw_tbl := lw_at lw_m3 202 rfl
theorem q762 : (Jvm.Cond.fieldLinkNest "SlatCrates$Yard" (119 : Nat) "SlatCrates$Crate" "label" "[I" "SlatCrates") ∈ lw_tbl := lw_at lw_m3 205 rfl
theorem q764 : (Jvm.Cond.fieldLinkNest "SlatCrates$Yard" (59 : Nat) "SlatCrates$Crate" "holder" "I" "SlatCrates") ∈ lw_tbl := lw_at lw_m3 207 rfl
theorem q768 : (Jvm.Cond.fieldLinkNest "SlatCrates$Yard" (66 : Nat) "SlatCrates$Crate" "pile" "Ljava/util/ArrayList;" "SlatCrates") ∈ lw_tbl := lw_at lw_m3 211 rfl
theorem q857 : (Jvm.Cond.methodLink "SlatCrates$Yard" (39 : Nat) ({ cls := "java/util/ArrayList", name := "add", desc := "(Ljava/lang/Object;)Z" } : Jvm.MethodName)) ∈ lw_all := lw_g (lw_at lw_m4 60 rfl) rfl
theorem q910 : (Jvm.Cond.instanceMethod ({ cls := "SlatCrates$Yard", name := "whyNotPut", desc := "(II)I" } : Jvm.MethodName)) ∈ lw_all := lw_g (lw_at lw_m4 113 rfl) rfl
theorem q911 : (Jvm.Cond.selects "SlatCrates$Yard" ({ cls := "SlatCrates$Yard", name := "whyNotPut", desc := "(II)I" } : Jvm.MethodName) ({ cls := "SlatCrates$Yard", name := "whyNotPut", desc := "(II)I" } : Jvm.MethodName)) ∈ lw_all := lw_g (lw_at lw_m4 114 rfl) rfl
theorem q912 : (Jvm.Cond.code ({ cls := "SlatCrates$Yard", name := "whyNotPut", desc := "(II)I" } : Jvm.MethodName) prog_5_method_13_code (4 : Nat) (Option.some Jvm.ClassFile.FieldType.int)) ∈ lw_all := lw_g (lw_at lw_m4 115 rfl) rfl
theorem q913 : (Jvm.Cond.methodLink "SlatCrates$Yard" (99 : Nat) ({ cls := "SlatCrates$Yard", name := "above", desc := "(I)I" } : Jvm.MethodName)) ∈ lw_all := lw_g (lw_at lw_m4 116 rfl) rfl
theorem q914 : (Jvm.Cond.instanceMethod ({ cls := "SlatCrates$Yard", name := "above", desc := "(I)I" } : Jvm.MethodName)) ∈ lw_all := lw_g (lw_at lw_m4 117 rfl) rfl
theorem q915 : (Jvm.Cond.selects "SlatCrates$Yard" ({ cls := "SlatCrates$Yard", name := "above", desc := "(I)I" } : Jvm.MethodName) ({ cls := "SlatCrates$Yard", name := "above", desc := "(I)I" } : Jvm.MethodName)) ∈ lw_all := lw_g (lw_at lw_m4 118 rfl) rfl
theorem q916 : (Jvm.Cond.code ({ cls := "SlatCrates$Yard", name := "above", desc := "(I)I" } : Jvm.MethodName) prog_5_method_12_code (2 : Nat) (Option.some Jvm.ClassFile.FieldType.int)) ∈ lw_all := lw_g (lw_at lw_m4 119 rfl) rfl
theorem q917 : (Jvm.Cond.methodLink "SlatCrates$Yard" (62 : Nat) ({ cls := "SlatCrates$Yard", name := "isOnGround", desc := "(I)Z" } : Jvm.MethodName)) ∈ lw_all := lw_g (lw_at lw_m4 120 rfl) rfl
theorem q918 : (Jvm.Cond.instanceMethod ({ cls := "SlatCrates$Yard", name := "isOnGround", desc := "(I)Z" } : Jvm.MethodName)) ∈ lw_all := lw_g (lw_at lw_m4 121 rfl) rfl
theorem q919 : (Jvm.Cond.selects "SlatCrates$Yard" ({ cls := "SlatCrates$Yard", name := "isOnGround", desc := "(I)Z" } : Jvm.MethodName) ({ cls := "SlatCrates$Yard", name := "isOnGround", desc := "(I)Z" } : Jvm.MethodName)) ∈ lw_all := lw_g (lw_at lw_m4 122 rfl) rfl
theorem q920 : (Jvm.Cond.code ({ cls := "SlatCrates$Yard", name := "isOnGround", desc := "(I)Z" } : Jvm.MethodName) prog_5_method_5_code (2 : Nat) (Option.some Jvm.ClassFile.FieldType.boolean)) ∈ lw_all := lw_g (lw_at lw_m4 123 rfl) rfl
theorem q921 : (Jvm.Cond.methodLink "SlatCrates$Yard" (55 : Nat) ({ cls := "SlatCrates$Yard", name := "at", desc := "(I)LSlatCrates$Crate;" } : Jvm.MethodName)) ∈ lw_all := lw_g (lw_at lw_m4 124 rfl) rfl
theorem q922 : (Jvm.Cond.instanceMethod ({ cls := "SlatCrates$Yard", name := "at", desc := "(I)LSlatCrates$Crate;" } : Jvm.MethodName)) ∈ lw_all := lw_g (lw_at lw_m4 125 rfl) rfl
theorem q923 : (Jvm.Cond.selects "SlatCrates$Yard" ({ cls := "SlatCrates$Yard", name := "at", desc := "(I)LSlatCrates$Crate;" } : Jvm.MethodName) ({ cls := "SlatCrates$Yard", name := "at", desc := "(I)LSlatCrates$Crate;" } : Jvm.MethodName)) ∈ lw_all := lw_g (lw_at lw_m4 126 rfl) rfl
theorem q924 : (Jvm.Cond.code ({ cls := "SlatCrates$Yard", name := "at", desc := "(I)LSlatCrates$Crate;" } : Jvm.MethodName) prog_5_method_4_code (2 : Nat) (Option.some (Jvm.ClassFile.FieldType.object "SlatCrates$Crate"))) ∈ lw_all := lw_g (lw_at lw_m4 127 rfl) rfl
theorem q925 : (Jvm.Cond.methodLink "SlatCrates$Yard" (51 : Nat) ({ cls := "java/util/ArrayList", name := "get", desc := "(I)Ljava/lang/Object;" } : Jvm.MethodName)) ∈ lw_all := lw_g (lw_at lw_m4 128 rfl) rfl
theorem q926 : (Jvm.Cond.methodLink "SlatCrates$Yard" (95 : Nat) ({ cls := "SlatCrates$Yard", name := "placeInPile", desc := "(I)I" } : Jvm.MethodName)) ∈ lw_all := lw_g (lw_at lw_m4 129 rfl) rfl
theorem q927 : (Jvm.Cond.instanceMethod ({ cls := "SlatCrates$Yard", name := "placeInPile", desc := "(I)I" } : Jvm.MethodName)) ∈ lw_all := lw_g (lw_at lw_m4 130 rfl) rfl
theorem q928 : (Jvm.Cond.selects "SlatCrates$Yard" ({ cls := "SlatCrates$Yard", name := "placeInPile", desc := "(I)I" } : Jvm.MethodName) ({ cls := "SlatCrates$Yard", name := "placeInPile", desc := "(I)I" } : Jvm.MethodName)) ∈ lw_all := lw_g (lw_at lw_m4 131 rfl) rfl
theorem q929 : (Jvm.Cond.code ({ cls := "SlatCrates$Yard", name := "placeInPile", desc := "(I)I" } : Jvm.MethodName) prog_5_method_11_code (2 : Nat) (Option.some Jvm.ClassFile.FieldType.int)) ∈ lw_all := lw_g (lw_at lw_m4 132 rfl) rfl
theorem q930 : (Jvm.Cond.methodLink "SlatCrates$Yard" (87 : Nat) ({ cls := "java/lang/Integer", name := "valueOf", desc := "(I)Ljava/lang/Integer;" } : Jvm.MethodName)) ∈ lw_all := lw_g (lw_at lw_m4 133 rfl) rfl
theorem q950 : (Jvm.Cond.methodLink "SlatCrates$Yard" (91 : Nat) ({ cls := "java/util/ArrayList", name := "indexOf", desc := "(Ljava/lang/Object;)I" } : Jvm.MethodName)) ∈ lw_all := lw_g (lw_at lw_m4 153 rfl) rfl
theorem q969 : (Jvm.Cond.selects "SlatCrates$Yard" ({ cls := "java/lang/Object", name := "equals", desc := "(Ljava/lang/Object;)Z" } : Jvm.MethodName) ({ cls := "java/lang/Object", name := "equals", desc := "(Ljava/lang/Object;)Z" } : Jvm.MethodName)) ∈ lw_all := lw_g (lw_at lw_m4 172 rfl) rfl
theorem q989 : (Jvm.Cond.methodLink "SlatCrates$Yard" (73 : Nat) ({ cls := "SlatCrates$Yard", name := "isAround", desc := "(II)Z" } : Jvm.MethodName)) ∈ lw_all := lw_g (lw_at lw_m4 192 rfl) rfl
theorem q990 : (Jvm.Cond.instanceMethod ({ cls := "SlatCrates$Yard", name := "isAround", desc := "(II)Z" } : Jvm.MethodName)) ∈ lw_all := lw_g (lw_at lw_m4 193 rfl) rfl
theorem q991 : (Jvm.Cond.selects "SlatCrates$Yard" ({ cls := "SlatCrates$Yard", name := "isAround", desc := "(II)Z" } : Jvm.MethodName) ({ cls := "SlatCrates$Yard", name := "isAround", desc := "(II)Z" } : Jvm.MethodName)) ∈ lw_all := lw_g (lw_at lw_m4 194 rfl) rfl
theorem q992 : (Jvm.Cond.code ({ cls := "SlatCrates$Yard", name := "isAround", desc := "(II)Z" } : Jvm.MethodName) prog_5_method_8_code (4 : Nat) (Option.some Jvm.ClassFile.FieldType.boolean)) ∈ lw_all := lw_g (lw_at lw_m4 195 rfl) rfl
theorem q993 : (Jvm.Cond.methodLink "SlatCrates$Yard" (102 : Nat) ({ cls := "SlatCrates$Yard", name := "left", desc := "(I)I" } : Jvm.MethodName)) ∈ lw_all := lw_g (lw_at lw_m4 196 rfl) rfl
theorem q994 : (Jvm.Cond.instanceMethod ({ cls := "SlatCrates$Yard", name := "left", desc := "(I)I" } : Jvm.MethodName)) ∈ lw_all := lw_g (lw_at lw_m4 197 rfl) rfl
theorem q995 : (Jvm.Cond.selects "SlatCrates$Yard" ({ cls := "SlatCrates$Yard", name := "left", desc := "(I)I" } : Jvm.MethodName) ({ cls := "SlatCrates$Yard", name := "left", desc := "(I)I" } : Jvm.MethodName)) ∈ lw_all := lw_g (lw_at lw_m4 198 rfl) rfl
theorem q996 : (Jvm.Cond.code ({ cls := "SlatCrates$Yard", name := "left", desc := "(I)I" } : Jvm.MethodName) prog_5_method_10_code (5 : Nat) (Option.some Jvm.ClassFile.FieldType.int)) ∈ lw_all := lw_g (lw_at lw_m4 199 rfl) rfl
theorem q997 : (Jvm.Cond.classLink "SlatCrates$Yard" (80 : Nat) "java/lang/Integer") ∈ lw_all := lw_g (lw_at lw_m4 200 rfl) rfl
theorem q998 : (Jvm.Cond.methodLink "SlatCrates$Yard" (82 : Nat) ({ cls := "java/lang/Integer", name := "intValue", desc := "()I" } : Jvm.MethodName)) ∈ lw_all := lw_g (lw_at lw_m4 201 rfl) rfl
theorem q1004 : (Jvm.Cond.instanceMethod ({ cls := "SlatCrates$Yard", name := "puts", desc := "(II)V" } : Jvm.MethodName)) ∈ lw_all := lw_g (lw_at lw_m4 207 rfl) rfl
theorem q1005 : (Jvm.Cond.selects "SlatCrates$Yard" ({ cls := "SlatCrates$Yard", name := "puts", desc := "(II)V" } : Jvm.MethodName) ({ cls := "SlatCrates$Yard", name := "puts", desc := "(II)V" } : Jvm.MethodName)) ∈ lw_all := lw_g (lw_at lw_m4 208 rfl) rfl
theorem q1006 : (Jvm.Cond.code ({ cls := "SlatCrates$Yard", name := "puts", desc := "(II)V" } : Jvm.MethodName) prog_5_method_17_code (3 : Nat) (Option.none : Option Jvm.ClassFile.FieldType)) ∈ lw_all := lw_g (lw_at lw_m4 209 rfl) rfl
theorem q1007 : (Jvm.Cond.methodLink "SlatCrates$Yard" (108 : Nat) ({ cls := "SlatCrates$Yard", name := "lifts", desc := "(I)V" } : Jvm.MethodName)) ∈ lw_all := lw_g (lw_at lw_m4 210 rfl) rfl
theorem q1008 : (Jvm.Cond.privateMethod ({ cls := "SlatCrates$Yard", name := "lifts", desc := "(I)V" } : Jvm.MethodName)) ∈ lw_tbl := lw_at lw_m4 211 rfl
theorem q1009 : (Jvm.Cond.instanceMethod ({ cls := "SlatCrates$Yard", name := "lifts", desc := "(I)V" } : Jvm.MethodName)) ∈ lw_all := lw_g (lw_at lw_m4 212 rfl) rfl
theorem q1010 : (Jvm.Cond.code ({ cls := "SlatCrates$Yard", name := "lifts", desc := "(I)V" } : Jvm.MethodName) prog_5_method_16_code (3 : Nat) (Option.none : Option Jvm.ClassFile.FieldType)) ∈ lw_all := lw_g (lw_at lw_m4 213 rfl) rfl
theorem q1011 : (Jvm.Cond.methodLink "SlatCrates$Yard" (105 : Nat) ({ cls := "java/util/ArrayList", name := "remove", desc := "(I)Ljava/lang/Object;" } : Jvm.MethodName)) ∈ lw_all := lw_g (lw_at lw_m4 214 rfl) rfl
theorem q1020 : (Jvm.Cond.instanceMethod ({ cls := "SlatCrates$Yard", name := "depth", desc := "(I)I" } : Jvm.MethodName)) ∈ lw_all := lw_g (lw_at lw_m4 223 rfl) rfl
theorem q1021 : (Jvm.Cond.selects "SlatCrates$Yard" ({ cls := "SlatCrates$Yard", name := "depth", desc := "(I)I" } : Jvm.MethodName) ({ cls := "SlatCrates$Yard", name := "depth", desc := "(I)I" } : Jvm.MethodName)) ∈ lw_all := lw_g (lw_at lw_m4 224 rfl) rfl
theorem q1022 : (Jvm.Cond.code ({ cls := "SlatCrates$Yard", name := "depth", desc := "(I)I" } : Jvm.MethodName) prog_5_method_7_code (4 : Nat) (Option.some Jvm.ClassFile.FieldType.int)) ∈ lw_all := lw_g (lw_at lw_m4 225 rfl) rfl
theorem q1028 : (Jvm.Cond.instanceMethod ({ cls := "SlatCrates$Yard", name := "whyNotGround", desc := "(I)I" } : Jvm.MethodName)) ∈ lw_all := lw_g (lw_at lw_m4 231 rfl) rfl
theorem q1029 : (Jvm.Cond.selects "SlatCrates$Yard" ({ cls := "SlatCrates$Yard", name := "whyNotGround", desc := "(I)I" } : Jvm.MethodName) ({ cls := "SlatCrates$Yard", name := "whyNotGround", desc := "(I)I" } : Jvm.MethodName)) ∈ lw_all := lw_g (lw_at lw_m4 232 rfl) rfl
theorem q1030 : (Jvm.Cond.code ({ cls := "SlatCrates$Yard", name := "whyNotGround", desc := "(I)I" } : Jvm.MethodName) prog_5_method_14_code (2 : Nat) (Option.some Jvm.ClassFile.FieldType.int)) ∈ lw_all := lw_g (lw_at lw_m4 233 rfl) rfl
theorem q1046 : (Jvm.Cond.instanceMethod ({ cls := "SlatCrates$Yard", name := "whyNotBreak", desc := "(I)I" } : Jvm.MethodName)) ∈ lw_all := lw_g (lw_at lw_m5 9 rfl) rfl
theorem q1047 : (Jvm.Cond.selects "SlatCrates$Yard" ({ cls := "SlatCrates$Yard", name := "whyNotBreak", desc := "(I)I" } : Jvm.MethodName) ({ cls := "SlatCrates$Yard", name := "whyNotBreak", desc := "(I)I" } : Jvm.MethodName)) ∈ lw_all := lw_g (lw_at lw_m5 10 rfl) rfl
theorem q1048 : (Jvm.Cond.code ({ cls := "SlatCrates$Yard", name := "whyNotBreak", desc := "(I)I" } : Jvm.MethodName) prog_5_method_15_code (2 : Nat) (Option.some Jvm.ClassFile.FieldType.int)) ∈ lw_all := lw_g (lw_at lw_m5 11 rfl) rfl
theorem q1049 : (Jvm.Cond.methodLink "SlatCrates$Yard" (69 : Nat) ({ cls := "java/util/ArrayList", name := "isEmpty", desc := "()Z" } : Jvm.MethodName)) ∈ lw_all := lw_g (lw_at lw_m5 12 rfl) rfl
theorem q1054 : (Jvm.Cond.instanceMethod ({ cls := "SlatCrates$Yard", name := "breaksUp", desc := "(I)V" } : Jvm.MethodName)) ∈ lw_all := lw_g (lw_at lw_m5 17 rfl) rfl
theorem q1055 : (Jvm.Cond.selects "SlatCrates$Yard" ({ cls := "SlatCrates$Yard", name := "breaksUp", desc := "(I)V" } : Jvm.MethodName) ({ cls := "SlatCrates$Yard", name := "breaksUp", desc := "(I)V" } : Jvm.MethodName)) ∈ lw_all := lw_g (lw_at lw_m5 18 rfl) rfl
theorem q1056 : (Jvm.Cond.code ({ cls := "SlatCrates$Yard", name := "breaksUp", desc := "(I)V" } : Jvm.MethodName) prog_5_method_18_code (5 : Nat) (Option.none : Option Jvm.ClassFile.FieldType)) ∈ lw_all := lw_g (lw_at lw_m5 19 rfl) rfl
theorem q1057 : (Jvm.Cond.methodLink "SlatCrates$Yard" (112 : Nat) ({ cls := "java/util/ArrayList", name := "set", desc := "(ILjava/lang/Object;)Ljava/lang/Object;" } : Jvm.MethodName)) ∈ lw_all := lw_g (lw_at lw_m5 20 rfl) rfl
theorem q1202 : (Jvm.Cond.instanceMethod ({ cls := "SlatCrates$Yard", name := "writes", desc := "(ILjava/lang/StringBuilder;)V" } : Jvm.MethodName)) ∈ lw_all := lw_g (lw_at lw_m5 165 rfl) rfl
theorem q1203 : (Jvm.Cond.selects "SlatCrates$Yard" ({ cls := "SlatCrates$Yard", name := "writes", desc := "(ILjava/lang/StringBuilder;)V" } : Jvm.MethodName) ({ cls := "SlatCrates$Yard", name := "writes", desc := "(ILjava/lang/StringBuilder;)V" } : Jvm.MethodName)) ∈ lw_all := lw_g (lw_at lw_m5 166 rfl) rfl
theorem q1204 : (Jvm.Cond.code ({ cls := "SlatCrates$Yard", name := "writes", desc := "(ILjava/lang/StringBuilder;)V" } : Jvm.MethodName) prog_5_method_37_code (8 : Nat) (Option.none : Option Jvm.ClassFile.FieldType)) ∈ lw_all := lw_g (lw_at lw_m5 167 rfl) rfl
theorem q1205 : (Jvm.Cond.methodLink "SlatCrates$Yard" (198 : Nat) ({ cls := "java/lang/StringBuilder", name := "append", desc := "(C)Ljava/lang/StringBuilder;" } : Jvm.MethodName)) ∈ lw_all := lw_g (lw_at lw_m5 168 rfl) rfl
theorem q1206 : (Jvm.Cond.methodLink "SlatCrates$Yard" (204 : Nat) ({ cls := "java/lang/StringBuilder", name := "append", desc := "(I)Ljava/lang/StringBuilder;" } : Jvm.MethodName)) ∈ lw_all := lw_g (lw_at lw_m5 169 rfl) rfl
theorem q1231 : (Jvm.Cond.methodLink "SlatCrates$Yard" (210 : Nat) ({ cls := "SlatCrates$Yard", name := "writes", desc := "(ILjava/lang/StringBuilder;)V" } : Jvm.MethodName)) ∈ lw_all := lw_g (lw_at lw_m5 194 rfl) rfl
theorem q1239 : (Jvm.Cond.instanceMethod ({ cls := "SlatCrates$Yard", name := "load", desc := "(I)I" } : Jvm.MethodName)) ∈ lw_all := lw_g (lw_at lw_m5 202 rfl) rfl
theorem q1240 : (Jvm.Cond.selects "SlatCrates$Yard" ({ cls := "SlatCrates$Yard", name := "load", desc := "(I)I" } : Jvm.MethodName) ({ cls := "SlatCrates$Yard", name := "load", desc := "(I)I" } : Jvm.MethodName)) ∈ lw_all := lw_g (lw_at lw_m5 203 rfl) rfl
theorem q1241 : (Jvm.Cond.code ({ cls := "SlatCrates$Yard", name := "load", desc := "(I)I" } : Jvm.MethodName) prog_5_method_9_code (4 : Nat) (Option.some Jvm.ClassFile.FieldType.int)) ∈ lw_all := lw_g (lw_at lw_m5 204 rfl) rfl
theorem q1242 : (Jvm.Cond.methodLink "SlatCrates$Yard" (72 : Nat) ({ cls := "SlatCrates$Yard", name := "size", desc := "()I" } : Jvm.MethodName)) ∈ lw_all := lw_g (lw_at lw_m5 205 rfl) rfl
theorem q1246 : (Jvm.Cond.instanceMethod ({ cls := "SlatCrates$Yard", name := "effort", desc := "(I)I" } : Jvm.MethodName)) ∈ lw_all := lw_g (lw_at lw_m5 209 rfl) rfl
theorem q1247 : (Jvm.Cond.selects "SlatCrates$Yard" ({ cls := "SlatCrates$Yard", name := "effort", desc := "(I)I" } : Jvm.MethodName) ({ cls := "SlatCrates$Yard", name := "effort", desc := "(I)I" } : Jvm.MethodName)) ∈ lw_all := lw_g (lw_at lw_m5 210 rfl) rfl
theorem q1248 : (Jvm.Cond.code ({ cls := "SlatCrates$Yard", name := "effort", desc := "(I)I" } : Jvm.MethodName) prog_5_method_28_code (4 : Nat) (Option.some Jvm.ClassFile.FieldType.int)) ∈ lw_all := lw_g (lw_at lw_m5 211 rfl) rfl
theorem q1250 : (Jvm.Cond.instanceMethod ({ cls := "SlatCrates$Yard", name := "canBeTold", desc := "(I)Z" } : Jvm.MethodName)) ∈ lw_all := lw_g (lw_at lw_m5 213 rfl) rfl
theorem q1251 : (Jvm.Cond.selects "SlatCrates$Yard" ({ cls := "SlatCrates$Yard", name := "canBeTold", desc := "(I)Z" } : Jvm.MethodName) ({ cls := "SlatCrates$Yard", name := "canBeTold", desc := "(I)Z" } : Jvm.MethodName)) ∈ lw_all := lw_g (lw_at lw_m5 214 rfl) rfl
theorem q1252 : (Jvm.Cond.code ({ cls := "SlatCrates$Yard", name := "canBeTold", desc := "(I)Z" } : Jvm.MethodName) prog_5_method_25_code (2 : Nat) (Option.some Jvm.ClassFile.FieldType.boolean)) ∈ lw_all := lw_g (lw_at lw_m5 215 rfl) rfl
theorem q1253 : (Jvm.Cond.methodLink "SlatCrates$Yard" (155 : Nat) ({ cls := "SlatCrates$Yard", name := "looks", desc := "()Ljava/util/HashMap;" } : Jvm.MethodName)) ∈ lw_all := lw_g (lw_at lw_m5 216 rfl) rfl
theorem q1254 : (Jvm.Cond.privateMethod ({ cls := "SlatCrates$Yard", name := "looks", desc := "()Ljava/util/HashMap;" } : Jvm.MethodName)) ∈ lw_tbl := lw_at lw_m5 217 rfl
theorem q1255 : (Jvm.Cond.instanceMethod ({ cls := "SlatCrates$Yard", name := "looks", desc := "()Ljava/util/HashMap;" } : Jvm.MethodName)) ∈ lw_all := lw_g (lw_at lw_m5 218 rfl) rfl
theorem q1256 : (Jvm.Cond.code ({ cls := "SlatCrates$Yard", name := "looks", desc := "()Ljava/util/HashMap;" } : Jvm.MethodName) prog_5_method_24_code (5 : Nat) (Option.some (Jvm.ClassFile.FieldType.object "java/util/HashMap"))) ∈ lw_all := lw_g (lw_at lw_m5 219 rfl) rfl
theorem q1257 : (Jvm.Cond.classLink "SlatCrates$Yard" (141 : Nat) "java/util/HashMap") ∈ lw_all := lw_g (lw_at lw_m5 220 rfl) rfl
theorem q1259 : (Jvm.Cond.methodLink "SlatCrates$Yard" (143 : Nat) ({ cls := "java/util/HashMap", name := "<init>", desc := "()V" } : Jvm.MethodName)) ∈ lw_all := lw_g (lw_at lw_m5 222 rfl) rfl
theorem q1298 : (Jvm.Cond.methodLink "SlatCrates$Yard" (144 : Nat) ({ cls := "SlatCrates$Yard", name := "seen", desc := "(I)LSlatCrates$Seen;" } : Jvm.MethodName)) ∈ lw_all := lw_g (lw_at lw_m6 21 rfl) rfl
theorem q1299 : (Jvm.Cond.instanceMethod ({ cls := "SlatCrates$Yard", name := "seen", desc := "(I)LSlatCrates$Seen;" } : Jvm.MethodName)) ∈ lw_all := lw_g (lw_at lw_m6 22 rfl) rfl
theorem q1300 : (Jvm.Cond.selects "SlatCrates$Yard" ({ cls := "SlatCrates$Yard", name := "seen", desc := "(I)LSlatCrates$Seen;" } : Jvm.MethodName) ({ cls := "SlatCrates$Yard", name := "seen", desc := "(I)LSlatCrates$Seen;" } : Jvm.MethodName)) ∈ lw_all := lw_g (lw_at lw_m6 23 rfl) rfl
theorem q1301 : (Jvm.Cond.code ({ cls := "SlatCrates$Yard", name := "seen", desc := "(I)LSlatCrates$Seen;" } : Jvm.MethodName) prog_5_method_21_code (4 : Nat) (Option.some (Jvm.ClassFile.FieldType.object "SlatCrates$Seen"))) ∈ lw_all := lw_g (lw_at lw_m6 24 rfl) rfl
theorem q1302 : (Jvm.Cond.methodLink "SlatCrates$Yard" (126 : Nat) ({ cls := "SlatCrates$Yard", name := "sign", desc := "(II)I" } : Jvm.MethodName)) ∈ lw_all := lw_g (lw_at lw_m6 25 rfl) rfl
theorem q1303 : (Jvm.Cond.privateMethod ({ cls := "SlatCrates$Yard", name := "sign", desc := "(II)I" } : Jvm.MethodName)) ∈ lw_tbl := lw_at lw_m6 26 rfl
theorem q1304 : (Jvm.Cond.instanceMethod ({ cls := "SlatCrates$Yard", name := "sign", desc := "(II)I" } : Jvm.MethodName)) ∈ lw_all := lw_g (lw_at lw_m6 27 rfl) rfl
theorem q1305 : (Jvm.Cond.code ({ cls := "SlatCrates$Yard", name := "sign", desc := "(II)I" } : Jvm.MethodName) prog_5_method_20_code (4 : Nat) (Option.some Jvm.ClassFile.FieldType.int)) ∈ lw_all := lw_g (lw_at lw_m6 28 rfl) rfl
theorem q1306 : (Jvm.Cond.methodLink "SlatCrates$Yard" (123 : Nat) ({ cls := "SlatCrates$Yard", name := "isOpen", desc := "(II)Z" } : Jvm.MethodName)) ∈ lw_all := lw_g (lw_at lw_m6 29 rfl) rfl
theorem q1307 : (Jvm.Cond.privateMethod ({ cls := "SlatCrates$Yard", name := "isOpen", desc := "(II)Z" } : Jvm.MethodName)) ∈ lw_tbl := lw_at lw_m6 30 rfl
theorem q1308 : (Jvm.Cond.instanceMethod ({ cls := "SlatCrates$Yard", name := "isOpen", desc := "(II)Z" } : Jvm.MethodName)) ∈ lw_all := lw_g (lw_at lw_m6 31 rfl) rfl
theorem q1309 : (Jvm.Cond.code ({ cls := "SlatCrates$Yard", name := "isOpen", desc := "(II)Z" } : Jvm.MethodName) prog_5_method_19_code (5 : Nat) (Option.some Jvm.ClassFile.FieldType.boolean)) ∈ lw_all := lw_g (lw_at lw_m6 32 rfl) rfl
theorem q1310 : (Jvm.Cond.methodLink "SlatCrates$Yard" (116 : Nat) ({ cls := "SlatCrates$Crate", name := "hasGap", desc := "(I)Z" } : Jvm.MethodName)) ∈ lw_all := lw_g (lw_at lw_m6 33 rfl) rfl
theorem q1314 : (Jvm.Cond.classLink "SlatCrates$Yard" (130 : Nat) "SlatCrates$Seen") ∈ lw_all := lw_g (lw_at lw_m6 37 rfl) rfl
theorem q1316 : (Jvm.Cond.methodLink "SlatCrates$Yard" (132 : Nat) ({ cls := "SlatCrates$Yard", name := "depth", desc := "(I)I" } : Jvm.MethodName)) ∈ lw_all := lw_g (lw_at lw_m6 39 rfl) rfl
theorem q1317 : (Jvm.Cond.methodLink "SlatCrates$Yard" (135 : Nat) ({ cls := "SlatCrates$Seen", name := "<init>", desc := "(III)V" } : Jvm.MethodName)) ∈ lw_all := lw_g (lw_at lw_m6 40 rfl) rfl
theorem q1331 : (Jvm.Cond.methodLink "SlatCrates$Yard" (148 : Nat) ({ cls := "java/util/HashMap", name := "get", desc := "(Ljava/lang/Object;)Ljava/lang/Object;" } : Jvm.MethodName)) ∈ lw_all := lw_g (lw_at lw_m6 54 rfl) rfl
theorem q1353 : (Jvm.Cond.selects "SlatCrates$Yard" ({ cls := "java/lang/Object", name := "hashCode", desc := "()I" } : Jvm.MethodName) ({ cls := "java/lang/Object", name := "hashCode", desc := "()I" } : Jvm.MethodName)) ∈ lw_all := lw_g (lw_at lw_m6 76 rfl) rfl
theorem q1636 : (Jvm.Cond.methodLink "SlatCrates$Yard" (151 : Nat) ({ cls := "java/util/HashMap", name := "put", desc := "(Ljava/lang/Object;Ljava/lang/Object;)Ljava/lang/Object;" } : Jvm.MethodName)) ∈ lw_all := lw_g (lw_at lw_m7 119 rfl) rfl
theorem q1780 : (Jvm.Cond.instanceMethod ({ cls := "SlatCrates$Yard", name := "lettersSeen", desc := "(I)I" } : Jvm.MethodName)) ∈ lw_all := lw_g (lw_at lw_m8 23 rfl) rfl
theorem q1781 : (Jvm.Cond.selects "SlatCrates$Yard" ({ cls := "SlatCrates$Yard", name := "lettersSeen", desc := "(I)I" } : Jvm.MethodName) ({ cls := "SlatCrates$Yard", name := "lettersSeen", desc := "(I)I" } : Jvm.MethodName)) ∈ lw_all := lw_g (lw_at lw_m8 24 rfl) rfl
theorem q1782 : (Jvm.Cond.code ({ cls := "SlatCrates$Yard", name := "lettersSeen", desc := "(I)I" } : Jvm.MethodName) prog_5_method_22_code (4 : Nat) (Option.some Jvm.ClassFile.FieldType.int)) ∈ lw_all := lw_g (lw_at lw_m8 25 rfl) rfl
theorem q1784 : (Jvm.Cond.instanceMethod ({ cls := "SlatCrates$Yard", name := "bestFor", desc := "(I)I" } : Jvm.MethodName)) ∈ lw_all := lw_g (lw_at lw_m8 27 rfl) rfl
theorem q1785 : (Jvm.Cond.selects "SlatCrates$Yard" ({ cls := "SlatCrates$Yard", name := "bestFor", desc := "(I)I" } : Jvm.MethodName) ({ cls := "SlatCrates$Yard", name := "bestFor", desc := "(I)I" } : Jvm.MethodName)) ∈ lw_all := lw_g (lw_at lw_m8 28 rfl) rfl
theorem q1786 : (Jvm.Cond.code ({ cls := "SlatCrates$Yard", name := "bestFor", desc := "(I)I" } : Jvm.MethodName) prog_5_method_36_code (5 : Nat) (Option.some Jvm.ClassFile.FieldType.int)) ∈ lw_all := lw_g (lw_at lw_m8 29 rfl) rfl
theorem q1812 : (Jvm.Cond.instanceMethod ({ cls := "SlatCrates$Yard", name := "effortsUp", desc := "(I)I" } : Jvm.MethodName)) ∈ lw_all := lw_g (lw_at lw_m8 55 rfl) rfl
theorem q1813 : (Jvm.Cond.selects "SlatCrates$Yard" ({ cls := "SlatCrates$Yard", name := "effortsUp", desc := "(I)I" } : Jvm.MethodName) ({ cls := "SlatCrates$Yard", name := "effortsUp", desc := "(I)I" } : Jvm.MethodName)) ∈ lw_all := lw_g (lw_at lw_m8 56 rfl) rfl
theorem q1814 : (Jvm.Cond.code ({ cls := "SlatCrates$Yard", name := "effortsUp", desc := "(I)I" } : Jvm.MethodName) prog_5_method_30_code (4 : Nat) (Option.some Jvm.ClassFile.FieldType.int)) ∈ lw_all := lw_g (lw_at lw_m8 57 rfl) rfl
theorem q1815 : (Jvm.Cond.methodLink "SlatCrates$Yard" (175 : Nat) ({ cls := "SlatCrates$Yard", name := "effort", desc := "(I)I" } : Jvm.MethodName)) ∈ lw_all := lw_g (lw_at lw_m8 58 rfl) rfl
theorem q1817 : (Jvm.Cond.instanceMethod ({ cls := "SlatCrates$Yard", name := "effortsDown", desc := "(I)I" } : Jvm.MethodName)) ∈ lw_all := lw_g (lw_at lw_m8 60 rfl) rfl
theorem q1818 : (Jvm.Cond.selects "SlatCrates$Yard" ({ cls := "SlatCrates$Yard", name := "effortsDown", desc := "(I)I" } : Jvm.MethodName) ({ cls := "SlatCrates$Yard", name := "effortsDown", desc := "(I)I" } : Jvm.MethodName)) ∈ lw_all := lw_g (lw_at lw_m8 61 rfl) rfl
theorem q1819 : (Jvm.Cond.code ({ cls := "SlatCrates$Yard", name := "effortsDown", desc := "(I)I" } : Jvm.MethodName) prog_5_method_31_code (4 : Nat) (Option.some Jvm.ClassFile.FieldType.int)) ∈ lw_all := lw_g (lw_at lw_m8 62 rfl) rfl
theorem q1820 : (Jvm.Cond.methodLink "SlatCrates$Yard" (178 : Nat) ({ cls := "SlatCrates$Yard", name := "effortsBelow", desc := "(III)I" } : Jvm.MethodName)) ∈ lw_all := lw_g (lw_at lw_m8 63 rfl) rfl
theorem q1821 : (Jvm.Cond.privateMethod ({ cls := "SlatCrates$Yard", name := "effortsBelow", desc := "(III)I" } : Jvm.MethodName)) ∈ lw_tbl := lw_at lw_m8 64 rfl
theorem q1822 : (Jvm.Cond.instanceMethod ({ cls := "SlatCrates$Yard", name := "effortsBelow", desc := "(III)I" } : Jvm.MethodName)) ∈ lw_all := lw_g (lw_at lw_m8 65 rfl) rfl
theorem q1823 : (Jvm.Cond.code ({ cls := "SlatCrates$Yard", name := "effortsBelow", desc := "(III)I" } : Jvm.MethodName) prog_5_method_32_code (7 : Nat) (Option.some Jvm.ClassFile.FieldType.int)) ∈ lw_all := lw_g (lw_at lw_m8 66 rfl) rfl
theorem q1839 : (Jvm.Cond.instanceMethod ({ cls := "SlatCrates$Yard", name := "nest", desc := "()Ljava/util/ArrayList;" } : Jvm.MethodName)) ∈ lw_all := lw_g (lw_at lw_m8 82 rfl) rfl
theorem q1840 : (Jvm.Cond.selects "SlatCrates$Yard" ({ cls := "SlatCrates$Yard", name := "nest", desc := "()Ljava/util/ArrayList;" } : Jvm.MethodName) ({ cls := "SlatCrates$Yard", name := "nest", desc := "()Ljava/util/ArrayList;" } : Jvm.MethodName)) ∈ lw_all := lw_g (lw_at lw_m8 83 rfl) rfl
theorem q1841 : (Jvm.Cond.code ({ cls := "SlatCrates$Yard", name := "nest", desc := "()Ljava/util/ArrayList;" } : Jvm.MethodName) prog_5_method_35_code (6 : Nat) (Option.some (Jvm.ClassFile.FieldType.object "java/util/ArrayList"))) ∈ lw_all := lw_g (lw_at lw_m8 84 rfl) rfl
theorem q1842 : (Jvm.Cond.methodLink "SlatCrates$Yard" (194 : Nat) ({ cls := "SlatCrates$Yard", name := "lengths", desc := "()[I" } : Jvm.MethodName)) ∈ lw_all := lw_g (lw_at lw_m8 85 rfl) rfl
theorem q1843 : (Jvm.Cond.privateMethod ({ cls := "SlatCrates$Yard", name := "lengths", desc := "()[I" } : Jvm.MethodName)) ∈ lw_tbl := lw_at lw_m8 86 rfl
theorem q1844 : (Jvm.Cond.instanceMethod ({ cls := "SlatCrates$Yard", name := "lengths", desc := "()[I" } : Jvm.MethodName)) ∈ lw_all := lw_g (lw_at lw_m8 87 rfl) rfl
theorem q1845 : (Jvm.Cond.code ({ cls := "SlatCrates$Yard", name := "lengths", desc := "()[I" } : Jvm.MethodName) prog_5_method_33_code (4 : Nat) (Option.some (Jvm.ClassFile.FieldType.array Jvm.ClassFile.FieldType.int))) ∈ lw_all := lw_g (lw_at lw_m8 88 rfl) rfl
theorem q1846 : (Jvm.Cond.methodLink "SlatCrates$Yard" (182 : Nat) ({ cls := "SlatCrates$Yard", name := "isLoose", desc := "(I)Z" } : Jvm.MethodName)) ∈ lw_all := lw_g (lw_at lw_m8 89 rfl) rfl
theorem q1847 : (Jvm.Cond.instanceMethod ({ cls := "SlatCrates$Yard", name := "isLoose", desc := "(I)Z" } : Jvm.MethodName)) ∈ lw_all := lw_g (lw_at lw_m8 90 rfl) rfl
theorem q1848 : (Jvm.Cond.selects "SlatCrates$Yard" ({ cls := "SlatCrates$Yard", name := "isLoose", desc := "(I)Z" } : Jvm.MethodName) ({ cls := "SlatCrates$Yard", name := "isLoose", desc := "(I)Z" } : Jvm.MethodName)) ∈ lw_all := lw_g (lw_at lw_m8 91 rfl) rfl
theorem q1849 : (Jvm.Cond.code ({ cls := "SlatCrates$Yard", name := "isLoose", desc := "(I)Z" } : Jvm.MethodName) prog_5_method_6_code (2 : Nat) (Option.some Jvm.ClassFile.FieldType.boolean)) ∈ lw_all := lw_g (lw_at lw_m8 92 rfl) rfl
theorem q1850 : (Jvm.Cond.methodLink "SlatCrates$Yard" (185 : Nat) ({ cls := "SlatCrates$Yard", name := "longest", desc := "([II)I" } : Jvm.MethodName)) ∈ lw_all := lw_g (lw_at lw_m8 93 rfl) rfl
theorem q1851 : (Jvm.Cond.privateMethod ({ cls := "SlatCrates$Yard", name := "longest", desc := "([II)I" } : Jvm.MethodName)) ∈ lw_tbl := lw_at lw_m8 94 rfl
theorem q1852 : (Jvm.Cond.instanceMethod ({ cls := "SlatCrates$Yard", name := "longest", desc := "([II)I" } : Jvm.MethodName)) ∈ lw_all := lw_g (lw_at lw_m8 95 rfl) rfl
theorem q1853 : (Jvm.Cond.code ({ cls := "SlatCrates$Yard", name := "longest", desc := "([II)I" } : Jvm.MethodName) prog_5_method_34_code (5 : Nat) (Option.some Jvm.ClassFile.FieldType.int)) ∈ lw_all := lw_g (lw_at lw_m8 96 rfl) rfl
theorem q1854 : (Jvm.Cond.methodLink "SlatCrates$Yard" (189 : Nat) ({ cls := "java/lang/Math", name := "max", desc := "(II)I" } : Jvm.MethodName)) ∈ lw_all := lw_g (lw_at lw_m8 97 rfl) rfl
theorem q1878 : (Jvm.Cond.instanceMethod ({ cls := "SlatCrates$Yard", name := "told", desc := "()I" } : Jvm.MethodName)) ∈ lw_all := lw_g (lw_at lw_m8 121 rfl) rfl
theorem q1879 : (Jvm.Cond.selects "SlatCrates$Yard" ({ cls := "SlatCrates$Yard", name := "told", desc := "()I" } : Jvm.MethodName) ({ cls := "SlatCrates$Yard", name := "told", desc := "()I" } : Jvm.MethodName)) ∈ lw_all := lw_g (lw_at lw_m8 122 rfl) rfl
theorem q1880 : (Jvm.Cond.code ({ cls := "SlatCrates$Yard", name := "told", desc := "()I" } : Jvm.MethodName) prog_5_method_26_code (4 : Nat) (Option.some Jvm.ClassFile.FieldType.int)) ∈ lw_all := lw_g (lw_at lw_m8 123 rfl) rfl
theorem q1881 : (Jvm.Cond.methodLink "SlatCrates$Yard" (159 : Nat) ({ cls := "java/util/HashMap", name := "values", desc := "()Ljava/util/Collection;" } : Jvm.MethodName)) ∈ lw_all := lw_g (lw_at lw_m8 124 rfl) rfl
theorem q1895 : (Jvm.Cond.interfaceEntry "SlatCrates$Yard" (163 : Nat)) ∈ lw_tbl := lw_at lw_m8 138 rfl
theorem q1896 : (Jvm.Cond.methodLink "SlatCrates$Yard" (163 : Nat) ({ cls := "java/util/Collection", name := "iterator", desc := "()Ljava/util/Iterator;" } : Jvm.MethodName)) ∈ lw_all := lw_g (lw_at lw_m8 139 rfl) rfl
theorem q2050 : (Jvm.Cond.instanceMethod ({ cls := "SlatCrates$Yard", name := "allLettersSeen", desc := "()I" } : Jvm.MethodName)) ∈ lw_all := lw_g (lw_at lw_m9 53 rfl) rfl
theorem q2051 : (Jvm.Cond.selects "SlatCrates$Yard" ({ cls := "SlatCrates$Yard", name := "allLettersSeen", desc := "()I" } : Jvm.MethodName) ({ cls := "SlatCrates$Yard", name := "allLettersSeen", desc := "()I" } : Jvm.MethodName)) ∈ lw_all := lw_g (lw_at lw_m9 54 rfl) rfl
theorem q2052 : (Jvm.Cond.code ({ cls := "SlatCrates$Yard", name := "allLettersSeen", desc := "()I" } : Jvm.MethodName) prog_5_method_23_code (3 : Nat) (Option.some Jvm.ClassFile.FieldType.int)) ∈ lw_all := lw_g (lw_at lw_m9 55 rfl) rfl
theorem q2053 : (Jvm.Cond.methodLink "SlatCrates$Yard" (138 : Nat) ({ cls := "SlatCrates$Yard", name := "lettersSeen", desc := "(I)I" } : Jvm.MethodName)) ∈ lw_all := lw_g (lw_at lw_m9 56 rfl) rfl
theorem q2055 : (Jvm.Cond.instanceMethod ({ cls := "SlatCrates$Yard", name := "differentRows", desc := "()I" } : Jvm.MethodName)) ∈ lw_all := lw_g (lw_at lw_m9 58 rfl) rfl
theorem q2056 : (Jvm.Cond.selects "SlatCrates$Yard" ({ cls := "SlatCrates$Yard", name := "differentRows", desc := "()I" } : Jvm.MethodName) ({ cls := "SlatCrates$Yard", name := "differentRows", desc := "()I" } : Jvm.MethodName)) ∈ lw_all := lw_g (lw_at lw_m9 59 rfl) rfl
theorem q2057 : (Jvm.Cond.code ({ cls := "SlatCrates$Yard", name := "differentRows", desc := "()I" } : Jvm.MethodName) prog_5_method_27_code (3 : Nat) (Option.some Jvm.ClassFile.FieldType.int)) ∈ lw_all := lw_g (lw_at lw_m9 60 rfl) rfl
theorem q2058 : (Jvm.Cond.classLink "SlatCrates$Yard" (166 : Nat) "java/util/HashSet") ∈ lw_all := lw_g (lw_at lw_m9 61 rfl) rfl
theorem q2060 : (Jvm.Cond.methodLink "SlatCrates$Yard" (168 : Nat) ({ cls := "java/util/HashSet", name := "<init>", desc := "()V" } : Jvm.MethodName)) ∈ lw_all := lw_g (lw_at lw_m9 63 rfl) rfl
theorem q2070 : (Jvm.Cond.methodLink "SlatCrates$Yard" (169 : Nat) ({ cls := "SlatCrates$Seen", name := "bare", desc := "()LSlatCrates$Seen;" } : Jvm.MethodName)) ∈ lw_all := lw_g (lw_at lw_m9 73 rfl) rfl
theorem q2075 : (Jvm.Cond.methodLink "SlatCrates$Yard" (173 : Nat) ({ cls := "java/util/HashSet", name := "add", desc := "(Ljava/lang/Object;)Z" } : Jvm.MethodName)) ∈ lw_all := lw_g (lw_at lw_m9 78 rfl) rfl
theorem q2082 : (Jvm.Cond.methodLink "SlatCrates$Yard" (174 : Nat) ({ cls := "java/util/HashSet", name := "size", desc := "()I" } : Jvm.MethodName)) ∈ lw_all := lw_g (lw_at lw_m9 85 rfl) rfl
theorem q2087 : (Jvm.Cond.instanceMethod ({ cls := "SlatCrates$Yard", name := "allEfforts", desc := "()I" } : Jvm.MethodName)) ∈ lw_all := lw_g (lw_at lw_m9 90 rfl) rfl
theorem q2088 : (Jvm.Cond.selects "SlatCrates$Yard" ({ cls := "SlatCrates$Yard", name := "allEfforts", desc := "()I" } : Jvm.MethodName) ({ cls := "SlatCrates$Yard", name := "allEfforts", desc := "()I" } : Jvm.MethodName)) ∈ lw_all := lw_g (lw_at lw_m9 91 rfl) rfl
theorem q2089 : (Jvm.Cond.code ({ cls := "SlatCrates$Yard", name := "allEfforts", desc := "()I" } : Jvm.MethodName) prog_5_method_29_code (3 : Nat) (Option.some Jvm.ClassFile.FieldType.int)) ∈ lw_all := lw_g (lw_at lw_m9 92 rfl) rfl
theorem q2521 : (Jvm.Cond.castable "SlatCrates$Yard" "java/lang/Object") ∈ lw_tbl := lw_at lw_m11 44 rfl
theorem in_X1 : ∀ w ∈ wsX10, w ∈ lw_all := lw_in wsX10 [179, 181] (by decide +kernel) (by decide +kernel)

/-! SlatCrates$Crate -/
def RX3 : String := "SlatCrates$Crate"
def TX3 : u_T := fun k => match k with
  | 0 => ("SlatCrates$Crate", "size", "I", true)
  | 1 => ("SlatCrates$Crate", "room", "I", true)
  | 2 => ("SlatCrates$Crate", "gaps", "I", false)
  | 3 => ("SlatCrates$Crate", "label", "[I", true)
  | 4 => ("SlatCrates$Crate", "holder", "I", false)
  | _ => ("SlatCrates$Crate", "pile", "Ljava/util/ArrayList;", false)
def tyX3 : Nat → FieldType := fun k => match k with
  | 0 => .int
  | 1 => .int
  | 2 => .int
  | 3 => .array .int
  | 4 => .int
  | _ => .object "java/util/ArrayList"
abbrev wsX30 : List Cond := u_ws RX3 TX3 6
theorem nmX3 : ∀ a, a < 6 → ∀ b, b < 6 → a ≠ b → (TX3 a).2.1 ≠ (TX3 b).2.1 := by decide +kernel
theorem tyX3_ok : ∀ k, k < 6 → parseFieldDescriptor (TX3 k).2.2.1 = some (tyX3 k) := by decide +kernel
abbrev cX3_copy : ByteArray := prog_2_method_2_code
def yX3_copy : MethodName := ⟨RX3, "copy", "()LSlatCrates$Crate;"⟩
def dkwX3_copy_1 : List UInt8 := [43, 42, 180, 0, 9, 181, 0, 9, 43, 180, 0, 18, 42, 180, 0, 18, 182, 0, 38, 87, 43, 176]
abbrev dktX3_copy_1 : List UInt8 := dkwX3_copy_1 ++ []
def dkwX3_copy_0 : List UInt8 := [187, 0, 10, 89, 42, 180, 0, 22, 42, 180, 0, 25, 42, 180, 0, 28, 42, 180, 0, 31, 183, 0, 35, 76]
abbrev dktX3_copy_0 : List UInt8 := dkwX3_copy_0 ++ dktX3_copy_1
theorem dksX3_copy_0 : cX3_copy.data.toList.drop 0 = dktX3_copy_0 := by decide +kernel
theorem dksX3_copy_1 : cX3_copy.data.toList.drop 24 = dktX3_copy_1 := dk_seg dksX3_copy_0 24 rfl rfl
theorem dX3_copy_0 : decode cX3_copy 0 = .ok (.new 10, 3) := dk_187 0 10 (dk_at dksX3_copy_0 0 rfl rfl)
theorem dX3_copy_3 : decode cX3_copy 3 = .ok (.dup, 1) := dk_89 (dk_at dksX3_copy_0 3 rfl rfl)
theorem dX3_copy_4 : decode cX3_copy 4 = .ok (.aload_n 0, 1) := dk_42 (dk_at dksX3_copy_0 4 rfl rfl)
theorem dX3_copy_5 : decode cX3_copy 5 = .ok (.getfield 22, 3) := dk_180 0 22 (dk_at dksX3_copy_0 5 rfl rfl)
theorem dX3_copy_8 : decode cX3_copy 8 = .ok (.aload_n 0, 1) := dk_42 (dk_at dksX3_copy_0 8 rfl rfl)
theorem dX3_copy_9 : decode cX3_copy 9 = .ok (.getfield 25, 3) := dk_180 0 25 (dk_at dksX3_copy_0 9 rfl rfl)
theorem dX3_copy_12 : decode cX3_copy 12 = .ok (.aload_n 0, 1) := dk_42 (dk_at dksX3_copy_0 12 rfl rfl)
theorem dX3_copy_13 : decode cX3_copy 13 = .ok (.getfield 28, 3) := dk_180 0 28 (dk_at dksX3_copy_0 13 rfl rfl)
theorem dX3_copy_16 : decode cX3_copy 16 = .ok (.aload_n 0, 1) := dk_42 (dk_at dksX3_copy_0 16 rfl rfl)
theorem dX3_copy_17 : decode cX3_copy 17 = .ok (.getfield 31, 3) := dk_180 0 31 (dk_at dksX3_copy_0 17 rfl rfl)
theorem dX3_copy_20 : decode cX3_copy 20 = .ok (.invokespecial 35, 3) := dk_183 0 35 (dk_at dksX3_copy_0 20 rfl rfl)
theorem dX3_copy_23 : decode cX3_copy 23 = .ok (.astore_n 1, 1) := dk_76 (dk_at dksX3_copy_0 23 rfl rfl)
theorem dX3_copy_24 : decode cX3_copy 24 = .ok (.aload_n 1, 1) := dk_43 (dk_at dksX3_copy_1 0 rfl rfl)
theorem dX3_copy_25 : decode cX3_copy 25 = .ok (.aload_n 0, 1) := dk_42 (dk_at dksX3_copy_1 1 rfl rfl)
theorem dX3_copy_26 : decode cX3_copy 26 = .ok (.getfield 9, 3) := dk_180 0 9 (dk_at dksX3_copy_1 2 rfl rfl)
theorem dX3_copy_29 : decode cX3_copy 29 = .ok (.putfield 9, 3) := dk_181 0 9 (dk_at dksX3_copy_1 5 rfl rfl)
theorem dX3_copy_32 : decode cX3_copy 32 = .ok (.aload_n 1, 1) := dk_43 (dk_at dksX3_copy_1 8 rfl rfl)
theorem dX3_copy_33 : decode cX3_copy 33 = .ok (.getfield 18, 3) := dk_180 0 18 (dk_at dksX3_copy_1 9 rfl rfl)
theorem dX3_copy_36 : decode cX3_copy 36 = .ok (.aload_n 0, 1) := dk_42 (dk_at dksX3_copy_1 12 rfl rfl)
theorem dX3_copy_37 : decode cX3_copy 37 = .ok (.getfield 18, 3) := dk_180 0 18 (dk_at dksX3_copy_1 13 rfl rfl)
theorem dX3_copy_40 : decode cX3_copy 40 = .ok (.invokevirtual 38, 3) := dk_182 0 38 (dk_at dksX3_copy_1 16 rfl rfl)
theorem dX3_copy_43 : decode cX3_copy 43 = .ok (.pop, 1) := dk_87 (dk_at dksX3_copy_1 19 rfl rfl)
theorem dX3_copy_44 : decode cX3_copy 44 = .ok (.aload_n 1, 1) := dk_43 (dk_at dksX3_copy_1 20 rfl rfl)
theorem dX3_copy_45 : decode cX3_copy 45 = .ok (.areturn, 1) := dk_176 (dk_at dksX3_copy_1 21 rfl rfl)
abbrev cX3_init : ByteArray := prog_2_method_1_code
def yX3_init : MethodName := ⟨RX3, "<init>", "(III[I)V"⟩
def dkwX3_init_1 : List UInt8 := [181, 0, 22, 42, 28, 181, 0, 25, 42, 29, 181, 0, 28, 42, 25, 4, 181, 0, 31, 177]
abbrev dktX3_init_1 : List UInt8 := dkwX3_init_1 ++ []
def dkwX3_init_0 : List UInt8 := [42, 183, 0, 3, 42, 2, 181, 0, 9, 42, 187, 0, 15, 89, 183, 0, 17, 181, 0, 18, 42, 27]
abbrev dktX3_init_0 : List UInt8 := dkwX3_init_0 ++ dktX3_init_1
theorem dksX3_init_0 : cX3_init.data.toList.drop 0 = dktX3_init_0 := by decide +kernel
theorem dksX3_init_1 : cX3_init.data.toList.drop 22 = dktX3_init_1 := dk_seg dksX3_init_0 22 rfl rfl
theorem dX3_init_0 : decode cX3_init 0 = .ok (.aload_n 0, 1) := dk_42 (dk_at dksX3_init_0 0 rfl rfl)
theorem dX3_init_1 : decode cX3_init 1 = .ok (.invokespecial 3, 3) := dk_183 0 3 (dk_at dksX3_init_0 1 rfl rfl)
theorem dX3_init_4 : decode cX3_init 4 = .ok (.aload_n 0, 1) := dk_42 (dk_at dksX3_init_0 4 rfl rfl)
theorem dX3_init_5 : decode cX3_init 5 = .ok (.iconst (-1), 1) := dk_2 (dk_at dksX3_init_0 5 rfl rfl)
theorem dX3_init_6 : decode cX3_init 6 = .ok (.putfield 9, 3) := dk_181 0 9 (dk_at dksX3_init_0 6 rfl rfl)
theorem dX3_init_9 : decode cX3_init 9 = .ok (.aload_n 0, 1) := dk_42 (dk_at dksX3_init_0 9 rfl rfl)
theorem dX3_init_10 : decode cX3_init 10 = .ok (.new 15, 3) := dk_187 0 15 (dk_at dksX3_init_0 10 rfl rfl)
theorem dX3_init_13 : decode cX3_init 13 = .ok (.dup, 1) := dk_89 (dk_at dksX3_init_0 13 rfl rfl)
theorem dX3_init_14 : decode cX3_init 14 = .ok (.invokespecial 17, 3) := dk_183 0 17 (dk_at dksX3_init_0 14 rfl rfl)
theorem dX3_init_17 : decode cX3_init 17 = .ok (.putfield 18, 3) := dk_181 0 18 (dk_at dksX3_init_0 17 rfl rfl)
theorem dX3_init_20 : decode cX3_init 20 = .ok (.aload_n 0, 1) := dk_42 (dk_at dksX3_init_0 20 rfl rfl)
theorem dX3_init_21 : decode cX3_init 21 = .ok (.iload_n 1, 1) := dk_27 (dk_at dksX3_init_0 21 rfl rfl)
theorem dX3_init_22 : decode cX3_init 22 = .ok (.putfield 22, 3) := dk_181 0 22 (dk_at dksX3_init_1 0 rfl rfl)
theorem dX3_init_25 : decode cX3_init 25 = .ok (.aload_n 0, 1) := dk_42 (dk_at dksX3_init_1 3 rfl rfl)
theorem dX3_init_26 : decode cX3_init 26 = .ok (.iload_n 2, 1) := dk_28 (dk_at dksX3_init_1 4 rfl rfl)
theorem dX3_init_27 : decode cX3_init 27 = .ok (.putfield 25, 3) := dk_181 0 25 (dk_at dksX3_init_1 5 rfl rfl)
theorem dX3_init_30 : decode cX3_init 30 = .ok (.aload_n 0, 1) := dk_42 (dk_at dksX3_init_1 8 rfl rfl)
theorem dX3_init_31 : decode cX3_init 31 = .ok (.iload_n 3, 1) := dk_29 (dk_at dksX3_init_1 9 rfl rfl)
theorem dX3_init_32 : decode cX3_init 32 = .ok (.putfield 28, 3) := dk_181 0 28 (dk_at dksX3_init_1 10 rfl rfl)
theorem dX3_init_35 : decode cX3_init 35 = .ok (.aload_n 0, 1) := dk_42 (dk_at dksX3_init_1 13 rfl rfl)
theorem dX3_init_36 : decode cX3_init 36 = .ok (.aload 4, 2) := dk_25 4 (dk_at dksX3_init_1 14 rfl rfl)
theorem dX3_init_38 : decode cX3_init 38 = .ok (.putfield 31, 3) := dk_181 0 31 (dk_at dksX3_init_1 16 rfl rfl)
theorem dX3_init_41 : decode cX3_init 41 = .ok (.return_, 1) := dk_177 (dk_at dksX3_init_1 19 rfl rfl)
abbrev cX3_turns : ByteArray := prog_2_method_4_code
def yX3_turns : MethodName := ⟨RX3, "turns", "()V"⟩
def dkwX3_turns_0 : List UInt8 := [42, 42, 180, 0, 28, 4, 120, 42, 180, 0, 28, 6, 122, 128, 16, 15, 126, 181, 0, 28, 177]
abbrev dktX3_turns_0 : List UInt8 := dkwX3_turns_0 ++ []
theorem dksX3_turns_0 : cX3_turns.data.toList.drop 0 = dktX3_turns_0 := by decide +kernel
theorem dX3_turns_0 : decode cX3_turns 0 = .ok (.aload_n 0, 1) := dk_42 (dk_at dksX3_turns_0 0 rfl rfl)
theorem dX3_turns_1 : decode cX3_turns 1 = .ok (.aload_n 0, 1) := dk_42 (dk_at dksX3_turns_0 1 rfl rfl)
theorem dX3_turns_2 : decode cX3_turns 2 = .ok (.getfield 28, 3) := dk_180 0 28 (dk_at dksX3_turns_0 2 rfl rfl)
theorem dX3_turns_5 : decode cX3_turns 5 = .ok (.iconst 1, 1) := dk_4 (dk_at dksX3_turns_0 5 rfl rfl)
theorem dX3_turns_6 : decode cX3_turns 6 = .ok (.ishl, 1) := dk_120 (dk_at dksX3_turns_0 6 rfl rfl)
theorem dX3_turns_7 : decode cX3_turns 7 = .ok (.aload_n 0, 1) := dk_42 (dk_at dksX3_turns_0 7 rfl rfl)
theorem dX3_turns_8 : decode cX3_turns 8 = .ok (.getfield 28, 3) := dk_180 0 28 (dk_at dksX3_turns_0 8 rfl rfl)
theorem dX3_turns_11 : decode cX3_turns 11 = .ok (.iconst 3, 1) := dk_6 (dk_at dksX3_turns_0 11 rfl rfl)
theorem dX3_turns_12 : decode cX3_turns 12 = .ok (.ishr, 1) := dk_122 (dk_at dksX3_turns_0 12 rfl rfl)
theorem dX3_turns_13 : decode cX3_turns 13 = .ok (.ior, 1) := dk_128 (dk_at dksX3_turns_0 13 rfl rfl)
theorem dX3_turns_14 : decode cX3_turns 14 = .ok (.bipush 15, 2) := dk_16 15 (dk_at dksX3_turns_0 14 rfl rfl)
theorem dX3_turns_16 : decode cX3_turns 16 = .ok (.iand, 1) := dk_126 (dk_at dksX3_turns_0 16 rfl rfl)
theorem dX3_turns_17 : decode cX3_turns 17 = .ok (.putfield 28, 3) := dk_181 0 28 (dk_at dksX3_turns_0 17 rfl rfl)
theorem dX3_turns_20 : decode cX3_turns 20 = .ok (.return_, 1) := dk_177 (dk_at dksX3_turns_0 20 rfl rfl)
abbrev cX3_hasGap : ByteArray := prog_2_method_3_code
def yX3_hasGap : MethodName := ⟨RX3, "hasGap", "(I)Z"⟩
def dkwX3_hasGap_0 : List UInt8 := [42, 180, 0, 28, 27, 122, 4, 126, 4, 160, 0, 7, 4, 167, 0, 4, 3, 172]
abbrev dktX3_hasGap_0 : List UInt8 := dkwX3_hasGap_0 ++ []
theorem dksX3_hasGap_0 : cX3_hasGap.data.toList.drop 0 = dktX3_hasGap_0 := by decide +kernel
theorem dX3_hasGap_0 : decode cX3_hasGap 0 = .ok (.aload_n 0, 1) := dk_42 (dk_at dksX3_hasGap_0 0 rfl rfl)
theorem dX3_hasGap_1 : decode cX3_hasGap 1 = .ok (.getfield 28, 3) := dk_180 0 28 (dk_at dksX3_hasGap_0 1 rfl rfl)
theorem dX3_hasGap_4 : decode cX3_hasGap 4 = .ok (.iload_n 1, 1) := dk_27 (dk_at dksX3_hasGap_0 4 rfl rfl)
theorem dX3_hasGap_5 : decode cX3_hasGap 5 = .ok (.ishr, 1) := dk_122 (dk_at dksX3_hasGap_0 5 rfl rfl)
theorem dX3_hasGap_6 : decode cX3_hasGap 6 = .ok (.iconst 1, 1) := dk_4 (dk_at dksX3_hasGap_0 6 rfl rfl)
theorem dX3_hasGap_7 : decode cX3_hasGap 7 = .ok (.iand, 1) := dk_126 (dk_at dksX3_hasGap_0 7 rfl rfl)
theorem dX3_hasGap_8 : decode cX3_hasGap 8 = .ok (.iconst 1, 1) := dk_4 (dk_at dksX3_hasGap_0 8 rfl rfl)
theorem dX3_hasGap_9 : decode cX3_hasGap 9 = .ok (.if_icmp .ne 7, 3) := dk_160 0 7 (dk_at dksX3_hasGap_0 9 rfl rfl)
theorem dX3_hasGap_12 : decode cX3_hasGap 12 = .ok (.iconst 1, 1) := dk_4 (dk_at dksX3_hasGap_0 12 rfl rfl)
theorem dX3_hasGap_13 : decode cX3_hasGap 13 = .ok (.goto 4, 3) := dk_167 0 4 (dk_at dksX3_hasGap_0 13 rfl rfl)
theorem dX3_hasGap_16 : decode cX3_hasGap 16 = .ok (.iconst 0, 1) := dk_3 (dk_at dksX3_hasGap_0 16 rfl rfl)
theorem dX3_hasGap_17 : decode cX3_hasGap 17 = .ok (.ireturn, 1) := dk_172 (dk_at dksX3_hasGap_0 17 rfl rfl)
theorem q102 : (Jvm.Cond.initialized "SlatCrates$Crate") ∈ lw_all := lw_g (lw_at lw_m1 25 rfl) rfl
theorem q461 : (Jvm.Cond.selects "SlatCrates$Crate" ({ cls := "java/lang/Object", name := "getClass", desc := "()Ljava/lang/Class;" } : Jvm.MethodName) ({ cls := "java/lang/Object", name := "getClass", desc := "()Ljava/lang/Class;" } : Jvm.MethodName)) ∈ lw_all := lw_g (lw_at lw_m2 144 rfl) rfl
theorem q740 : (Jvm.Cond.instanceMethod ({ cls := "SlatCrates$Crate", name := "copy", desc := "()LSlatCrates$Crate;" } : Jvm.MethodName)) ∈ lw_all := lw_g (lw_at lw_m3 183 rfl) rfl
theorem q741 : (Jvm.Cond.selects "SlatCrates$Crate" ({ cls := "SlatCrates$Crate", name := "copy", desc := "()LSlatCrates$Crate;" } : Jvm.MethodName) ({ cls := "SlatCrates$Crate", name := "copy", desc := "()LSlatCrates$Crate;" } : Jvm.MethodName)) ∈ lw_all := lw_g (lw_at lw_m3 184 rfl) rfl
theorem q742 : (Jvm.Cond.code ({ cls := "SlatCrates$Crate", name := "copy", desc := "()LSlatCrates$Crate;" } : Jvm.MethodName) prog_2_method_2_code (2 : Nat) (Option.some (Jvm.ClassFile.FieldType.object "SlatCrates$Crate"))) ∈ lw_all := lw_g (lw_at lw_m3 185 rfl) rfl
theorem q743 : (Jvm.Cond.classLink "SlatCrates$Crate" (10 : Nat) "SlatCrates$Crate") ∈ lw_all := lw_g (lw_at lw_m3 186 rfl) rfl
theorem q744 : (Jvm.Cond.instantiable "SlatCrates$Crate" (6 : Nat)) ∈ lw_all := lw_g (lw_at lw_m3 187 rfl) rfl
theorem q745 : (Jvm.Cond.methodLink "SlatCrates$Crate" (35 : Nat) ({ cls := "SlatCrates$Crate", name := "<init>", desc := "(III[I)V" } : Jvm.MethodName)) ∈ lw_all := lw_g (lw_at lw_m3 188 rfl) rfl
theorem q746 : (Jvm.Cond.instanceMethod ({ cls := "SlatCrates$Crate", name := "<init>", desc := "(III[I)V" } : Jvm.MethodName)) ∈ lw_all := lw_g (lw_at lw_m3 189 rfl) rfl
theorem q747 : (Jvm.Cond.code ({ cls := "SlatCrates$Crate", name := "<init>", desc := "(III[I)V" } : Jvm.MethodName) prog_2_method_1_code (5 : Nat) (Option.none : Option Jvm.ClassFile.FieldType)) ∈ lw_all := lw_g (lw_at lw_m3 190 rfl) rfl
theorem q748 : (Jvm.Cond.methodLink "SlatCrates$Crate" (3 : Nat) ({ cls := "java/lang/Object", name := "<init>", desc := "()V" } : Jvm.MethodName)) ∈ lw_all := lw_g (lw_at lw_m3 191 rfl) rfl
theorem q749 : (Jvm.Cond.classLink "SlatCrates$Crate" (15 : Nat) "java/util/ArrayList") ∈ lw_all := lw_g (lw_at lw_m3 192 rfl) rfl
theorem q750 : (Jvm.Cond.methodLink "SlatCrates$Crate" (17 : Nat) ({ cls := "java/util/ArrayList", name := "<init>", desc := "()V" } : Jvm.MethodName)) ∈ lw_all := lw_g (lw_at lw_m3 193 rfl) rfl
theorem q751 : (Jvm.Cond.fieldLink "SlatCrates$Crate" (22 : Nat) "SlatCrates$Crate" "size" "I") ∈ lw_all := lw_g (lw_at lw_m3 194 rfl) rfl
theorem q754 : (Jvm.Cond.fieldLink "SlatCrates$Crate" (25 : Nat) "SlatCrates$Crate" "room" "I") ∈ lw_all := lw_g (lw_at lw_m3 197 rfl) rfl
theorem q757 : (Jvm.Cond.fieldLink "SlatCrates$Crate" (28 : Nat) "SlatCrates$Crate" "gaps" "I") ∈ lw_all := lw_g (lw_at lw_m3 200 rfl) rfl
theorem q760 : (Jvm.Cond.fieldLink "SlatCrates$Crate" (31 : Nat) "SlatCrates$Crate" "label" "[I") ∈ lw_all := lw_g (lw_at lw_m3 203 rfl) rfl
theorem q763 : (Jvm.Cond.fieldLink "SlatCrates$Crate" (9 : Nat) "SlatCrates$Crate" "holder" "I") ∈ lw_all := lw_g (lw_at lw_m3 206 rfl) rfl
theorem q767 : (Jvm.Cond.fieldLink "SlatCrates$Crate" (18 : Nat) "SlatCrates$Crate" "pile" "Ljava/util/ArrayList;") ∈ lw_all := lw_g (lw_at lw_m3 210 rfl) rfl
theorem q771 : (Jvm.Cond.laysFinal "SlatCrates$Crate" "SlatCrates$Crate" "size" "I") ∈ lw_all := lw_g (lw_at lw_m3 214 rfl) rfl
theorem q772 : (Jvm.Cond.soleField "SlatCrates$Crate" "size") ∈ lw_all := lw_g (lw_at lw_m3 215 rfl) rfl
theorem q773 : (Jvm.Cond.laysFinal "SlatCrates$Crate" "SlatCrates$Crate" "room" "I") ∈ lw_all := lw_g (lw_at lw_m3 216 rfl) rfl
theorem q774 : (Jvm.Cond.soleField "SlatCrates$Crate" "room") ∈ lw_all := lw_g (lw_at lw_m3 217 rfl) rfl
theorem q775 : (Jvm.Cond.lays "SlatCrates$Crate" "SlatCrates$Crate" "gaps" "I") ∈ lw_all := lw_g (lw_at lw_m3 218 rfl) rfl
theorem q776 : (Jvm.Cond.soleField "SlatCrates$Crate" "gaps") ∈ lw_all := lw_g (lw_at lw_m3 219 rfl) rfl
theorem q777 : (Jvm.Cond.laysFinal "SlatCrates$Crate" "SlatCrates$Crate" "label" "[I") ∈ lw_all := lw_g (lw_at lw_m3 220 rfl) rfl
theorem q778 : (Jvm.Cond.soleField "SlatCrates$Crate" "label") ∈ lw_all := lw_g (lw_at lw_m3 221 rfl) rfl
theorem q779 : (Jvm.Cond.lays "SlatCrates$Crate" "SlatCrates$Crate" "holder" "I") ∈ lw_all := lw_g (lw_at lw_m3 222 rfl) rfl
theorem q780 : (Jvm.Cond.soleField "SlatCrates$Crate" "holder") ∈ lw_all := lw_g (lw_at lw_m3 223 rfl) rfl
theorem q781 : (Jvm.Cond.lays "SlatCrates$Crate" "SlatCrates$Crate" "pile" "Ljava/util/ArrayList;") ∈ lw_all := lw_g (lw_at lw_m3 224 rfl) rfl
theorem q782 : (Jvm.Cond.soleField "SlatCrates$Crate" "pile") ∈ lw_all := lw_g (lw_at lw_m3 225 rfl) rfl
theorem q783 : (Jvm.Cond.superclass "SlatCrates$Crate" "java/lang/Object") ∈ lw_all := lw_g (lw_at lw_m3 226 rfl) rfl
theorem q784 : (Jvm.Cond.methodLink "SlatCrates$Crate" (38 : Nat) ({ cls := "java/util/ArrayList", name := "addAll", desc := "(Ljava/util/Collection;)Z" } : Jvm.MethodName)) ∈ lw_all := lw_g (lw_at lw_m3 227 rfl) rfl
theorem q963 : (Jvm.Cond.selects "SlatCrates$Crate" ({ cls := "java/lang/Object", name := "equals", desc := "(Ljava/lang/Object;)Z" } : Jvm.MethodName) ({ cls := "java/lang/Object", name := "equals", desc := "(Ljava/lang/Object;)Z" } : Jvm.MethodName)) ∈ lw_all := lw_g (lw_at lw_m4 166 rfl) rfl
theorem q1038 : (Jvm.Cond.instanceMethod ({ cls := "SlatCrates$Crate", name := "turns", desc := "()V" } : Jvm.MethodName)) ∈ lw_all := lw_g (lw_at lw_m5 1 rfl) rfl
theorem q1039 : (Jvm.Cond.selects "SlatCrates$Crate" ({ cls := "SlatCrates$Crate", name := "turns", desc := "()V" } : Jvm.MethodName) ({ cls := "SlatCrates$Crate", name := "turns", desc := "()V" } : Jvm.MethodName)) ∈ lw_all := lw_g (lw_at lw_m5 2 rfl) rfl
theorem q1040 : (Jvm.Cond.code ({ cls := "SlatCrates$Crate", name := "turns", desc := "()V" } : Jvm.MethodName) prog_2_method_4_code (1 : Nat) (Option.none : Option Jvm.ClassFile.FieldType)) ∈ lw_all := lw_g (lw_at lw_m5 3 rfl) rfl
theorem q1311 : (Jvm.Cond.instanceMethod ({ cls := "SlatCrates$Crate", name := "hasGap", desc := "(I)Z" } : Jvm.MethodName)) ∈ lw_all := lw_g (lw_at lw_m6 34 rfl) rfl
theorem q1312 : (Jvm.Cond.selects "SlatCrates$Crate" ({ cls := "SlatCrates$Crate", name := "hasGap", desc := "(I)Z" } : Jvm.MethodName) ({ cls := "SlatCrates$Crate", name := "hasGap", desc := "(I)Z" } : Jvm.MethodName)) ∈ lw_all := lw_g (lw_at lw_m6 35 rfl) rfl
theorem q1313 : (Jvm.Cond.code ({ cls := "SlatCrates$Crate", name := "hasGap", desc := "(I)Z" } : Jvm.MethodName) prog_2_method_3_code (2 : Nat) (Option.some Jvm.ClassFile.FieldType.boolean)) ∈ lw_all := lw_g (lw_at lw_m6 36 rfl) rfl
theorem q1347 : (Jvm.Cond.selects "SlatCrates$Crate" ({ cls := "java/lang/Object", name := "hashCode", desc := "()I" } : Jvm.MethodName) ({ cls := "java/lang/Object", name := "hashCode", desc := "()I" } : Jvm.MethodName)) ∈ lw_all := lw_g (lw_at lw_m6 70 rfl) rfl
theorem q2527 : (Jvm.Cond.castable "SlatCrates$Crate" "java/lang/Object") ∈ lw_tbl := lw_at lw_m11 50 rfl
theorem in_X3 : ∀ w ∈ wsX30, w ∈ lw_all := lw_in wsX30 [771, 773, 775, 777, 779, 781] (by decide +kernel) (by decide +kernel)

/-! SlatCrates$Reader -/
def RX4 : String := "SlatCrates$Reader"
def TX4 : u_T := fun k => match k with
  | 0 => ("SlatCrates$Reader", "text", "Ljava/lang/StringBuilder;", true)
  | 1 => ("SlatCrates$Reader", "at", "I", false)
  | 2 => ("SlatCrates$Reader", "isWrong", "Z", false)
  | 3 => ("SlatCrates$Reader", "crates", "Ljava/util/ArrayList;", true)
  | _ => ("SlatCrates$Reader", "first", "I", true)
def tyX4 : Nat → FieldType := fun k => match k with
  | 0 => .object "java/lang/StringBuilder"
  | 1 => .int
  | 2 => .boolean
  | 3 => .object "java/util/ArrayList"
  | _ => .int
abbrev wsX40 : List Cond := u_ws RX4 TX4 5
theorem nmX4 : ∀ a, a < 5 → ∀ b, b < 5 → a ≠ b → (TX4 a).2.1 ≠ (TX4 b).2.1 := by decide +kernel
theorem tyX4_ok : ∀ k, k < 5 → parseFieldDescriptor (TX4 k).2.2.1 = some (tyX4 k) := by decide +kernel
abbrev cX4_init : ByteArray := prog_3_method_1_code
def yX4_init : MethodName := ⟨RX4, "<init>", "(Ljava/lang/StringBuilder;I)V"⟩
def dkwX4_init_1 : List UInt8 := [181, 0, 22, 177]
abbrev dktX4_init_1 : List UInt8 := dkwX4_init_1 ++ []
def dkwX4_init_0 : List UInt8 := [42, 183, 0, 3, 42, 187, 0, 9, 89, 183, 0, 11, 181, 0, 12, 42, 43, 181, 0, 18, 42, 28]
abbrev dktX4_init_0 : List UInt8 := dkwX4_init_0 ++ dktX4_init_1
theorem dksX4_init_0 : cX4_init.data.toList.drop 0 = dktX4_init_0 := by decide +kernel
theorem dksX4_init_1 : cX4_init.data.toList.drop 22 = dktX4_init_1 := dk_seg dksX4_init_0 22 rfl rfl
theorem dX4_init_0 : decode cX4_init 0 = .ok (.aload_n 0, 1) := dk_42 (dk_at dksX4_init_0 0 rfl rfl)
theorem dX4_init_1 : decode cX4_init 1 = .ok (.invokespecial 3, 3) := dk_183 0 3 (dk_at dksX4_init_0 1 rfl rfl)
theorem dX4_init_4 : decode cX4_init 4 = .ok (.aload_n 0, 1) := dk_42 (dk_at dksX4_init_0 4 rfl rfl)
theorem dX4_init_5 : decode cX4_init 5 = .ok (.new 9, 3) := dk_187 0 9 (dk_at dksX4_init_0 5 rfl rfl)
theorem dX4_init_8 : decode cX4_init 8 = .ok (.dup, 1) := dk_89 (dk_at dksX4_init_0 8 rfl rfl)
theorem dX4_init_9 : decode cX4_init 9 = .ok (.invokespecial 11, 3) := dk_183 0 11 (dk_at dksX4_init_0 9 rfl rfl)
theorem dX4_init_12 : decode cX4_init 12 = .ok (.putfield 12, 3) := dk_181 0 12 (dk_at dksX4_init_0 12 rfl rfl)
theorem dX4_init_15 : decode cX4_init 15 = .ok (.aload_n 0, 1) := dk_42 (dk_at dksX4_init_0 15 rfl rfl)
theorem dX4_init_16 : decode cX4_init 16 = .ok (.aload_n 1, 1) := dk_43 (dk_at dksX4_init_0 16 rfl rfl)
theorem dX4_init_17 : decode cX4_init 17 = .ok (.putfield 18, 3) := dk_181 0 18 (dk_at dksX4_init_0 17 rfl rfl)
theorem dX4_init_20 : decode cX4_init 20 = .ok (.aload_n 0, 1) := dk_42 (dk_at dksX4_init_0 20 rfl rfl)
theorem dX4_init_21 : decode cX4_init 21 = .ok (.iload_n 2, 1) := dk_28 (dk_at dksX4_init_0 21 rfl rfl)
theorem dX4_init_22 : decode cX4_init 22 = .ok (.putfield 22, 3) := dk_181 0 22 (dk_at dksX4_init_1 0 rfl rfl)
theorem dX4_init_25 : decode cX4_init 25 = .ok (.return_, 1) := dk_177 (dk_at dksX4_init_1 3 rfl rfl)
abbrev cX4_fault : ByteArray := prog_3_method_7_code
def yX4_fault : MethodName := ⟨RX4, "fault", "()I"⟩
def dkwX4_fault_1 : List UInt8 := [42, 180, 0, 30, 42, 180, 0, 18, 182, 0, 33, 162, 0, 10, 42, 180, 0, 30, 167, 0, 5, 16, 252, 172]
abbrev dktX4_fault_1 : List UInt8 := dkwX4_fault_1 ++ []
def dkwX4_fault_0 : List UInt8 := [42, 2, 182, 0, 81, 87, 42, 16, 65, 16, 90, 182, 0, 47, 154, 255, 242, 42, 180, 0, 26, 154, 0, 17]
abbrev dktX4_fault_0 : List UInt8 := dkwX4_fault_0 ++ dktX4_fault_1
theorem dksX4_fault_0 : cX4_fault.data.toList.drop 0 = dktX4_fault_0 := by decide +kernel
theorem dksX4_fault_1 : cX4_fault.data.toList.drop 24 = dktX4_fault_1 := dk_seg dksX4_fault_0 24 rfl rfl
theorem dX4_fault_0 : decode cX4_fault 0 = .ok (.aload_n 0, 1) := dk_42 (dk_at dksX4_fault_0 0 rfl rfl)
theorem dX4_fault_1 : decode cX4_fault 1 = .ok (.iconst (-1), 1) := dk_2 (dk_at dksX4_fault_0 1 rfl rfl)
theorem dX4_fault_2 : decode cX4_fault 2 = .ok (.invokevirtual 81, 3) := dk_182 0 81 (dk_at dksX4_fault_0 2 rfl rfl)
theorem dX4_fault_5 : decode cX4_fault 5 = .ok (.pop, 1) := dk_87 (dk_at dksX4_fault_0 5 rfl rfl)
theorem dX4_fault_6 : decode cX4_fault 6 = .ok (.aload_n 0, 1) := dk_42 (dk_at dksX4_fault_0 6 rfl rfl)
theorem dX4_fault_7 : decode cX4_fault 7 = .ok (.bipush 65, 2) := dk_16 65 (dk_at dksX4_fault_0 7 rfl rfl)
theorem dX4_fault_9 : decode cX4_fault 9 = .ok (.bipush 90, 2) := dk_16 90 (dk_at dksX4_fault_0 9 rfl rfl)
theorem dX4_fault_11 : decode cX4_fault 11 = .ok (.invokevirtual 47, 3) := dk_182 0 47 (dk_at dksX4_fault_0 11 rfl rfl)
theorem dX4_fault_14 : decode cX4_fault 14 = .ok (.ifCond .ne (-14), 3) := dk_154 255 242 (dk_at dksX4_fault_0 14 rfl rfl)
theorem dX4_fault_17 : decode cX4_fault 17 = .ok (.aload_n 0, 1) := dk_42 (dk_at dksX4_fault_0 17 rfl rfl)
theorem dX4_fault_18 : decode cX4_fault 18 = .ok (.getfield 26, 3) := dk_180 0 26 (dk_at dksX4_fault_0 18 rfl rfl)
theorem dX4_fault_21 : decode cX4_fault 21 = .ok (.ifCond .ne 17, 3) := dk_154 0 17 (dk_at dksX4_fault_0 21 rfl rfl)
theorem dX4_fault_24 : decode cX4_fault 24 = .ok (.aload_n 0, 1) := dk_42 (dk_at dksX4_fault_1 0 rfl rfl)
theorem dX4_fault_25 : decode cX4_fault 25 = .ok (.getfield 30, 3) := dk_180 0 30 (dk_at dksX4_fault_1 1 rfl rfl)
theorem dX4_fault_28 : decode cX4_fault 28 = .ok (.aload_n 0, 1) := dk_42 (dk_at dksX4_fault_1 4 rfl rfl)
theorem dX4_fault_29 : decode cX4_fault 29 = .ok (.getfield 18, 3) := dk_180 0 18 (dk_at dksX4_fault_1 5 rfl rfl)
theorem dX4_fault_32 : decode cX4_fault 32 = .ok (.invokevirtual 33, 3) := dk_182 0 33 (dk_at dksX4_fault_1 8 rfl rfl)
theorem dX4_fault_35 : decode cX4_fault 35 = .ok (.if_icmp .ge 10, 3) := dk_162 0 10 (dk_at dksX4_fault_1 11 rfl rfl)
theorem dX4_fault_38 : decode cX4_fault 38 = .ok (.aload_n 0, 1) := dk_42 (dk_at dksX4_fault_1 14 rfl rfl)
theorem dX4_fault_39 : decode cX4_fault 39 = .ok (.getfield 30, 3) := dk_180 0 30 (dk_at dksX4_fault_1 15 rfl rfl)
theorem dX4_fault_42 : decode cX4_fault 42 = .ok (.goto 5, 3) := dk_167 0 5 (dk_at dksX4_fault_1 18 rfl rfl)
theorem dX4_fault_45 : decode cX4_fault 45 = .ok (.bipush (-4), 2) := dk_16 252 (dk_at dksX4_fault_1 21 rfl rfl)
theorem dX4_fault_47 : decode cX4_fault 47 = .ok (.ireturn, 1) := dk_172 (dk_at dksX4_fault_1 23 rfl rfl)
abbrev cX4_nest : ByteArray := prog_3_method_6_code
def yX4_nest : MethodName := ⟨RX4, "nest", "(I)I"⟩
def dkwX4_nest_6 : List UInt8 := [154, 255, 230, 42, 16, 93, 182, 0, 55, 21, 6, 172]
abbrev dktX4_nest_6 : List UInt8 := dkwX4_nest_6 ++ []
def dkwX4_nest_5 : List UInt8 := [180, 0, 78, 42, 21, 6, 182, 0, 81, 184, 0, 85, 182, 0, 74, 87, 42, 16, 65, 16, 90, 182, 0, 47]
abbrev dktX4_nest_5 : List UInt8 := dkwX4_nest_5 ++ dktX4_nest_6
def dkwX4_nest_4 : List UInt8 := [16, 91, 16, 91, 182, 0, 47, 153, 0, 48, 42, 89, 180, 0, 30, 4, 96, 181, 0, 30, 25, 5]
abbrev dktX4_nest_4 : List UInt8 := dkwX4_nest_4 ++ dktX4_nest_5
def dkwX4_nest_3 : List UInt8 := [180, 0, 22, 42, 180, 0, 12, 182, 0, 71, 96, 54, 6, 42, 180, 0, 12, 25, 5, 182, 0, 74, 87, 42]
abbrev dktX4_nest_3 : List UInt8 := dkwX4_nest_3 ++ dktX4_nest_4
def dkwX4_nest_2 : List UInt8 := [21, 4, 42, 3, 16, 15, 182, 0, 59, 44, 183, 0, 65, 58, 5, 25, 5, 27, 181, 0, 68, 42]
abbrev dktX4_nest_2 : List UInt8 := dkwX4_nest_2 ++ dktX4_nest_3
def dkwX4_nest_1 : List UInt8 := [182, 0, 55, 42, 3, 16, 59, 182, 0, 59, 54, 4, 42, 16, 103, 182, 0, 55, 187, 0, 63, 89, 29]
abbrev dktX4_nest_1 : List UInt8 := dkwX4_nest_1 ++ dktX4_nest_2
def dkwX4_nest_0 : List UInt8 := [42, 182, 0, 51, 77, 42, 16, 115, 182, 0, 55, 42, 4, 16, 60, 182, 0, 59, 62, 42, 16, 114]
abbrev dktX4_nest_0 : List UInt8 := dkwX4_nest_0 ++ dktX4_nest_1
theorem dksX4_nest_0 : cX4_nest.data.toList.drop 0 = dktX4_nest_0 := by decide +kernel
theorem dksX4_nest_1 : cX4_nest.data.toList.drop 22 = dktX4_nest_1 := dk_seg dksX4_nest_0 22 rfl rfl
theorem dksX4_nest_2 : cX4_nest.data.toList.drop 45 = dktX4_nest_2 := dk_seg dksX4_nest_1 23 rfl rfl
theorem dksX4_nest_3 : cX4_nest.data.toList.drop 67 = dktX4_nest_3 := dk_seg dksX4_nest_2 22 rfl rfl
theorem dksX4_nest_4 : cX4_nest.data.toList.drop 91 = dktX4_nest_4 := dk_seg dksX4_nest_3 24 rfl rfl
theorem dksX4_nest_5 : cX4_nest.data.toList.drop 113 = dktX4_nest_5 := dk_seg dksX4_nest_4 22 rfl rfl
theorem dksX4_nest_6 : cX4_nest.data.toList.drop 137 = dktX4_nest_6 := dk_seg dksX4_nest_5 24 rfl rfl
theorem dX4_nest_0 : decode cX4_nest 0 = .ok (.aload_n 0, 1) := dk_42 (dk_at dksX4_nest_0 0 rfl rfl)
theorem dX4_nest_1 : decode cX4_nest 1 = .ok (.invokevirtual 51, 3) := dk_182 0 51 (dk_at dksX4_nest_0 1 rfl rfl)
theorem dX4_nest_4 : decode cX4_nest 4 = .ok (.astore_n 2, 1) := dk_77 (dk_at dksX4_nest_0 4 rfl rfl)
theorem dX4_nest_5 : decode cX4_nest 5 = .ok (.aload_n 0, 1) := dk_42 (dk_at dksX4_nest_0 5 rfl rfl)
theorem dX4_nest_6 : decode cX4_nest 6 = .ok (.bipush 115, 2) := dk_16 115 (dk_at dksX4_nest_0 6 rfl rfl)
theorem dX4_nest_8 : decode cX4_nest 8 = .ok (.invokevirtual 55, 3) := dk_182 0 55 (dk_at dksX4_nest_0 8 rfl rfl)
theorem dX4_nest_11 : decode cX4_nest 11 = .ok (.aload_n 0, 1) := dk_42 (dk_at dksX4_nest_0 11 rfl rfl)
theorem dX4_nest_12 : decode cX4_nest 12 = .ok (.iconst 1, 1) := dk_4 (dk_at dksX4_nest_0 12 rfl rfl)
theorem dX4_nest_13 : decode cX4_nest 13 = .ok (.bipush 60, 2) := dk_16 60 (dk_at dksX4_nest_0 13 rfl rfl)
theorem dX4_nest_15 : decode cX4_nest 15 = .ok (.invokevirtual 59, 3) := dk_182 0 59 (dk_at dksX4_nest_0 15 rfl rfl)
theorem dX4_nest_18 : decode cX4_nest 18 = .ok (.istore_n 3, 1) := dk_62 (dk_at dksX4_nest_0 18 rfl rfl)
theorem dX4_nest_19 : decode cX4_nest 19 = .ok (.aload_n 0, 1) := dk_42 (dk_at dksX4_nest_0 19 rfl rfl)
theorem dX4_nest_20 : decode cX4_nest 20 = .ok (.bipush 114, 2) := dk_16 114 (dk_at dksX4_nest_0 20 rfl rfl)
theorem dX4_nest_22 : decode cX4_nest 22 = .ok (.invokevirtual 55, 3) := dk_182 0 55 (dk_at dksX4_nest_1 0 rfl rfl)
theorem dX4_nest_25 : decode cX4_nest 25 = .ok (.aload_n 0, 1) := dk_42 (dk_at dksX4_nest_1 3 rfl rfl)
theorem dX4_nest_26 : decode cX4_nest 26 = .ok (.iconst 0, 1) := dk_3 (dk_at dksX4_nest_1 4 rfl rfl)
theorem dX4_nest_27 : decode cX4_nest 27 = .ok (.bipush 59, 2) := dk_16 59 (dk_at dksX4_nest_1 5 rfl rfl)
theorem dX4_nest_29 : decode cX4_nest 29 = .ok (.invokevirtual 59, 3) := dk_182 0 59 (dk_at dksX4_nest_1 7 rfl rfl)
theorem dX4_nest_32 : decode cX4_nest 32 = .ok (.istore 4, 2) := dk_54 4 (dk_at dksX4_nest_1 10 rfl rfl)
theorem dX4_nest_34 : decode cX4_nest 34 = .ok (.aload_n 0, 1) := dk_42 (dk_at dksX4_nest_1 12 rfl rfl)
theorem dX4_nest_35 : decode cX4_nest 35 = .ok (.bipush 103, 2) := dk_16 103 (dk_at dksX4_nest_1 13 rfl rfl)
theorem dX4_nest_37 : decode cX4_nest 37 = .ok (.invokevirtual 55, 3) := dk_182 0 55 (dk_at dksX4_nest_1 15 rfl rfl)
theorem dX4_nest_40 : decode cX4_nest 40 = .ok (.new 63, 3) := dk_187 0 63 (dk_at dksX4_nest_1 18 rfl rfl)
theorem dX4_nest_43 : decode cX4_nest 43 = .ok (.dup, 1) := dk_89 (dk_at dksX4_nest_1 21 rfl rfl)
theorem dX4_nest_44 : decode cX4_nest 44 = .ok (.iload_n 3, 1) := dk_29 (dk_at dksX4_nest_1 22 rfl rfl)
theorem dX4_nest_45 : decode cX4_nest 45 = .ok (.iload 4, 2) := dk_21 4 (dk_at dksX4_nest_2 0 rfl rfl)
theorem dX4_nest_47 : decode cX4_nest 47 = .ok (.aload_n 0, 1) := dk_42 (dk_at dksX4_nest_2 2 rfl rfl)
theorem dX4_nest_48 : decode cX4_nest 48 = .ok (.iconst 0, 1) := dk_3 (dk_at dksX4_nest_2 3 rfl rfl)
theorem dX4_nest_49 : decode cX4_nest 49 = .ok (.bipush 15, 2) := dk_16 15 (dk_at dksX4_nest_2 4 rfl rfl)
theorem dX4_nest_51 : decode cX4_nest 51 = .ok (.invokevirtual 59, 3) := dk_182 0 59 (dk_at dksX4_nest_2 6 rfl rfl)
theorem dX4_nest_54 : decode cX4_nest 54 = .ok (.aload_n 2, 1) := dk_44 (dk_at dksX4_nest_2 9 rfl rfl)
theorem dX4_nest_55 : decode cX4_nest 55 = .ok (.invokespecial 65, 3) := dk_183 0 65 (dk_at dksX4_nest_2 10 rfl rfl)
theorem dX4_nest_58 : decode cX4_nest 58 = .ok (.astore 5, 2) := dk_58 5 (dk_at dksX4_nest_2 13 rfl rfl)
theorem dX4_nest_60 : decode cX4_nest 60 = .ok (.aload 5, 2) := dk_25 5 (dk_at dksX4_nest_2 15 rfl rfl)
theorem dX4_nest_62 : decode cX4_nest 62 = .ok (.iload_n 1, 1) := dk_27 (dk_at dksX4_nest_2 17 rfl rfl)
theorem dX4_nest_63 : decode cX4_nest 63 = .ok (.putfield 68, 3) := dk_181 0 68 (dk_at dksX4_nest_2 18 rfl rfl)
theorem dX4_nest_66 : decode cX4_nest 66 = .ok (.aload_n 0, 1) := dk_42 (dk_at dksX4_nest_2 21 rfl rfl)
theorem dX4_nest_67 : decode cX4_nest 67 = .ok (.getfield 22, 3) := dk_180 0 22 (dk_at dksX4_nest_3 0 rfl rfl)
theorem dX4_nest_70 : decode cX4_nest 70 = .ok (.aload_n 0, 1) := dk_42 (dk_at dksX4_nest_3 3 rfl rfl)
theorem dX4_nest_71 : decode cX4_nest 71 = .ok (.getfield 12, 3) := dk_180 0 12 (dk_at dksX4_nest_3 4 rfl rfl)
theorem dX4_nest_74 : decode cX4_nest 74 = .ok (.invokevirtual 71, 3) := dk_182 0 71 (dk_at dksX4_nest_3 7 rfl rfl)
theorem dX4_nest_77 : decode cX4_nest 77 = .ok (.iadd, 1) := dk_96 (dk_at dksX4_nest_3 10 rfl rfl)
theorem dX4_nest_78 : decode cX4_nest 78 = .ok (.istore 6, 2) := dk_54 6 (dk_at dksX4_nest_3 11 rfl rfl)
theorem dX4_nest_80 : decode cX4_nest 80 = .ok (.aload_n 0, 1) := dk_42 (dk_at dksX4_nest_3 13 rfl rfl)
theorem dX4_nest_81 : decode cX4_nest 81 = .ok (.getfield 12, 3) := dk_180 0 12 (dk_at dksX4_nest_3 14 rfl rfl)
theorem dX4_nest_84 : decode cX4_nest 84 = .ok (.aload 5, 2) := dk_25 5 (dk_at dksX4_nest_3 17 rfl rfl)
theorem dX4_nest_86 : decode cX4_nest 86 = .ok (.invokevirtual 74, 3) := dk_182 0 74 (dk_at dksX4_nest_3 19 rfl rfl)
theorem dX4_nest_89 : decode cX4_nest 89 = .ok (.pop, 1) := dk_87 (dk_at dksX4_nest_3 22 rfl rfl)
theorem dX4_nest_90 : decode cX4_nest 90 = .ok (.aload_n 0, 1) := dk_42 (dk_at dksX4_nest_3 23 rfl rfl)
theorem dX4_nest_91 : decode cX4_nest 91 = .ok (.bipush 91, 2) := dk_16 91 (dk_at dksX4_nest_4 0 rfl rfl)
theorem dX4_nest_93 : decode cX4_nest 93 = .ok (.bipush 91, 2) := dk_16 91 (dk_at dksX4_nest_4 2 rfl rfl)
theorem dX4_nest_95 : decode cX4_nest 95 = .ok (.invokevirtual 47, 3) := dk_182 0 47 (dk_at dksX4_nest_4 4 rfl rfl)
theorem dX4_nest_98 : decode cX4_nest 98 = .ok (.ifCond .eq 48, 3) := dk_153 0 48 (dk_at dksX4_nest_4 7 rfl rfl)
theorem dX4_nest_101 : decode cX4_nest 101 = .ok (.aload_n 0, 1) := dk_42 (dk_at dksX4_nest_4 10 rfl rfl)
theorem dX4_nest_102 : decode cX4_nest 102 = .ok (.dup, 1) := dk_89 (dk_at dksX4_nest_4 11 rfl rfl)
theorem dX4_nest_103 : decode cX4_nest 103 = .ok (.getfield 30, 3) := dk_180 0 30 (dk_at dksX4_nest_4 12 rfl rfl)
theorem dX4_nest_106 : decode cX4_nest 106 = .ok (.iconst 1, 1) := dk_4 (dk_at dksX4_nest_4 15 rfl rfl)
theorem dX4_nest_107 : decode cX4_nest 107 = .ok (.iadd, 1) := dk_96 (dk_at dksX4_nest_4 16 rfl rfl)
theorem dX4_nest_108 : decode cX4_nest 108 = .ok (.putfield 30, 3) := dk_181 0 30 (dk_at dksX4_nest_4 17 rfl rfl)
theorem dX4_nest_111 : decode cX4_nest 111 = .ok (.aload 5, 2) := dk_25 5 (dk_at dksX4_nest_4 20 rfl rfl)
theorem dX4_nest_113 : decode cX4_nest 113 = .ok (.getfield 78, 3) := dk_180 0 78 (dk_at dksX4_nest_5 0 rfl rfl)
theorem dX4_nest_116 : decode cX4_nest 116 = .ok (.aload_n 0, 1) := dk_42 (dk_at dksX4_nest_5 3 rfl rfl)
theorem dX4_nest_117 : decode cX4_nest 117 = .ok (.iload 6, 2) := dk_21 6 (dk_at dksX4_nest_5 4 rfl rfl)
theorem dX4_nest_119 : decode cX4_nest 119 = .ok (.invokevirtual 81, 3) := dk_182 0 81 (dk_at dksX4_nest_5 6 rfl rfl)
theorem dX4_nest_122 : decode cX4_nest 122 = .ok (.invokestatic 85, 3) := dk_184 0 85 (dk_at dksX4_nest_5 9 rfl rfl)
theorem dX4_nest_125 : decode cX4_nest 125 = .ok (.invokevirtual 74, 3) := dk_182 0 74 (dk_at dksX4_nest_5 12 rfl rfl)
theorem dX4_nest_128 : decode cX4_nest 128 = .ok (.pop, 1) := dk_87 (dk_at dksX4_nest_5 15 rfl rfl)
theorem dX4_nest_129 : decode cX4_nest 129 = .ok (.aload_n 0, 1) := dk_42 (dk_at dksX4_nest_5 16 rfl rfl)
theorem dX4_nest_130 : decode cX4_nest 130 = .ok (.bipush 65, 2) := dk_16 65 (dk_at dksX4_nest_5 17 rfl rfl)
theorem dX4_nest_132 : decode cX4_nest 132 = .ok (.bipush 90, 2) := dk_16 90 (dk_at dksX4_nest_5 19 rfl rfl)
theorem dX4_nest_134 : decode cX4_nest 134 = .ok (.invokevirtual 47, 3) := dk_182 0 47 (dk_at dksX4_nest_5 21 rfl rfl)
theorem dX4_nest_137 : decode cX4_nest 137 = .ok (.ifCond .ne (-26), 3) := dk_154 255 230 (dk_at dksX4_nest_6 0 rfl rfl)
theorem dX4_nest_140 : decode cX4_nest 140 = .ok (.aload_n 0, 1) := dk_42 (dk_at dksX4_nest_6 3 rfl rfl)
theorem dX4_nest_141 : decode cX4_nest 141 = .ok (.bipush 93, 2) := dk_16 93 (dk_at dksX4_nest_6 4 rfl rfl)
theorem dX4_nest_143 : decode cX4_nest 143 = .ok (.invokevirtual 55, 3) := dk_182 0 55 (dk_at dksX4_nest_6 6 rfl rfl)
theorem dX4_nest_146 : decode cX4_nest 146 = .ok (.iload 6, 2) := dk_21 6 (dk_at dksX4_nest_6 9 rfl rfl)
theorem dX4_nest_148 : decode cX4_nest 148 = .ok (.ireturn, 1) := dk_172 (dk_at dksX4_nest_6 11 rfl rfl)
abbrev cX4_label : ByteArray := prog_3_method_5_code
def yX4_label : MethodName := ⟨RX4, "label", "()[I"⟩
def dkwX4_label_4 : List UInt8 := [79, 132, 3, 1, 167, 255, 231, 44, 176]
abbrev dktX4_label_4 : List UInt8 := dkwX4_label_4 ++ []
def dkwX4_label_3 : List UInt8 := [77, 3, 62, 29, 44, 190, 162, 0, 25, 44, 29, 42, 180, 0, 18, 27, 29, 96, 182, 0, 39, 16, 65, 100]
abbrev dktX4_label_3 : List UInt8 := dkwX4_label_3 ++ dktX4_label_4
def dkwX4_label_2 : List UInt8 := [42, 180, 0, 30, 27, 160, 0, 7, 4, 167, 0, 4, 3, 181, 0, 26, 42, 180, 0, 30, 27, 100, 188, 10]
abbrev dktX4_label_2 : List UInt8 := dkwX4_label_2 ++ dktX4_label_3
def dkwX4_label_1 : List UInt8 := [153, 0, 16, 42, 89, 180, 0, 30, 4, 96, 181, 0, 30, 167, 255, 225, 42, 42, 180, 0, 26, 154, 0, 11]
abbrev dktX4_label_1 : List UInt8 := dkwX4_label_1 ++ dktX4_label_2
def dkwX4_label_0 : List UInt8 := [42, 180, 0, 30, 60, 42, 180, 0, 30, 27, 100, 7, 162, 0, 27, 42, 16, 65, 16, 90, 182, 0, 47]
abbrev dktX4_label_0 : List UInt8 := dkwX4_label_0 ++ dktX4_label_1
theorem dksX4_label_0 : cX4_label.data.toList.drop 0 = dktX4_label_0 := by decide +kernel
theorem dksX4_label_1 : cX4_label.data.toList.drop 23 = dktX4_label_1 := dk_seg dksX4_label_0 23 rfl rfl
theorem dksX4_label_2 : cX4_label.data.toList.drop 47 = dktX4_label_2 := dk_seg dksX4_label_1 24 rfl rfl
theorem dksX4_label_3 : cX4_label.data.toList.drop 71 = dktX4_label_3 := dk_seg dksX4_label_2 24 rfl rfl
theorem dksX4_label_4 : cX4_label.data.toList.drop 95 = dktX4_label_4 := dk_seg dksX4_label_3 24 rfl rfl
theorem dX4_label_0 : decode cX4_label 0 = .ok (.aload_n 0, 1) := dk_42 (dk_at dksX4_label_0 0 rfl rfl)
theorem dX4_label_1 : decode cX4_label 1 = .ok (.getfield 30, 3) := dk_180 0 30 (dk_at dksX4_label_0 1 rfl rfl)
theorem dX4_label_4 : decode cX4_label 4 = .ok (.istore_n 1, 1) := dk_60 (dk_at dksX4_label_0 4 rfl rfl)
theorem dX4_label_5 : decode cX4_label 5 = .ok (.aload_n 0, 1) := dk_42 (dk_at dksX4_label_0 5 rfl rfl)
theorem dX4_label_6 : decode cX4_label 6 = .ok (.getfield 30, 3) := dk_180 0 30 (dk_at dksX4_label_0 6 rfl rfl)
theorem dX4_label_9 : decode cX4_label 9 = .ok (.iload_n 1, 1) := dk_27 (dk_at dksX4_label_0 9 rfl rfl)
theorem dX4_label_10 : decode cX4_label 10 = .ok (.isub, 1) := dk_100 (dk_at dksX4_label_0 10 rfl rfl)
theorem dX4_label_11 : decode cX4_label 11 = .ok (.iconst 4, 1) := dk_7 (dk_at dksX4_label_0 11 rfl rfl)
theorem dX4_label_12 : decode cX4_label 12 = .ok (.if_icmp .ge 27, 3) := dk_162 0 27 (dk_at dksX4_label_0 12 rfl rfl)
theorem dX4_label_15 : decode cX4_label 15 = .ok (.aload_n 0, 1) := dk_42 (dk_at dksX4_label_0 15 rfl rfl)
theorem dX4_label_16 : decode cX4_label 16 = .ok (.bipush 65, 2) := dk_16 65 (dk_at dksX4_label_0 16 rfl rfl)
theorem dX4_label_18 : decode cX4_label 18 = .ok (.bipush 90, 2) := dk_16 90 (dk_at dksX4_label_0 18 rfl rfl)
theorem dX4_label_20 : decode cX4_label 20 = .ok (.invokevirtual 47, 3) := dk_182 0 47 (dk_at dksX4_label_0 20 rfl rfl)
theorem dX4_label_23 : decode cX4_label 23 = .ok (.ifCond .eq 16, 3) := dk_153 0 16 (dk_at dksX4_label_1 0 rfl rfl)
theorem dX4_label_26 : decode cX4_label 26 = .ok (.aload_n 0, 1) := dk_42 (dk_at dksX4_label_1 3 rfl rfl)
theorem dX4_label_27 : decode cX4_label 27 = .ok (.dup, 1) := dk_89 (dk_at dksX4_label_1 4 rfl rfl)
theorem dX4_label_28 : decode cX4_label 28 = .ok (.getfield 30, 3) := dk_180 0 30 (dk_at dksX4_label_1 5 rfl rfl)
theorem dX4_label_31 : decode cX4_label 31 = .ok (.iconst 1, 1) := dk_4 (dk_at dksX4_label_1 8 rfl rfl)
theorem dX4_label_32 : decode cX4_label 32 = .ok (.iadd, 1) := dk_96 (dk_at dksX4_label_1 9 rfl rfl)
theorem dX4_label_33 : decode cX4_label 33 = .ok (.putfield 30, 3) := dk_181 0 30 (dk_at dksX4_label_1 10 rfl rfl)
theorem dX4_label_36 : decode cX4_label 36 = .ok (.goto (-31), 3) := dk_167 255 225 (dk_at dksX4_label_1 13 rfl rfl)
theorem dX4_label_39 : decode cX4_label 39 = .ok (.aload_n 0, 1) := dk_42 (dk_at dksX4_label_1 16 rfl rfl)
theorem dX4_label_40 : decode cX4_label 40 = .ok (.aload_n 0, 1) := dk_42 (dk_at dksX4_label_1 17 rfl rfl)
theorem dX4_label_41 : decode cX4_label 41 = .ok (.getfield 26, 3) := dk_180 0 26 (dk_at dksX4_label_1 18 rfl rfl)
theorem dX4_label_44 : decode cX4_label 44 = .ok (.ifCond .ne 11, 3) := dk_154 0 11 (dk_at dksX4_label_1 21 rfl rfl)
theorem dX4_label_47 : decode cX4_label 47 = .ok (.aload_n 0, 1) := dk_42 (dk_at dksX4_label_2 0 rfl rfl)
theorem dX4_label_48 : decode cX4_label 48 = .ok (.getfield 30, 3) := dk_180 0 30 (dk_at dksX4_label_2 1 rfl rfl)
theorem dX4_label_51 : decode cX4_label 51 = .ok (.iload_n 1, 1) := dk_27 (dk_at dksX4_label_2 4 rfl rfl)
theorem dX4_label_52 : decode cX4_label 52 = .ok (.if_icmp .ne 7, 3) := dk_160 0 7 (dk_at dksX4_label_2 5 rfl rfl)
theorem dX4_label_55 : decode cX4_label 55 = .ok (.iconst 1, 1) := dk_4 (dk_at dksX4_label_2 8 rfl rfl)
theorem dX4_label_56 : decode cX4_label 56 = .ok (.goto 4, 3) := dk_167 0 4 (dk_at dksX4_label_2 9 rfl rfl)
theorem dX4_label_59 : decode cX4_label 59 = .ok (.iconst 0, 1) := dk_3 (dk_at dksX4_label_2 12 rfl rfl)
theorem dX4_label_60 : decode cX4_label 60 = .ok (.putfield 26, 3) := dk_181 0 26 (dk_at dksX4_label_2 13 rfl rfl)
theorem dX4_label_63 : decode cX4_label 63 = .ok (.aload_n 0, 1) := dk_42 (dk_at dksX4_label_2 16 rfl rfl)
theorem dX4_label_64 : decode cX4_label 64 = .ok (.getfield 30, 3) := dk_180 0 30 (dk_at dksX4_label_2 17 rfl rfl)
theorem dX4_label_67 : decode cX4_label 67 = .ok (.iload_n 1, 1) := dk_27 (dk_at dksX4_label_2 20 rfl rfl)
theorem dX4_label_68 : decode cX4_label 68 = .ok (.isub, 1) := dk_100 (dk_at dksX4_label_2 21 rfl rfl)
theorem dX4_label_69 : decode cX4_label 69 = .ok (.newarray .int, 2) := dk_188_10 (dk_at dksX4_label_2 22 rfl rfl)
theorem dX4_label_71 : decode cX4_label 71 = .ok (.astore_n 2, 1) := dk_77 (dk_at dksX4_label_3 0 rfl rfl)
theorem dX4_label_72 : decode cX4_label 72 = .ok (.iconst 0, 1) := dk_3 (dk_at dksX4_label_3 1 rfl rfl)
theorem dX4_label_73 : decode cX4_label 73 = .ok (.istore_n 3, 1) := dk_62 (dk_at dksX4_label_3 2 rfl rfl)
theorem dX4_label_74 : decode cX4_label 74 = .ok (.iload_n 3, 1) := dk_29 (dk_at dksX4_label_3 3 rfl rfl)
theorem dX4_label_75 : decode cX4_label 75 = .ok (.aload_n 2, 1) := dk_44 (dk_at dksX4_label_3 4 rfl rfl)
theorem dX4_label_76 : decode cX4_label 76 = .ok (.arraylength, 1) := dk_190 (dk_at dksX4_label_3 5 rfl rfl)
theorem dX4_label_77 : decode cX4_label 77 = .ok (.if_icmp .ge 25, 3) := dk_162 0 25 (dk_at dksX4_label_3 6 rfl rfl)
theorem dX4_label_80 : decode cX4_label 80 = .ok (.aload_n 2, 1) := dk_44 (dk_at dksX4_label_3 9 rfl rfl)
theorem dX4_label_81 : decode cX4_label 81 = .ok (.iload_n 3, 1) := dk_29 (dk_at dksX4_label_3 10 rfl rfl)
theorem dX4_label_82 : decode cX4_label 82 = .ok (.aload_n 0, 1) := dk_42 (dk_at dksX4_label_3 11 rfl rfl)
theorem dX4_label_83 : decode cX4_label 83 = .ok (.getfield 18, 3) := dk_180 0 18 (dk_at dksX4_label_3 12 rfl rfl)
theorem dX4_label_86 : decode cX4_label 86 = .ok (.iload_n 1, 1) := dk_27 (dk_at dksX4_label_3 15 rfl rfl)
theorem dX4_label_87 : decode cX4_label 87 = .ok (.iload_n 3, 1) := dk_29 (dk_at dksX4_label_3 16 rfl rfl)
theorem dX4_label_88 : decode cX4_label 88 = .ok (.iadd, 1) := dk_96 (dk_at dksX4_label_3 17 rfl rfl)
theorem dX4_label_89 : decode cX4_label 89 = .ok (.invokevirtual 39, 3) := dk_182 0 39 (dk_at dksX4_label_3 18 rfl rfl)
theorem dX4_label_92 : decode cX4_label 92 = .ok (.bipush 65, 2) := dk_16 65 (dk_at dksX4_label_3 21 rfl rfl)
theorem dX4_label_94 : decode cX4_label 94 = .ok (.isub, 1) := dk_100 (dk_at dksX4_label_3 23 rfl rfl)
theorem dX4_label_95 : decode cX4_label 95 = .ok (.iastore, 1) := dk_79 (dk_at dksX4_label_4 0 rfl rfl)
theorem dX4_label_96 : decode cX4_label 96 = .ok (.iinc 3 1, 3) := dk_132 3 1 (dk_at dksX4_label_4 1 rfl rfl)
theorem dX4_label_99 : decode cX4_label 99 = .ok (.goto (-25), 3) := dk_167 255 231 (dk_at dksX4_label_4 4 rfl rfl)
theorem dX4_label_102 : decode cX4_label 102 = .ok (.aload_n 2, 1) := dk_44 (dk_at dksX4_label_4 7 rfl rfl)
theorem dX4_label_103 : decode cX4_label 103 = .ok (.areturn, 1) := dk_176 (dk_at dksX4_label_4 8 rfl rfl)
abbrev cX4_isNow : ByteArray := prog_3_method_2_code
def yX4_isNow : MethodName := ⟨RX4, "isNow", "(II)Z"⟩
def dkwX4_isNow_1 : List UInt8 := [180, 0, 18, 42, 180, 0, 30, 182, 0, 39, 27, 28, 184, 0, 43, 153, 0, 7, 4, 167, 0, 4, 3, 172]
abbrev dktX4_isNow_1 : List UInt8 := dkwX4_isNow_1 ++ []
def dkwX4_isNow_0 : List UInt8 := [42, 180, 0, 26, 154, 0, 40, 42, 180, 0, 30, 42, 180, 0, 18, 182, 0, 33, 162, 0, 26, 42]
abbrev dktX4_isNow_0 : List UInt8 := dkwX4_isNow_0 ++ dktX4_isNow_1
theorem dksX4_isNow_0 : cX4_isNow.data.toList.drop 0 = dktX4_isNow_0 := by decide +kernel
theorem dksX4_isNow_1 : cX4_isNow.data.toList.drop 22 = dktX4_isNow_1 := dk_seg dksX4_isNow_0 22 rfl rfl
theorem dX4_isNow_0 : decode cX4_isNow 0 = .ok (.aload_n 0, 1) := dk_42 (dk_at dksX4_isNow_0 0 rfl rfl)
theorem dX4_isNow_1 : decode cX4_isNow 1 = .ok (.getfield 26, 3) := dk_180 0 26 (dk_at dksX4_isNow_0 1 rfl rfl)
theorem dX4_isNow_4 : decode cX4_isNow 4 = .ok (.ifCond .ne 40, 3) := dk_154 0 40 (dk_at dksX4_isNow_0 4 rfl rfl)
theorem dX4_isNow_7 : decode cX4_isNow 7 = .ok (.aload_n 0, 1) := dk_42 (dk_at dksX4_isNow_0 7 rfl rfl)
theorem dX4_isNow_8 : decode cX4_isNow 8 = .ok (.getfield 30, 3) := dk_180 0 30 (dk_at dksX4_isNow_0 8 rfl rfl)
theorem dX4_isNow_11 : decode cX4_isNow 11 = .ok (.aload_n 0, 1) := dk_42 (dk_at dksX4_isNow_0 11 rfl rfl)
theorem dX4_isNow_12 : decode cX4_isNow 12 = .ok (.getfield 18, 3) := dk_180 0 18 (dk_at dksX4_isNow_0 12 rfl rfl)
theorem dX4_isNow_15 : decode cX4_isNow 15 = .ok (.invokevirtual 33, 3) := dk_182 0 33 (dk_at dksX4_isNow_0 15 rfl rfl)
theorem dX4_isNow_18 : decode cX4_isNow 18 = .ok (.if_icmp .ge 26, 3) := dk_162 0 26 (dk_at dksX4_isNow_0 18 rfl rfl)
theorem dX4_isNow_21 : decode cX4_isNow 21 = .ok (.aload_n 0, 1) := dk_42 (dk_at dksX4_isNow_0 21 rfl rfl)
theorem dX4_isNow_22 : decode cX4_isNow 22 = .ok (.getfield 18, 3) := dk_180 0 18 (dk_at dksX4_isNow_1 0 rfl rfl)
theorem dX4_isNow_25 : decode cX4_isNow 25 = .ok (.aload_n 0, 1) := dk_42 (dk_at dksX4_isNow_1 3 rfl rfl)
theorem dX4_isNow_26 : decode cX4_isNow 26 = .ok (.getfield 30, 3) := dk_180 0 30 (dk_at dksX4_isNow_1 4 rfl rfl)
theorem dX4_isNow_29 : decode cX4_isNow 29 = .ok (.invokevirtual 39, 3) := dk_182 0 39 (dk_at dksX4_isNow_1 7 rfl rfl)
theorem dX4_isNow_32 : decode cX4_isNow 32 = .ok (.iload_n 1, 1) := dk_27 (dk_at dksX4_isNow_1 10 rfl rfl)
theorem dX4_isNow_33 : decode cX4_isNow 33 = .ok (.iload_n 2, 1) := dk_28 (dk_at dksX4_isNow_1 11 rfl rfl)
theorem dX4_isNow_34 : decode cX4_isNow 34 = .ok (.invokestatic 43, 3) := dk_184 0 43 (dk_at dksX4_isNow_1 12 rfl rfl)
theorem dX4_isNow_37 : decode cX4_isNow 37 = .ok (.ifCond .eq 7, 3) := dk_153 0 7 (dk_at dksX4_isNow_1 15 rfl rfl)
theorem dX4_isNow_40 : decode cX4_isNow 40 = .ok (.iconst 1, 1) := dk_4 (dk_at dksX4_isNow_1 18 rfl rfl)
theorem dX4_isNow_41 : decode cX4_isNow 41 = .ok (.goto 4, 3) := dk_167 0 4 (dk_at dksX4_isNow_1 19 rfl rfl)
theorem dX4_isNow_44 : decode cX4_isNow 44 = .ok (.iconst 0, 1) := dk_3 (dk_at dksX4_isNow_1 22 rfl rfl)
theorem dX4_isNow_45 : decode cX4_isNow 45 = .ok (.ireturn, 1) := dk_172 (dk_at dksX4_isNow_1 23 rfl rfl)
abbrev cX4_sign : ByteArray := prog_3_method_3_code
def yX4_sign : MethodName := ⟨RX4, "sign", "(C)V"⟩
def dkwX4_sign_2 : List UInt8 := [177]
abbrev dktX4_sign_2 : List UInt8 := dkwX4_sign_2 ++ []
def dkwX4_sign_1 : List UInt8 := [181, 0, 26, 42, 89, 180, 0, 30, 42, 180, 0, 26, 153, 0, 7, 3, 167, 0, 4, 4, 96, 181, 0, 30]
abbrev dktX4_sign_1 : List UInt8 := dkwX4_sign_1 ++ dktX4_sign_2
def dkwX4_sign_0 : List UInt8 := [42, 42, 180, 0, 26, 154, 0, 12, 42, 27, 27, 182, 0, 47, 154, 0, 7, 4, 167, 0, 4, 3]
abbrev dktX4_sign_0 : List UInt8 := dkwX4_sign_0 ++ dktX4_sign_1
theorem dksX4_sign_0 : cX4_sign.data.toList.drop 0 = dktX4_sign_0 := by decide +kernel
theorem dksX4_sign_1 : cX4_sign.data.toList.drop 22 = dktX4_sign_1 := dk_seg dksX4_sign_0 22 rfl rfl
theorem dksX4_sign_2 : cX4_sign.data.toList.drop 46 = dktX4_sign_2 := dk_seg dksX4_sign_1 24 rfl rfl
theorem dX4_sign_0 : decode cX4_sign 0 = .ok (.aload_n 0, 1) := dk_42 (dk_at dksX4_sign_0 0 rfl rfl)
theorem dX4_sign_1 : decode cX4_sign 1 = .ok (.aload_n 0, 1) := dk_42 (dk_at dksX4_sign_0 1 rfl rfl)
theorem dX4_sign_2 : decode cX4_sign 2 = .ok (.getfield 26, 3) := dk_180 0 26 (dk_at dksX4_sign_0 2 rfl rfl)
theorem dX4_sign_5 : decode cX4_sign 5 = .ok (.ifCond .ne 12, 3) := dk_154 0 12 (dk_at dksX4_sign_0 5 rfl rfl)
theorem dX4_sign_8 : decode cX4_sign 8 = .ok (.aload_n 0, 1) := dk_42 (dk_at dksX4_sign_0 8 rfl rfl)
theorem dX4_sign_9 : decode cX4_sign 9 = .ok (.iload_n 1, 1) := dk_27 (dk_at dksX4_sign_0 9 rfl rfl)
theorem dX4_sign_10 : decode cX4_sign 10 = .ok (.iload_n 1, 1) := dk_27 (dk_at dksX4_sign_0 10 rfl rfl)
theorem dX4_sign_11 : decode cX4_sign 11 = .ok (.invokevirtual 47, 3) := dk_182 0 47 (dk_at dksX4_sign_0 11 rfl rfl)
theorem dX4_sign_14 : decode cX4_sign 14 = .ok (.ifCond .ne 7, 3) := dk_154 0 7 (dk_at dksX4_sign_0 14 rfl rfl)
theorem dX4_sign_17 : decode cX4_sign 17 = .ok (.iconst 1, 1) := dk_4 (dk_at dksX4_sign_0 17 rfl rfl)
theorem dX4_sign_18 : decode cX4_sign 18 = .ok (.goto 4, 3) := dk_167 0 4 (dk_at dksX4_sign_0 18 rfl rfl)
theorem dX4_sign_21 : decode cX4_sign 21 = .ok (.iconst 0, 1) := dk_3 (dk_at dksX4_sign_0 21 rfl rfl)
theorem dX4_sign_22 : decode cX4_sign 22 = .ok (.putfield 26, 3) := dk_181 0 26 (dk_at dksX4_sign_1 0 rfl rfl)
theorem dX4_sign_25 : decode cX4_sign 25 = .ok (.aload_n 0, 1) := dk_42 (dk_at dksX4_sign_1 3 rfl rfl)
theorem dX4_sign_26 : decode cX4_sign 26 = .ok (.dup, 1) := dk_89 (dk_at dksX4_sign_1 4 rfl rfl)
theorem dX4_sign_27 : decode cX4_sign 27 = .ok (.getfield 30, 3) := dk_180 0 30 (dk_at dksX4_sign_1 5 rfl rfl)
theorem dX4_sign_30 : decode cX4_sign 30 = .ok (.aload_n 0, 1) := dk_42 (dk_at dksX4_sign_1 8 rfl rfl)
theorem dX4_sign_31 : decode cX4_sign 31 = .ok (.getfield 26, 3) := dk_180 0 26 (dk_at dksX4_sign_1 9 rfl rfl)
theorem dX4_sign_34 : decode cX4_sign 34 = .ok (.ifCond .eq 7, 3) := dk_153 0 7 (dk_at dksX4_sign_1 12 rfl rfl)
theorem dX4_sign_37 : decode cX4_sign 37 = .ok (.iconst 0, 1) := dk_3 (dk_at dksX4_sign_1 15 rfl rfl)
theorem dX4_sign_38 : decode cX4_sign 38 = .ok (.goto 4, 3) := dk_167 0 4 (dk_at dksX4_sign_1 16 rfl rfl)
theorem dX4_sign_41 : decode cX4_sign 41 = .ok (.iconst 1, 1) := dk_4 (dk_at dksX4_sign_1 19 rfl rfl)
theorem dX4_sign_42 : decode cX4_sign 42 = .ok (.iadd, 1) := dk_96 (dk_at dksX4_sign_1 20 rfl rfl)
theorem dX4_sign_43 : decode cX4_sign 43 = .ok (.putfield 30, 3) := dk_181 0 30 (dk_at dksX4_sign_1 21 rfl rfl)
theorem dX4_sign_46 : decode cX4_sign 46 = .ok (.return_, 1) := dk_177 (dk_at dksX4_sign_2 0 rfl rfl)
abbrev cX4_number : ByteArray := prog_3_method_4_code
def yX4_number : MethodName := ⟨RX4, "number", "(II)I"⟩
def dkwX4_number_5 : List UInt8 := [163, 0, 7, 4, 167, 0, 4, 3, 54, 4, 167, 255, 176, 29, 172]
abbrev dktX4_number_5 : List UInt8 := dkwX4_number_5 ++ []
def dkwX4_number_4 : List UInt8 := [153, 0, 30, 16, 10, 29, 104, 42, 180, 0, 18, 42, 180, 0, 30, 182, 0, 39, 96, 16, 48, 100, 28]
abbrev dktX4_number_4 : List UInt8 := dkwX4_number_4 ++ dktX4_number_5
def dkwX4_number_3 : List UInt8 := [62, 42, 89, 180, 0, 30, 4, 96, 181, 0, 30, 29, 158, 0, 41, 42, 16, 48, 16, 57, 182, 0, 47]
abbrev dktX4_number_3 : List UInt8 := dkwX4_number_3 ++ dktX4_number_4
def dkwX4_number_2 : List UInt8 := [21, 4, 153, 0, 81, 16, 10, 29, 104, 42, 180, 0, 18, 42, 180, 0, 30, 182, 0, 39, 96, 16, 48, 100]
abbrev dktX4_number_2 : List UInt8 := dkwX4_number_2 ++ dktX4_number_3
def dkwX4_number_1 : List UInt8 := [167, 0, 4, 3, 181, 0, 26, 3, 62, 42, 180, 0, 26, 154, 0, 7, 4, 167, 0, 4, 3, 54, 4]
abbrev dktX4_number_1 : List UInt8 := dkwX4_number_1 ++ dktX4_number_2
def dkwX4_number_0 : List UInt8 := [42, 42, 180, 0, 26, 154, 0, 16, 42, 16, 48, 27, 96, 16, 57, 182, 0, 47, 154, 0, 7, 4]
abbrev dktX4_number_0 : List UInt8 := dkwX4_number_0 ++ dktX4_number_1
theorem dksX4_number_0 : cX4_number.data.toList.drop 0 = dktX4_number_0 := by decide +kernel
theorem dksX4_number_1 : cX4_number.data.toList.drop 22 = dktX4_number_1 := dk_seg dksX4_number_0 22 rfl rfl
theorem dksX4_number_2 : cX4_number.data.toList.drop 45 = dktX4_number_2 := dk_seg dksX4_number_1 23 rfl rfl
theorem dksX4_number_3 : cX4_number.data.toList.drop 69 = dktX4_number_3 := dk_seg dksX4_number_2 24 rfl rfl
theorem dksX4_number_4 : cX4_number.data.toList.drop 92 = dktX4_number_4 := dk_seg dksX4_number_3 23 rfl rfl
theorem dksX4_number_5 : cX4_number.data.toList.drop 115 = dktX4_number_5 := dk_seg dksX4_number_4 23 rfl rfl
theorem dX4_number_0 : decode cX4_number 0 = .ok (.aload_n 0, 1) := dk_42 (dk_at dksX4_number_0 0 rfl rfl)
theorem dX4_number_1 : decode cX4_number 1 = .ok (.aload_n 0, 1) := dk_42 (dk_at dksX4_number_0 1 rfl rfl)
theorem dX4_number_2 : decode cX4_number 2 = .ok (.getfield 26, 3) := dk_180 0 26 (dk_at dksX4_number_0 2 rfl rfl)
theorem dX4_number_5 : decode cX4_number 5 = .ok (.ifCond .ne 16, 3) := dk_154 0 16 (dk_at dksX4_number_0 5 rfl rfl)
theorem dX4_number_8 : decode cX4_number 8 = .ok (.aload_n 0, 1) := dk_42 (dk_at dksX4_number_0 8 rfl rfl)
theorem dX4_number_9 : decode cX4_number 9 = .ok (.bipush 48, 2) := dk_16 48 (dk_at dksX4_number_0 9 rfl rfl)
theorem dX4_number_11 : decode cX4_number 11 = .ok (.iload_n 1, 1) := dk_27 (dk_at dksX4_number_0 11 rfl rfl)
theorem dX4_number_12 : decode cX4_number 12 = .ok (.iadd, 1) := dk_96 (dk_at dksX4_number_0 12 rfl rfl)
theorem dX4_number_13 : decode cX4_number 13 = .ok (.bipush 57, 2) := dk_16 57 (dk_at dksX4_number_0 13 rfl rfl)
theorem dX4_number_15 : decode cX4_number 15 = .ok (.invokevirtual 47, 3) := dk_182 0 47 (dk_at dksX4_number_0 15 rfl rfl)
theorem dX4_number_18 : decode cX4_number 18 = .ok (.ifCond .ne 7, 3) := dk_154 0 7 (dk_at dksX4_number_0 18 rfl rfl)
theorem dX4_number_21 : decode cX4_number 21 = .ok (.iconst 1, 1) := dk_4 (dk_at dksX4_number_0 21 rfl rfl)
theorem dX4_number_22 : decode cX4_number 22 = .ok (.goto 4, 3) := dk_167 0 4 (dk_at dksX4_number_1 0 rfl rfl)
theorem dX4_number_25 : decode cX4_number 25 = .ok (.iconst 0, 1) := dk_3 (dk_at dksX4_number_1 3 rfl rfl)
theorem dX4_number_26 : decode cX4_number 26 = .ok (.putfield 26, 3) := dk_181 0 26 (dk_at dksX4_number_1 4 rfl rfl)
theorem dX4_number_29 : decode cX4_number 29 = .ok (.iconst 0, 1) := dk_3 (dk_at dksX4_number_1 7 rfl rfl)
theorem dX4_number_30 : decode cX4_number 30 = .ok (.istore_n 3, 1) := dk_62 (dk_at dksX4_number_1 8 rfl rfl)
theorem dX4_number_31 : decode cX4_number 31 = .ok (.aload_n 0, 1) := dk_42 (dk_at dksX4_number_1 9 rfl rfl)
theorem dX4_number_32 : decode cX4_number 32 = .ok (.getfield 26, 3) := dk_180 0 26 (dk_at dksX4_number_1 10 rfl rfl)
theorem dX4_number_35 : decode cX4_number 35 = .ok (.ifCond .ne 7, 3) := dk_154 0 7 (dk_at dksX4_number_1 13 rfl rfl)
theorem dX4_number_38 : decode cX4_number 38 = .ok (.iconst 1, 1) := dk_4 (dk_at dksX4_number_1 16 rfl rfl)
theorem dX4_number_39 : decode cX4_number 39 = .ok (.goto 4, 3) := dk_167 0 4 (dk_at dksX4_number_1 17 rfl rfl)
theorem dX4_number_42 : decode cX4_number 42 = .ok (.iconst 0, 1) := dk_3 (dk_at dksX4_number_1 20 rfl rfl)
theorem dX4_number_43 : decode cX4_number 43 = .ok (.istore 4, 2) := dk_54 4 (dk_at dksX4_number_1 21 rfl rfl)
theorem dX4_number_45 : decode cX4_number 45 = .ok (.iload 4, 2) := dk_21 4 (dk_at dksX4_number_2 0 rfl rfl)
theorem dX4_number_47 : decode cX4_number 47 = .ok (.ifCond .eq 81, 3) := dk_153 0 81 (dk_at dksX4_number_2 2 rfl rfl)
theorem dX4_number_50 : decode cX4_number 50 = .ok (.bipush 10, 2) := dk_16 10 (dk_at dksX4_number_2 5 rfl rfl)
theorem dX4_number_52 : decode cX4_number 52 = .ok (.iload_n 3, 1) := dk_29 (dk_at dksX4_number_2 7 rfl rfl)
theorem dX4_number_53 : decode cX4_number 53 = .ok (.imul, 1) := dk_104 (dk_at dksX4_number_2 8 rfl rfl)
theorem dX4_number_54 : decode cX4_number 54 = .ok (.aload_n 0, 1) := dk_42 (dk_at dksX4_number_2 9 rfl rfl)
theorem dX4_number_55 : decode cX4_number 55 = .ok (.getfield 18, 3) := dk_180 0 18 (dk_at dksX4_number_2 10 rfl rfl)
theorem dX4_number_58 : decode cX4_number 58 = .ok (.aload_n 0, 1) := dk_42 (dk_at dksX4_number_2 13 rfl rfl)
theorem dX4_number_59 : decode cX4_number 59 = .ok (.getfield 30, 3) := dk_180 0 30 (dk_at dksX4_number_2 14 rfl rfl)
theorem dX4_number_62 : decode cX4_number 62 = .ok (.invokevirtual 39, 3) := dk_182 0 39 (dk_at dksX4_number_2 17 rfl rfl)
theorem dX4_number_65 : decode cX4_number 65 = .ok (.iadd, 1) := dk_96 (dk_at dksX4_number_2 20 rfl rfl)
theorem dX4_number_66 : decode cX4_number 66 = .ok (.bipush 48, 2) := dk_16 48 (dk_at dksX4_number_2 21 rfl rfl)
theorem dX4_number_68 : decode cX4_number 68 = .ok (.isub, 1) := dk_100 (dk_at dksX4_number_2 23 rfl rfl)
theorem dX4_number_69 : decode cX4_number 69 = .ok (.istore_n 3, 1) := dk_62 (dk_at dksX4_number_3 0 rfl rfl)
theorem dX4_number_70 : decode cX4_number 70 = .ok (.aload_n 0, 1) := dk_42 (dk_at dksX4_number_3 1 rfl rfl)
theorem dX4_number_71 : decode cX4_number 71 = .ok (.dup, 1) := dk_89 (dk_at dksX4_number_3 2 rfl rfl)
theorem dX4_number_72 : decode cX4_number 72 = .ok (.getfield 30, 3) := dk_180 0 30 (dk_at dksX4_number_3 3 rfl rfl)
theorem dX4_number_75 : decode cX4_number 75 = .ok (.iconst 1, 1) := dk_4 (dk_at dksX4_number_3 6 rfl rfl)
theorem dX4_number_76 : decode cX4_number 76 = .ok (.iadd, 1) := dk_96 (dk_at dksX4_number_3 7 rfl rfl)
theorem dX4_number_77 : decode cX4_number 77 = .ok (.putfield 30, 3) := dk_181 0 30 (dk_at dksX4_number_3 8 rfl rfl)
theorem dX4_number_80 : decode cX4_number 80 = .ok (.iload_n 3, 1) := dk_29 (dk_at dksX4_number_3 11 rfl rfl)
theorem dX4_number_81 : decode cX4_number 81 = .ok (.ifCond .le 41, 3) := dk_158 0 41 (dk_at dksX4_number_3 12 rfl rfl)
theorem dX4_number_84 : decode cX4_number 84 = .ok (.aload_n 0, 1) := dk_42 (dk_at dksX4_number_3 15 rfl rfl)
theorem dX4_number_85 : decode cX4_number 85 = .ok (.bipush 48, 2) := dk_16 48 (dk_at dksX4_number_3 16 rfl rfl)
theorem dX4_number_87 : decode cX4_number 87 = .ok (.bipush 57, 2) := dk_16 57 (dk_at dksX4_number_3 18 rfl rfl)
theorem dX4_number_89 : decode cX4_number 89 = .ok (.invokevirtual 47, 3) := dk_182 0 47 (dk_at dksX4_number_3 20 rfl rfl)
theorem dX4_number_92 : decode cX4_number 92 = .ok (.ifCond .eq 30, 3) := dk_153 0 30 (dk_at dksX4_number_4 0 rfl rfl)
theorem dX4_number_95 : decode cX4_number 95 = .ok (.bipush 10, 2) := dk_16 10 (dk_at dksX4_number_4 3 rfl rfl)
theorem dX4_number_97 : decode cX4_number 97 = .ok (.iload_n 3, 1) := dk_29 (dk_at dksX4_number_4 5 rfl rfl)
theorem dX4_number_98 : decode cX4_number 98 = .ok (.imul, 1) := dk_104 (dk_at dksX4_number_4 6 rfl rfl)
theorem dX4_number_99 : decode cX4_number 99 = .ok (.aload_n 0, 1) := dk_42 (dk_at dksX4_number_4 7 rfl rfl)
theorem dX4_number_100 : decode cX4_number 100 = .ok (.getfield 18, 3) := dk_180 0 18 (dk_at dksX4_number_4 8 rfl rfl)
theorem dX4_number_103 : decode cX4_number 103 = .ok (.aload_n 0, 1) := dk_42 (dk_at dksX4_number_4 11 rfl rfl)
theorem dX4_number_104 : decode cX4_number 104 = .ok (.getfield 30, 3) := dk_180 0 30 (dk_at dksX4_number_4 12 rfl rfl)
theorem dX4_number_107 : decode cX4_number 107 = .ok (.invokevirtual 39, 3) := dk_182 0 39 (dk_at dksX4_number_4 15 rfl rfl)
theorem dX4_number_110 : decode cX4_number 110 = .ok (.iadd, 1) := dk_96 (dk_at dksX4_number_4 18 rfl rfl)
theorem dX4_number_111 : decode cX4_number 111 = .ok (.bipush 48, 2) := dk_16 48 (dk_at dksX4_number_4 19 rfl rfl)
theorem dX4_number_113 : decode cX4_number 113 = .ok (.isub, 1) := dk_100 (dk_at dksX4_number_4 21 rfl rfl)
theorem dX4_number_114 : decode cX4_number 114 = .ok (.iload_n 2, 1) := dk_28 (dk_at dksX4_number_4 22 rfl rfl)
theorem dX4_number_115 : decode cX4_number 115 = .ok (.if_icmp .gt 7, 3) := dk_163 0 7 (dk_at dksX4_number_5 0 rfl rfl)
theorem dX4_number_118 : decode cX4_number 118 = .ok (.iconst 1, 1) := dk_4 (dk_at dksX4_number_5 3 rfl rfl)
theorem dX4_number_119 : decode cX4_number 119 = .ok (.goto 4, 3) := dk_167 0 4 (dk_at dksX4_number_5 4 rfl rfl)
theorem dX4_number_122 : decode cX4_number 122 = .ok (.iconst 0, 1) := dk_3 (dk_at dksX4_number_5 7 rfl rfl)
theorem dX4_number_123 : decode cX4_number 123 = .ok (.istore 4, 2) := dk_54 4 (dk_at dksX4_number_5 8 rfl rfl)
theorem dX4_number_125 : decode cX4_number 125 = .ok (.goto (-80), 3) := dk_167 255 176 (dk_at dksX4_number_5 10 rfl rfl)
theorem dX4_number_128 : decode cX4_number 128 = .ok (.iload_n 3, 1) := dk_29 (dk_at dksX4_number_5 13 rfl rfl)
theorem dX4_number_129 : decode cX4_number 129 = .ok (.ireturn, 1) := dk_172 (dk_at dksX4_number_5 14 rfl rfl)
theorem q107 : (Jvm.Cond.initialized "SlatCrates$Reader") ∈ lw_all := lw_g (lw_at lw_m1 30 rfl) rfl
theorem q462 : (Jvm.Cond.selects "SlatCrates$Reader" ({ cls := "java/lang/Object", name := "getClass", desc := "()Ljava/lang/Class;" } : Jvm.MethodName) ({ cls := "java/lang/Object", name := "getClass", desc := "()Ljava/lang/Class;" } : Jvm.MethodName)) ∈ lw_all := lw_g (lw_at lw_m2 145 rfl) rfl
theorem q765 : (Jvm.Cond.fieldLinkNest "SlatCrates$Reader" (68 : Nat) "SlatCrates$Crate" "holder" "I" "SlatCrates") ∈ lw_tbl := lw_at lw_m3 208 rfl
theorem q769 : (Jvm.Cond.fieldLinkNest "SlatCrates$Reader" (78 : Nat) "SlatCrates$Crate" "pile" "Ljava/util/ArrayList;" "SlatCrates") ∈ lw_tbl := lw_at lw_m3 212 rfl
theorem q964 : (Jvm.Cond.selects "SlatCrates$Reader" ({ cls := "java/lang/Object", name := "equals", desc := "(Ljava/lang/Object;)Z" } : Jvm.MethodName) ({ cls := "java/lang/Object", name := "equals", desc := "(Ljava/lang/Object;)Z" } : Jvm.MethodName)) ∈ lw_all := lw_g (lw_at lw_m4 167 rfl) rfl
theorem q1115 : (Jvm.Cond.instantiable "SlatCrates$Reader" (5 : Nat)) ∈ lw_all := lw_g (lw_at lw_m5 78 rfl) rfl
theorem q1117 : (Jvm.Cond.instanceMethod ({ cls := "SlatCrates$Reader", name := "<init>", desc := "(Ljava/lang/StringBuilder;I)V" } : Jvm.MethodName)) ∈ lw_all := lw_g (lw_at lw_m5 80 rfl) rfl
theorem q1118 : (Jvm.Cond.code ({ cls := "SlatCrates$Reader", name := "<init>", desc := "(Ljava/lang/StringBuilder;I)V" } : Jvm.MethodName) prog_3_method_1_code (3 : Nat) (Option.none : Option Jvm.ClassFile.FieldType)) ∈ lw_all := lw_g (lw_at lw_m5 81 rfl) rfl
theorem q1119 : (Jvm.Cond.methodLink "SlatCrates$Reader" (3 : Nat) ({ cls := "java/lang/Object", name := "<init>", desc := "()V" } : Jvm.MethodName)) ∈ lw_all := lw_g (lw_at lw_m5 82 rfl) rfl
theorem q1120 : (Jvm.Cond.classLink "SlatCrates$Reader" (9 : Nat) "java/util/ArrayList") ∈ lw_all := lw_g (lw_at lw_m5 83 rfl) rfl
theorem q1121 : (Jvm.Cond.methodLink "SlatCrates$Reader" (11 : Nat) ({ cls := "java/util/ArrayList", name := "<init>", desc := "()V" } : Jvm.MethodName)) ∈ lw_all := lw_g (lw_at lw_m5 84 rfl) rfl
theorem q1122 : (Jvm.Cond.fieldLink "SlatCrates$Reader" (18 : Nat) "SlatCrates$Reader" "text" "Ljava/lang/StringBuilder;") ∈ lw_all := lw_g (lw_at lw_m5 85 rfl) rfl
theorem q1123 : (Jvm.Cond.fieldLink "SlatCrates$Reader" (30 : Nat) "SlatCrates$Reader" "at" "I") ∈ lw_all := lw_g (lw_at lw_m5 86 rfl) rfl
theorem q1124 : (Jvm.Cond.fieldLink "SlatCrates$Reader" (26 : Nat) "SlatCrates$Reader" "isWrong" "Z") ∈ lw_all := lw_g (lw_at lw_m5 87 rfl) rfl
theorem q1125 : (Jvm.Cond.fieldLink "SlatCrates$Reader" (12 : Nat) "SlatCrates$Reader" "crates" "Ljava/util/ArrayList;") ∈ lw_all := lw_g (lw_at lw_m5 88 rfl) rfl
theorem q1127 : (Jvm.Cond.fieldLink "SlatCrates$Reader" (22 : Nat) "SlatCrates$Reader" "first" "I") ∈ lw_all := lw_g (lw_at lw_m5 90 rfl) rfl
theorem q1128 : (Jvm.Cond.laysFinal "SlatCrates$Reader" "SlatCrates$Reader" "text" "Ljava/lang/StringBuilder;") ∈ lw_all := lw_g (lw_at lw_m5 91 rfl) rfl
theorem q1129 : (Jvm.Cond.soleField "SlatCrates$Reader" "text") ∈ lw_all := lw_g (lw_at lw_m5 92 rfl) rfl
theorem q1130 : (Jvm.Cond.lays "SlatCrates$Reader" "SlatCrates$Reader" "at" "I") ∈ lw_all := lw_g (lw_at lw_m5 93 rfl) rfl
theorem q1131 : (Jvm.Cond.soleField "SlatCrates$Reader" "at") ∈ lw_all := lw_g (lw_at lw_m5 94 rfl) rfl
theorem q1132 : (Jvm.Cond.lays "SlatCrates$Reader" "SlatCrates$Reader" "isWrong" "Z") ∈ lw_all := lw_g (lw_at lw_m5 95 rfl) rfl
theorem q1133 : (Jvm.Cond.soleField "SlatCrates$Reader" "isWrong") ∈ lw_all := lw_g (lw_at lw_m5 96 rfl) rfl
theorem q1134 : (Jvm.Cond.laysFinal "SlatCrates$Reader" "SlatCrates$Reader" "crates" "Ljava/util/ArrayList;") ∈ lw_all := lw_g (lw_at lw_m5 97 rfl) rfl
theorem q1135 : (Jvm.Cond.soleField "SlatCrates$Reader" "crates") ∈ lw_all := lw_g (lw_at lw_m5 98 rfl) rfl
theorem q1136 : (Jvm.Cond.laysFinal "SlatCrates$Reader" "SlatCrates$Reader" "first" "I") ∈ lw_all := lw_g (lw_at lw_m5 99 rfl) rfl
theorem q1137 : (Jvm.Cond.soleField "SlatCrates$Reader" "first") ∈ lw_all := lw_g (lw_at lw_m5 100 rfl) rfl
theorem q1138 : (Jvm.Cond.superclass "SlatCrates$Reader" "java/lang/Object") ∈ lw_all := lw_g (lw_at lw_m5 101 rfl) rfl
theorem q1140 : (Jvm.Cond.instanceMethod ({ cls := "SlatCrates$Reader", name := "fault", desc := "()I" } : Jvm.MethodName)) ∈ lw_all := lw_g (lw_at lw_m5 103 rfl) rfl
theorem q1141 : (Jvm.Cond.selects "SlatCrates$Reader" ({ cls := "SlatCrates$Reader", name := "fault", desc := "()I" } : Jvm.MethodName) ({ cls := "SlatCrates$Reader", name := "fault", desc := "()I" } : Jvm.MethodName)) ∈ lw_all := lw_g (lw_at lw_m5 104 rfl) rfl
theorem q1142 : (Jvm.Cond.code ({ cls := "SlatCrates$Reader", name := "fault", desc := "()I" } : Jvm.MethodName) prog_3_method_7_code (1 : Nat) (Option.some Jvm.ClassFile.FieldType.int)) ∈ lw_all := lw_g (lw_at lw_m5 105 rfl) rfl
theorem q1143 : (Jvm.Cond.methodLink "SlatCrates$Reader" (81 : Nat) ({ cls := "SlatCrates$Reader", name := "nest", desc := "(I)I" } : Jvm.MethodName)) ∈ lw_all := lw_g (lw_at lw_m5 106 rfl) rfl
theorem q1144 : (Jvm.Cond.privateMethod ({ cls := "SlatCrates$Reader", name := "nest", desc := "(I)I" } : Jvm.MethodName)) ∈ lw_tbl := lw_at lw_m5 107 rfl
theorem q1145 : (Jvm.Cond.instanceMethod ({ cls := "SlatCrates$Reader", name := "nest", desc := "(I)I" } : Jvm.MethodName)) ∈ lw_all := lw_g (lw_at lw_m5 108 rfl) rfl
theorem q1146 : (Jvm.Cond.code ({ cls := "SlatCrates$Reader", name := "nest", desc := "(I)I" } : Jvm.MethodName) prog_3_method_6_code (7 : Nat) (Option.some Jvm.ClassFile.FieldType.int)) ∈ lw_all := lw_g (lw_at lw_m5 109 rfl) rfl
theorem q1147 : (Jvm.Cond.methodLink "SlatCrates$Reader" (51 : Nat) ({ cls := "SlatCrates$Reader", name := "label", desc := "()[I" } : Jvm.MethodName)) ∈ lw_all := lw_g (lw_at lw_m5 110 rfl) rfl
theorem q1148 : (Jvm.Cond.privateMethod ({ cls := "SlatCrates$Reader", name := "label", desc := "()[I" } : Jvm.MethodName)) ∈ lw_tbl := lw_at lw_m5 111 rfl
theorem q1149 : (Jvm.Cond.instanceMethod ({ cls := "SlatCrates$Reader", name := "label", desc := "()[I" } : Jvm.MethodName)) ∈ lw_all := lw_g (lw_at lw_m5 112 rfl) rfl
theorem q1150 : (Jvm.Cond.code ({ cls := "SlatCrates$Reader", name := "label", desc := "()[I" } : Jvm.MethodName) prog_3_method_5_code (4 : Nat) (Option.some (Jvm.ClassFile.FieldType.array Jvm.ClassFile.FieldType.int))) ∈ lw_all := lw_g (lw_at lw_m5 113 rfl) rfl
theorem q1151 : (Jvm.Cond.methodLink "SlatCrates$Reader" (47 : Nat) ({ cls := "SlatCrates$Reader", name := "isNow", desc := "(II)Z" } : Jvm.MethodName)) ∈ lw_all := lw_g (lw_at lw_m5 114 rfl) rfl
theorem q1152 : (Jvm.Cond.privateMethod ({ cls := "SlatCrates$Reader", name := "isNow", desc := "(II)Z" } : Jvm.MethodName)) ∈ lw_tbl := lw_at lw_m5 115 rfl
theorem q1153 : (Jvm.Cond.instanceMethod ({ cls := "SlatCrates$Reader", name := "isNow", desc := "(II)Z" } : Jvm.MethodName)) ∈ lw_all := lw_g (lw_at lw_m5 116 rfl) rfl
theorem q1154 : (Jvm.Cond.code ({ cls := "SlatCrates$Reader", name := "isNow", desc := "(II)Z" } : Jvm.MethodName) prog_3_method_2_code (3 : Nat) (Option.some Jvm.ClassFile.FieldType.boolean)) ∈ lw_all := lw_g (lw_at lw_m5 117 rfl) rfl
theorem q1155 : (Jvm.Cond.methodLink "SlatCrates$Reader" (33 : Nat) ({ cls := "java/lang/StringBuilder", name := "length", desc := "()I" } : Jvm.MethodName)) ∈ lw_all := lw_g (lw_at lw_m5 118 rfl) rfl
theorem q1156 : (Jvm.Cond.methodLink "SlatCrates$Reader" (39 : Nat) ({ cls := "java/lang/StringBuilder", name := "charAt", desc := "(I)C" } : Jvm.MethodName)) ∈ lw_all := lw_g (lw_at lw_m5 119 rfl) rfl
theorem q1166 : (Jvm.Cond.methodLinkNest "SlatCrates$Reader" (43 : Nat) ({ cls := "SlatCrates", name := "inRange", desc := "(III)Z" } : Jvm.MethodName) "SlatCrates") ∈ lw_tbl := lw_at lw_m5 129 rfl
theorem q1167 : (Jvm.Cond.methodLink "SlatCrates$Reader" (55 : Nat) ({ cls := "SlatCrates$Reader", name := "sign", desc := "(C)V" } : Jvm.MethodName)) ∈ lw_all := lw_g (lw_at lw_m5 130 rfl) rfl
theorem q1168 : (Jvm.Cond.privateMethod ({ cls := "SlatCrates$Reader", name := "sign", desc := "(C)V" } : Jvm.MethodName)) ∈ lw_tbl := lw_at lw_m5 131 rfl
theorem q1169 : (Jvm.Cond.instanceMethod ({ cls := "SlatCrates$Reader", name := "sign", desc := "(C)V" } : Jvm.MethodName)) ∈ lw_all := lw_g (lw_at lw_m5 132 rfl) rfl
theorem q1170 : (Jvm.Cond.code ({ cls := "SlatCrates$Reader", name := "sign", desc := "(C)V" } : Jvm.MethodName) prog_3_method_3_code (2 : Nat) (Option.none : Option Jvm.ClassFile.FieldType)) ∈ lw_all := lw_g (lw_at lw_m5 133 rfl) rfl
theorem q1171 : (Jvm.Cond.methodLink "SlatCrates$Reader" (59 : Nat) ({ cls := "SlatCrates$Reader", name := "number", desc := "(II)I" } : Jvm.MethodName)) ∈ lw_all := lw_g (lw_at lw_m5 134 rfl) rfl
theorem q1172 : (Jvm.Cond.privateMethod ({ cls := "SlatCrates$Reader", name := "number", desc := "(II)I" } : Jvm.MethodName)) ∈ lw_tbl := lw_at lw_m5 135 rfl
theorem q1173 : (Jvm.Cond.instanceMethod ({ cls := "SlatCrates$Reader", name := "number", desc := "(II)I" } : Jvm.MethodName)) ∈ lw_all := lw_g (lw_at lw_m5 136 rfl) rfl
theorem q1174 : (Jvm.Cond.code ({ cls := "SlatCrates$Reader", name := "number", desc := "(II)I" } : Jvm.MethodName) prog_3_method_4_code (5 : Nat) (Option.some Jvm.ClassFile.FieldType.int)) ∈ lw_all := lw_g (lw_at lw_m5 137 rfl) rfl
theorem q1175 : (Jvm.Cond.classLink "SlatCrates$Reader" (63 : Nat) "SlatCrates$Crate") ∈ lw_all := lw_g (lw_at lw_m5 138 rfl) rfl
theorem q1176 : (Jvm.Cond.methodLink "SlatCrates$Reader" (65 : Nat) ({ cls := "SlatCrates$Crate", name := "<init>", desc := "(III[I)V" } : Jvm.MethodName)) ∈ lw_all := lw_g (lw_at lw_m5 139 rfl) rfl
theorem q1177 : (Jvm.Cond.methodLink "SlatCrates$Reader" (71 : Nat) ({ cls := "java/util/ArrayList", name := "size", desc := "()I" } : Jvm.MethodName)) ∈ lw_all := lw_g (lw_at lw_m5 140 rfl) rfl
theorem q1178 : (Jvm.Cond.methodLink "SlatCrates$Reader" (74 : Nat) ({ cls := "java/util/ArrayList", name := "add", desc := "(Ljava/lang/Object;)Z" } : Jvm.MethodName)) ∈ lw_all := lw_g (lw_at lw_m5 141 rfl) rfl
theorem q1179 : (Jvm.Cond.methodLink "SlatCrates$Reader" (85 : Nat) ({ cls := "java/lang/Integer", name := "valueOf", desc := "(I)Ljava/lang/Integer;" } : Jvm.MethodName)) ∈ lw_all := lw_g (lw_at lw_m5 142 rfl) rfl
theorem q1348 : (Jvm.Cond.selects "SlatCrates$Reader" ({ cls := "java/lang/Object", name := "hashCode", desc := "()I" } : Jvm.MethodName) ({ cls := "java/lang/Object", name := "hashCode", desc := "()I" } : Jvm.MethodName)) ∈ lw_all := lw_g (lw_at lw_m6 71 rfl) rfl
theorem q2530 : (Jvm.Cond.castable "SlatCrates$Reader" "java/lang/Object") ∈ lw_tbl := lw_at lw_m11 53 rfl
theorem in_X4 : ∀ w ∈ wsX40, w ∈ lw_all := lw_in wsX40 [1128, 1130, 1132, 1134, 1136] (by decide +kernel) (by decide +kernel)

/-! SlatCrates$Seen -/
def RX5 : String := "SlatCrates$Seen"
def TX5 : u_T := fun k => match k with
  | 0 => ("SlatCrates$Seen", "size", "I", true)
  | 1 => ("SlatCrates$Seen", "depth", "I", true)
  | _ => ("SlatCrates$Seen", "signs", "I", true)
def tyX5 : Nat → FieldType := fun k => match k with
  | 0 => .int
  | 1 => .int
  | _ => .int
abbrev wsX50 : List Cond := u_ws RX5 TX5 3
theorem nmX5 : ∀ a, a < 3 → ∀ b, b < 3 → a ≠ b → (TX5 a).2.1 ≠ (TX5 b).2.1 := by decide +kernel
theorem tyX5_ok : ∀ k, k < 3 → parseFieldDescriptor (TX5 k).2.2.1 = some (tyX5 k) := by decide +kernel
abbrev cX5_equals : ByteArray := prog_4_method_4_code
def yX5_equals : MethodName := ⟨RX5, "equals", "(Ljava/lang/Object;)Z"⟩
def dkwX5_equals_2 : List UInt8 := [167, 0, 4, 3, 172]
abbrev dktX5_equals_2 : List UInt8 := dkwX5_equals_2 ++ []
def dkwX5_equals_1 : List UInt8 := [180, 0, 15, 42, 180, 0, 15, 160, 0, 18, 44, 180, 0, 18, 42, 180, 0, 18, 160, 0, 7, 4]
abbrev dktX5_equals_1 : List UInt8 := dkwX5_equals_1 ++ dktX5_equals_2
def dkwX5_equals_0 : List UInt8 := [43, 193, 0, 10, 153, 0, 45, 43, 192, 0, 10, 77, 44, 180, 0, 9, 42, 180, 0, 9, 160, 0, 29, 44]
abbrev dktX5_equals_0 : List UInt8 := dkwX5_equals_0 ++ dktX5_equals_1
theorem dksX5_equals_0 : cX5_equals.data.toList.drop 0 = dktX5_equals_0 := by decide +kernel
theorem dksX5_equals_1 : cX5_equals.data.toList.drop 24 = dktX5_equals_1 := dk_seg dksX5_equals_0 24 rfl rfl
theorem dksX5_equals_2 : cX5_equals.data.toList.drop 46 = dktX5_equals_2 := dk_seg dksX5_equals_1 22 rfl rfl
theorem dX5_equals_0 : decode cX5_equals 0 = .ok (.aload_n 1, 1) := dk_43 (dk_at dksX5_equals_0 0 rfl rfl)
theorem dX5_equals_1 : decode cX5_equals 1 = .ok (.instanceof 10, 3) := dk_193 0 10 (dk_at dksX5_equals_0 1 rfl rfl)
theorem dX5_equals_4 : decode cX5_equals 4 = .ok (.ifCond .eq 45, 3) := dk_153 0 45 (dk_at dksX5_equals_0 4 rfl rfl)
theorem dX5_equals_7 : decode cX5_equals 7 = .ok (.aload_n 1, 1) := dk_43 (dk_at dksX5_equals_0 7 rfl rfl)
theorem dX5_equals_8 : decode cX5_equals 8 = .ok (.checkcast 10, 3) := dk_192 0 10 (dk_at dksX5_equals_0 8 rfl rfl)
theorem dX5_equals_11 : decode cX5_equals 11 = .ok (.astore_n 2, 1) := dk_77 (dk_at dksX5_equals_0 11 rfl rfl)
theorem dX5_equals_12 : decode cX5_equals 12 = .ok (.aload_n 2, 1) := dk_44 (dk_at dksX5_equals_0 12 rfl rfl)
theorem dX5_equals_13 : decode cX5_equals 13 = .ok (.getfield 9, 3) := dk_180 0 9 (dk_at dksX5_equals_0 13 rfl rfl)
theorem dX5_equals_16 : decode cX5_equals 16 = .ok (.aload_n 0, 1) := dk_42 (dk_at dksX5_equals_0 16 rfl rfl)
theorem dX5_equals_17 : decode cX5_equals 17 = .ok (.getfield 9, 3) := dk_180 0 9 (dk_at dksX5_equals_0 17 rfl rfl)
theorem dX5_equals_20 : decode cX5_equals 20 = .ok (.if_icmp .ne 29, 3) := dk_160 0 29 (dk_at dksX5_equals_0 20 rfl rfl)
theorem dX5_equals_23 : decode cX5_equals 23 = .ok (.aload_n 2, 1) := dk_44 (dk_at dksX5_equals_0 23 rfl rfl)
theorem dX5_equals_24 : decode cX5_equals 24 = .ok (.getfield 15, 3) := dk_180 0 15 (dk_at dksX5_equals_1 0 rfl rfl)
theorem dX5_equals_27 : decode cX5_equals 27 = .ok (.aload_n 0, 1) := dk_42 (dk_at dksX5_equals_1 3 rfl rfl)
theorem dX5_equals_28 : decode cX5_equals 28 = .ok (.getfield 15, 3) := dk_180 0 15 (dk_at dksX5_equals_1 4 rfl rfl)
theorem dX5_equals_31 : decode cX5_equals 31 = .ok (.if_icmp .ne 18, 3) := dk_160 0 18 (dk_at dksX5_equals_1 7 rfl rfl)
theorem dX5_equals_34 : decode cX5_equals 34 = .ok (.aload_n 2, 1) := dk_44 (dk_at dksX5_equals_1 10 rfl rfl)
theorem dX5_equals_35 : decode cX5_equals 35 = .ok (.getfield 18, 3) := dk_180 0 18 (dk_at dksX5_equals_1 11 rfl rfl)
theorem dX5_equals_38 : decode cX5_equals 38 = .ok (.aload_n 0, 1) := dk_42 (dk_at dksX5_equals_1 14 rfl rfl)
theorem dX5_equals_39 : decode cX5_equals 39 = .ok (.getfield 18, 3) := dk_180 0 18 (dk_at dksX5_equals_1 15 rfl rfl)
theorem dX5_equals_42 : decode cX5_equals 42 = .ok (.if_icmp .ne 7, 3) := dk_160 0 7 (dk_at dksX5_equals_1 18 rfl rfl)
theorem dX5_equals_45 : decode cX5_equals 45 = .ok (.iconst 1, 1) := dk_4 (dk_at dksX5_equals_1 21 rfl rfl)
theorem dX5_equals_46 : decode cX5_equals 46 = .ok (.goto 4, 3) := dk_167 0 4 (dk_at dksX5_equals_2 0 rfl rfl)
theorem dX5_equals_49 : decode cX5_equals 49 = .ok (.iconst 0, 1) := dk_3 (dk_at dksX5_equals_2 3 rfl rfl)
theorem dX5_equals_50 : decode cX5_equals 50 = .ok (.ireturn, 1) := dk_172 (dk_at dksX5_equals_2 4 rfl rfl)
abbrev cX5_init : ByteArray := prog_4_method_1_code
def yX5_init : MethodName := ⟨RX5, "<init>", "(III)V"⟩
def dkwX5_init_0 : List UInt8 := [42, 183, 0, 3, 42, 27, 181, 0, 9, 42, 28, 181, 0, 15, 42, 29, 181, 0, 18, 177]
abbrev dktX5_init_0 : List UInt8 := dkwX5_init_0 ++ []
theorem dksX5_init_0 : cX5_init.data.toList.drop 0 = dktX5_init_0 := by decide +kernel
theorem dX5_init_0 : decode cX5_init 0 = .ok (.aload_n 0, 1) := dk_42 (dk_at dksX5_init_0 0 rfl rfl)
theorem dX5_init_1 : decode cX5_init 1 = .ok (.invokespecial 3, 3) := dk_183 0 3 (dk_at dksX5_init_0 1 rfl rfl)
theorem dX5_init_4 : decode cX5_init 4 = .ok (.aload_n 0, 1) := dk_42 (dk_at dksX5_init_0 4 rfl rfl)
theorem dX5_init_5 : decode cX5_init 5 = .ok (.iload_n 1, 1) := dk_27 (dk_at dksX5_init_0 5 rfl rfl)
theorem dX5_init_6 : decode cX5_init 6 = .ok (.putfield 9, 3) := dk_181 0 9 (dk_at dksX5_init_0 6 rfl rfl)
theorem dX5_init_9 : decode cX5_init 9 = .ok (.aload_n 0, 1) := dk_42 (dk_at dksX5_init_0 9 rfl rfl)
theorem dX5_init_10 : decode cX5_init 10 = .ok (.iload_n 2, 1) := dk_28 (dk_at dksX5_init_0 10 rfl rfl)
theorem dX5_init_11 : decode cX5_init 11 = .ok (.putfield 15, 3) := dk_181 0 15 (dk_at dksX5_init_0 11 rfl rfl)
theorem dX5_init_14 : decode cX5_init 14 = .ok (.aload_n 0, 1) := dk_42 (dk_at dksX5_init_0 14 rfl rfl)
theorem dX5_init_15 : decode cX5_init 15 = .ok (.iload_n 3, 1) := dk_29 (dk_at dksX5_init_0 15 rfl rfl)
theorem dX5_init_16 : decode cX5_init 16 = .ok (.putfield 18, 3) := dk_181 0 18 (dk_at dksX5_init_0 16 rfl rfl)
theorem dX5_init_19 : decode cX5_init 19 = .ok (.return_, 1) := dk_177 (dk_at dksX5_init_0 19 rfl rfl)
abbrev cX5_hashCode : ByteArray := prog_4_method_5_code
def yX5_hashCode : MethodName := ⟨RX5, "hashCode", "()I"⟩
def dkwX5_hashCode_0 : List UInt8 := [18, 24, 16, 12, 42, 180, 0, 9, 104, 42, 180, 0, 15, 96, 104, 42, 180, 0, 18, 96, 172]
abbrev dktX5_hashCode_0 : List UInt8 := dkwX5_hashCode_0 ++ []
theorem dksX5_hashCode_0 : cX5_hashCode.data.toList.drop 0 = dktX5_hashCode_0 := by decide +kernel
theorem dX5_hashCode_0 : decode cX5_hashCode 0 = .ok (.ldc 24, 2) := dk_18 24 (dk_at dksX5_hashCode_0 0 rfl rfl)
theorem dX5_hashCode_2 : decode cX5_hashCode 2 = .ok (.bipush 12, 2) := dk_16 12 (dk_at dksX5_hashCode_0 2 rfl rfl)
theorem dX5_hashCode_4 : decode cX5_hashCode 4 = .ok (.aload_n 0, 1) := dk_42 (dk_at dksX5_hashCode_0 4 rfl rfl)
theorem dX5_hashCode_5 : decode cX5_hashCode 5 = .ok (.getfield 9, 3) := dk_180 0 9 (dk_at dksX5_hashCode_0 5 rfl rfl)
theorem dX5_hashCode_8 : decode cX5_hashCode 8 = .ok (.imul, 1) := dk_104 (dk_at dksX5_hashCode_0 8 rfl rfl)
theorem dX5_hashCode_9 : decode cX5_hashCode 9 = .ok (.aload_n 0, 1) := dk_42 (dk_at dksX5_hashCode_0 9 rfl rfl)
theorem dX5_hashCode_10 : decode cX5_hashCode 10 = .ok (.getfield 15, 3) := dk_180 0 15 (dk_at dksX5_hashCode_0 10 rfl rfl)
theorem dX5_hashCode_13 : decode cX5_hashCode 13 = .ok (.iadd, 1) := dk_96 (dk_at dksX5_hashCode_0 13 rfl rfl)
theorem dX5_hashCode_14 : decode cX5_hashCode 14 = .ok (.imul, 1) := dk_104 (dk_at dksX5_hashCode_0 14 rfl rfl)
theorem dX5_hashCode_15 : decode cX5_hashCode 15 = .ok (.aload_n 0, 1) := dk_42 (dk_at dksX5_hashCode_0 15 rfl rfl)
theorem dX5_hashCode_16 : decode cX5_hashCode 16 = .ok (.getfield 18, 3) := dk_180 0 18 (dk_at dksX5_hashCode_0 16 rfl rfl)
theorem dX5_hashCode_19 : decode cX5_hashCode 19 = .ok (.iadd, 1) := dk_96 (dk_at dksX5_hashCode_0 19 rfl rfl)
theorem dX5_hashCode_20 : decode cX5_hashCode 20 = .ok (.ireturn, 1) := dk_172 (dk_at dksX5_hashCode_0 20 rfl rfl)
abbrev cX5_sign : ByteArray := prog_4_method_3_code
def yX5_sign : MethodName := ⟨RX5, "sign", "(I)I"⟩
def dkwX5_sign_1 : List UInt8 := [16, 28, 112, 172]
abbrev dktX5_sign_1 : List UInt8 := dkwX5_sign_1 ++ []
def dkwX5_sign_0 : List UInt8 := [42, 180, 0, 18, 61, 3, 62, 29, 27, 162, 0, 14, 28, 16, 28, 108, 61, 132, 3, 1, 167, 255, 243, 28]
abbrev dktX5_sign_0 : List UInt8 := dkwX5_sign_0 ++ dktX5_sign_1
theorem dksX5_sign_0 : cX5_sign.data.toList.drop 0 = dktX5_sign_0 := by decide +kernel
theorem dksX5_sign_1 : cX5_sign.data.toList.drop 24 = dktX5_sign_1 := dk_seg dksX5_sign_0 24 rfl rfl
theorem dX5_sign_0 : decode cX5_sign 0 = .ok (.aload_n 0, 1) := dk_42 (dk_at dksX5_sign_0 0 rfl rfl)
theorem dX5_sign_1 : decode cX5_sign 1 = .ok (.getfield 18, 3) := dk_180 0 18 (dk_at dksX5_sign_0 1 rfl rfl)
theorem dX5_sign_4 : decode cX5_sign 4 = .ok (.istore_n 2, 1) := dk_61 (dk_at dksX5_sign_0 4 rfl rfl)
theorem dX5_sign_5 : decode cX5_sign 5 = .ok (.iconst 0, 1) := dk_3 (dk_at dksX5_sign_0 5 rfl rfl)
theorem dX5_sign_6 : decode cX5_sign 6 = .ok (.istore_n 3, 1) := dk_62 (dk_at dksX5_sign_0 6 rfl rfl)
theorem dX5_sign_7 : decode cX5_sign 7 = .ok (.iload_n 3, 1) := dk_29 (dk_at dksX5_sign_0 7 rfl rfl)
theorem dX5_sign_8 : decode cX5_sign 8 = .ok (.iload_n 1, 1) := dk_27 (dk_at dksX5_sign_0 8 rfl rfl)
theorem dX5_sign_9 : decode cX5_sign 9 = .ok (.if_icmp .ge 14, 3) := dk_162 0 14 (dk_at dksX5_sign_0 9 rfl rfl)
theorem dX5_sign_12 : decode cX5_sign 12 = .ok (.iload_n 2, 1) := dk_28 (dk_at dksX5_sign_0 12 rfl rfl)
theorem dX5_sign_13 : decode cX5_sign 13 = .ok (.bipush 28, 2) := dk_16 28 (dk_at dksX5_sign_0 13 rfl rfl)
theorem dX5_sign_15 : decode cX5_sign 15 = .ok (.idiv, 1) := dk_108 (dk_at dksX5_sign_0 15 rfl rfl)
theorem dX5_sign_16 : decode cX5_sign 16 = .ok (.istore_n 2, 1) := dk_61 (dk_at dksX5_sign_0 16 rfl rfl)
theorem dX5_sign_17 : decode cX5_sign 17 = .ok (.iinc 3 1, 3) := dk_132 3 1 (dk_at dksX5_sign_0 17 rfl rfl)
theorem dX5_sign_20 : decode cX5_sign 20 = .ok (.goto (-13), 3) := dk_167 255 243 (dk_at dksX5_sign_0 20 rfl rfl)
theorem dX5_sign_23 : decode cX5_sign 23 = .ok (.iload_n 2, 1) := dk_28 (dk_at dksX5_sign_0 23 rfl rfl)
theorem dX5_sign_24 : decode cX5_sign 24 = .ok (.bipush 28, 2) := dk_16 28 (dk_at dksX5_sign_1 0 rfl rfl)
theorem dX5_sign_26 : decode cX5_sign 26 = .ok (.irem, 1) := dk_112 (dk_at dksX5_sign_1 2 rfl rfl)
theorem dX5_sign_27 : decode cX5_sign 27 = .ok (.ireturn, 1) := dk_172 (dk_at dksX5_sign_1 3 rfl rfl)
abbrev cX5_bare : ByteArray := prog_4_method_2_code
def yX5_bare : MethodName := ⟨RX5, "bare", "()LSlatCrates$Seen;"⟩
def dkwX5_bare_0 : List UInt8 := [187, 0, 10, 89, 3, 3, 42, 180, 0, 18, 183, 0, 21, 176]
abbrev dktX5_bare_0 : List UInt8 := dkwX5_bare_0 ++ []
theorem dksX5_bare_0 : cX5_bare.data.toList.drop 0 = dktX5_bare_0 := by decide +kernel
theorem dX5_bare_0 : decode cX5_bare 0 = .ok (.new 10, 3) := dk_187 0 10 (dk_at dksX5_bare_0 0 rfl rfl)
theorem dX5_bare_3 : decode cX5_bare 3 = .ok (.dup, 1) := dk_89 (dk_at dksX5_bare_0 3 rfl rfl)
theorem dX5_bare_4 : decode cX5_bare 4 = .ok (.iconst 0, 1) := dk_3 (dk_at dksX5_bare_0 4 rfl rfl)
theorem dX5_bare_5 : decode cX5_bare 5 = .ok (.iconst 0, 1) := dk_3 (dk_at dksX5_bare_0 5 rfl rfl)
theorem dX5_bare_6 : decode cX5_bare 6 = .ok (.aload_n 0, 1) := dk_42 (dk_at dksX5_bare_0 6 rfl rfl)
theorem dX5_bare_7 : decode cX5_bare 7 = .ok (.getfield 18, 3) := dk_180 0 18 (dk_at dksX5_bare_0 7 rfl rfl)
theorem dX5_bare_10 : decode cX5_bare 10 = .ok (.invokespecial 21, 3) := dk_183 0 21 (dk_at dksX5_bare_0 10 rfl rfl)
theorem dX5_bare_13 : decode cX5_bare 13 = .ok (.areturn, 1) := dk_176 (dk_at dksX5_bare_0 13 rfl rfl)
theorem q110 : (Jvm.Cond.initialized "SlatCrates$Seen") ∈ lw_all := lw_g (lw_at lw_m1 33 rfl) rfl
theorem q463 : (Jvm.Cond.selects "SlatCrates$Seen" ({ cls := "java/lang/Object", name := "getClass", desc := "()Ljava/lang/Class;" } : Jvm.MethodName) ({ cls := "java/lang/Object", name := "getClass", desc := "()Ljava/lang/Class;" } : Jvm.MethodName)) ∈ lw_all := lw_g (lw_at lw_m2 146 rfl) rfl
theorem q965 : (Jvm.Cond.selects "SlatCrates$Seen" ({ cls := "java/lang/Object", name := "equals", desc := "(Ljava/lang/Object;)Z" } : Jvm.MethodName) ({ cls := "SlatCrates$Seen", name := "equals", desc := "(Ljava/lang/Object;)Z" } : Jvm.MethodName)) ∈ lw_all := lw_g (lw_at lw_m4 168 rfl) rfl
theorem q966 : (Jvm.Cond.instanceMethod ({ cls := "SlatCrates$Seen", name := "equals", desc := "(Ljava/lang/Object;)Z" } : Jvm.MethodName)) ∈ lw_all := lw_g (lw_at lw_m4 169 rfl) rfl
theorem q967 : (Jvm.Cond.code ({ cls := "SlatCrates$Seen", name := "equals", desc := "(Ljava/lang/Object;)Z" } : Jvm.MethodName) prog_4_method_4_code (3 : Nat) (Option.some Jvm.ClassFile.FieldType.boolean)) ∈ lw_all := lw_g (lw_at lw_m4 170 rfl) rfl
theorem q968 : (Jvm.Cond.classLink "SlatCrates$Seen" (10 : Nat) "SlatCrates$Seen") ∈ lw_all := lw_g (lw_at lw_m4 171 rfl) rfl
theorem q1315 : (Jvm.Cond.instantiable "SlatCrates$Seen" (3 : Nat)) ∈ lw_all := lw_g (lw_at lw_m6 38 rfl) rfl
theorem q1318 : (Jvm.Cond.instanceMethod ({ cls := "SlatCrates$Seen", name := "<init>", desc := "(III)V" } : Jvm.MethodName)) ∈ lw_all := lw_g (lw_at lw_m6 41 rfl) rfl
theorem q1319 : (Jvm.Cond.code ({ cls := "SlatCrates$Seen", name := "<init>", desc := "(III)V" } : Jvm.MethodName) prog_4_method_1_code (4 : Nat) (Option.none : Option Jvm.ClassFile.FieldType)) ∈ lw_all := lw_g (lw_at lw_m6 42 rfl) rfl
theorem q1320 : (Jvm.Cond.methodLink "SlatCrates$Seen" (3 : Nat) ({ cls := "java/lang/Object", name := "<init>", desc := "()V" } : Jvm.MethodName)) ∈ lw_all := lw_g (lw_at lw_m6 43 rfl) rfl
theorem q1321 : (Jvm.Cond.fieldLink "SlatCrates$Seen" (9 : Nat) "SlatCrates$Seen" "size" "I") ∈ lw_all := lw_g (lw_at lw_m6 44 rfl) rfl
theorem q1322 : (Jvm.Cond.fieldLink "SlatCrates$Seen" (15 : Nat) "SlatCrates$Seen" "depth" "I") ∈ lw_all := lw_g (lw_at lw_m6 45 rfl) rfl
theorem q1323 : (Jvm.Cond.fieldLink "SlatCrates$Seen" (18 : Nat) "SlatCrates$Seen" "signs" "I") ∈ lw_all := lw_g (lw_at lw_m6 46 rfl) rfl
theorem q1324 : (Jvm.Cond.laysFinal "SlatCrates$Seen" "SlatCrates$Seen" "size" "I") ∈ lw_all := lw_g (lw_at lw_m6 47 rfl) rfl
theorem q1325 : (Jvm.Cond.soleField "SlatCrates$Seen" "size") ∈ lw_all := lw_g (lw_at lw_m6 48 rfl) rfl
theorem q1326 : (Jvm.Cond.laysFinal "SlatCrates$Seen" "SlatCrates$Seen" "depth" "I") ∈ lw_all := lw_g (lw_at lw_m6 49 rfl) rfl
theorem q1327 : (Jvm.Cond.soleField "SlatCrates$Seen" "depth") ∈ lw_all := lw_g (lw_at lw_m6 50 rfl) rfl
theorem q1328 : (Jvm.Cond.laysFinal "SlatCrates$Seen" "SlatCrates$Seen" "signs" "I") ∈ lw_all := lw_g (lw_at lw_m6 51 rfl) rfl
theorem q1329 : (Jvm.Cond.soleField "SlatCrates$Seen" "signs") ∈ lw_all := lw_g (lw_at lw_m6 52 rfl) rfl
theorem q1330 : (Jvm.Cond.superclass "SlatCrates$Seen" "java/lang/Object") ∈ lw_all := lw_g (lw_at lw_m6 53 rfl) rfl
theorem q1349 : (Jvm.Cond.selects "SlatCrates$Seen" ({ cls := "java/lang/Object", name := "hashCode", desc := "()I" } : Jvm.MethodName) ({ cls := "SlatCrates$Seen", name := "hashCode", desc := "()I" } : Jvm.MethodName)) ∈ lw_all := lw_g (lw_at lw_m6 72 rfl) rfl
theorem q1350 : (Jvm.Cond.instanceMethod ({ cls := "SlatCrates$Seen", name := "hashCode", desc := "()I" } : Jvm.MethodName)) ∈ lw_all := lw_g (lw_at lw_m6 73 rfl) rfl
theorem q1351 : (Jvm.Cond.code ({ cls := "SlatCrates$Seen", name := "hashCode", desc := "()I" } : Jvm.MethodName) prog_4_method_5_code (1 : Nat) (Option.some Jvm.ClassFile.FieldType.int)) ∈ lw_all := lw_g (lw_at lw_m6 74 rfl) rfl
theorem q1352 : (Jvm.Cond.constant "SlatCrates$Seen" (24 : Nat) (614656 : Int32)) ∈ lw_all := lw_g (lw_at lw_m6 75 rfl) rfl
theorem q1800 : (Jvm.Cond.instanceMethod ({ cls := "SlatCrates$Seen", name := "sign", desc := "(I)I" } : Jvm.MethodName)) ∈ lw_all := lw_g (lw_at lw_m8 43 rfl) rfl
theorem q1801 : (Jvm.Cond.selects "SlatCrates$Seen" ({ cls := "SlatCrates$Seen", name := "sign", desc := "(I)I" } : Jvm.MethodName) ({ cls := "SlatCrates$Seen", name := "sign", desc := "(I)I" } : Jvm.MethodName)) ∈ lw_all := lw_g (lw_at lw_m8 44 rfl) rfl
theorem q1802 : (Jvm.Cond.code ({ cls := "SlatCrates$Seen", name := "sign", desc := "(I)I" } : Jvm.MethodName) prog_4_method_3_code (4 : Nat) (Option.some Jvm.ClassFile.FieldType.int)) ∈ lw_all := lw_g (lw_at lw_m8 45 rfl) rfl
theorem q2071 : (Jvm.Cond.instanceMethod ({ cls := "SlatCrates$Seen", name := "bare", desc := "()LSlatCrates$Seen;" } : Jvm.MethodName)) ∈ lw_all := lw_g (lw_at lw_m9 74 rfl) rfl
theorem q2072 : (Jvm.Cond.selects "SlatCrates$Seen" ({ cls := "SlatCrates$Seen", name := "bare", desc := "()LSlatCrates$Seen;" } : Jvm.MethodName) ({ cls := "SlatCrates$Seen", name := "bare", desc := "()LSlatCrates$Seen;" } : Jvm.MethodName)) ∈ lw_all := lw_g (lw_at lw_m9 75 rfl) rfl
theorem q2073 : (Jvm.Cond.code ({ cls := "SlatCrates$Seen", name := "bare", desc := "()LSlatCrates$Seen;" } : Jvm.MethodName) prog_4_method_2_code (1 : Nat) (Option.some (Jvm.ClassFile.FieldType.object "SlatCrates$Seen"))) ∈ lw_all := lw_g (lw_at lw_m9 76 rfl) rfl
theorem q2074 : (Jvm.Cond.methodLink "SlatCrates$Seen" (21 : Nat) ({ cls := "SlatCrates$Seen", name := "<init>", desc := "(III)V" } : Jvm.MethodName)) ∈ lw_all := lw_g (lw_at lw_m9 77 rfl) rfl
theorem q2532 : (Jvm.Cond.castable "SlatCrates$Seen" "java/lang/Object") ∈ lw_tbl := lw_at lw_m11 55 rfl
theorem in_X5 : ∀ w ∈ wsX50, w ∈ lw_all := lw_in wsX50 [1324, 1326, 1328] (by decide +kernel) (by decide +kernel)
