set_option maxRecDepth 100000
/-! SlatCratesModel -/
def RX2 : String := "SlatCratesModel"
def TX2 : u_T := fun k => match k with
  | 0 => ("SlatCratesModel", "s", "[I", true)
  | 1 => ("SlatCratesModel", "aside", "[I", true)
  | 2 => ("SlatCratesModel", "past", "[I", true)
  | 3 => ("SlatCratesModel", "known", "I", false)
  | 4 => ("SlatCratesModel", "kept", "[I", true)
  | 5 => ("SlatCratesModel", "isKept", "Z", false)
  | 6 => ("SlatCratesModel", "pad", "[I", true)
  | 7 => ("SlatCratesModel", "length", "I", false)
  | 8 => ("SlatCratesModel", "spot", "I", false)
  | 9 => ("SlatCratesModel", "isForm", "Z", false)
  | 10 => ("SlatCratesModel", "read", "[I", true)
  | 11 => ("SlatCratesModel", "reads", "I", false)
  | 12 => ("SlatCratesModel", "open", "[I", true)
  | 13 => ("SlatCratesModel", "opens", "I", false)
  | 14 => ("SlatCratesModel", "writing", "[I", true)
  | 15 => ("SlatCratesModel", "written", "I", false)
  | 16 => ("SlatCratesModel", "depth", "[I", true)
  | 17 => ("SlatCratesModel", "next", "[I", true)
  | _ => ("SlatCratesModel", "nests", "[I", true)
def tyX2 : Nat → FieldType := fun k => match k with
  | 0 => .array .int
  | 1 => .array .int
  | 2 => .array .int
  | 3 => .int
  | 4 => .array .int
  | 5 => .boolean
  | 6 => .array .int
  | 7 => .int
  | 8 => .int
  | 9 => .boolean
  | 10 => .array .int
  | 11 => .int
  | 12 => .array .int
  | 13 => .int
  | 14 => .array .int
  | 15 => .int
  | 16 => .array .int
  | 17 => .array .int
  | _ => .array .int
abbrev wsX20 : List Cond := u_ws RX2 TX2 19
set_option maxRecDepth 100000 in
theorem nmX2 : ∀ a, a < 19 → ∀ b, b < 19 → a ≠ b → (TX2 a).2.1 ≠ (TX2 b).2.1 := by decide +kernel
set_option maxRecDepth 100000 in
theorem tyX2_ok : ∀ k, k < 19 → parseFieldDescriptor (TX2 k).2.2.1 = some (tyX2 k) := by decide +kernel
abbrev cX2_init : ByteArray := prog_7_method_1_code
def yX2_init : MethodName := ⟨RX2, "<init>", "()V"⟩
def dkwX2_init_3 : List UInt8 := [16, 13, 188, 10, 181, 0, 34, 42, 16, 13, 188, 10, 181, 0, 37, 42, 16, 12, 188, 10, 181, 0, 40, 177]
abbrev dktX2_init_3 : List UInt8 := dkwX2_init_3 ++ []
def dkwX2_init_2 : List UInt8 := [188, 10, 181, 0, 25, 42, 16, 20, 188, 10, 181, 0, 28, 42, 17, 0, 240, 188, 10, 181, 0, 31, 42]
abbrev dktX2_init_2 : List UInt8 := dkwX2_init_2 ++ dktX2_init_3
def dkwX2_init_1 : List UInt8 := [188, 10, 181, 0, 16, 42, 16, 110, 188, 10, 181, 0, 19, 42, 16, 80, 188, 10, 181, 0, 22, 42, 16, 126]
abbrev dktX2_init_1 : List UInt8 := dkwX2_init_1 ++ dktX2_init_2
def dkwX2_init_0 : List UInt8 := [42, 183, 0, 1, 42, 16, 110, 188, 10, 181, 0, 7, 42, 16, 110, 188, 10, 181, 0, 13, 42, 17, 1, 184]
abbrev dktX2_init_0 : List UInt8 := dkwX2_init_0 ++ dktX2_init_1
theorem dksX2_init_0 : cX2_init.data.toList.drop 0 = dktX2_init_0 := by decide +kernel
theorem dksX2_init_1 : cX2_init.data.toList.drop 24 = dktX2_init_1 := dk_seg dksX2_init_0 24 rfl rfl
theorem dksX2_init_2 : cX2_init.data.toList.drop 48 = dktX2_init_2 := dk_seg dksX2_init_1 24 rfl rfl
theorem dksX2_init_3 : cX2_init.data.toList.drop 71 = dktX2_init_3 := dk_seg dksX2_init_2 23 rfl rfl
theorem dX2_init_0 : decode cX2_init 0 = .ok (.aload_n 0, 1) := dk_42 (dk_at dksX2_init_0 0 rfl rfl)
theorem dX2_init_1 : decode cX2_init 1 = .ok (.invokespecial 1, 3) := dk_183 0 1 (dk_at dksX2_init_0 1 rfl rfl)
theorem dX2_init_4 : decode cX2_init 4 = .ok (.aload_n 0, 1) := dk_42 (dk_at dksX2_init_0 4 rfl rfl)
theorem dX2_init_5 : decode cX2_init 5 = .ok (.bipush 110, 2) := dk_16 110 (dk_at dksX2_init_0 5 rfl rfl)
theorem dX2_init_7 : decode cX2_init 7 = .ok (.newarray .int, 2) := dk_188_10 (dk_at dksX2_init_0 7 rfl rfl)
theorem dX2_init_9 : decode cX2_init 9 = .ok (.putfield 7, 3) := dk_181 0 7 (dk_at dksX2_init_0 9 rfl rfl)
theorem dX2_init_12 : decode cX2_init 12 = .ok (.aload_n 0, 1) := dk_42 (dk_at dksX2_init_0 12 rfl rfl)
theorem dX2_init_13 : decode cX2_init 13 = .ok (.bipush 110, 2) := dk_16 110 (dk_at dksX2_init_0 13 rfl rfl)
theorem dX2_init_15 : decode cX2_init 15 = .ok (.newarray .int, 2) := dk_188_10 (dk_at dksX2_init_0 15 rfl rfl)
theorem dX2_init_17 : decode cX2_init 17 = .ok (.putfield 13, 3) := dk_181 0 13 (dk_at dksX2_init_0 17 rfl rfl)
theorem dX2_init_20 : decode cX2_init 20 = .ok (.aload_n 0, 1) := dk_42 (dk_at dksX2_init_0 20 rfl rfl)
theorem dX2_init_21 : decode cX2_init 21 = .ok (.sipush 440, 3) := dk_17 1 184 (dk_at dksX2_init_0 21 rfl rfl)
theorem dX2_init_24 : decode cX2_init 24 = .ok (.newarray .int, 2) := dk_188_10 (dk_at dksX2_init_1 0 rfl rfl)
theorem dX2_init_26 : decode cX2_init 26 = .ok (.putfield 16, 3) := dk_181 0 16 (dk_at dksX2_init_1 2 rfl rfl)
theorem dX2_init_29 : decode cX2_init 29 = .ok (.aload_n 0, 1) := dk_42 (dk_at dksX2_init_1 5 rfl rfl)
theorem dX2_init_30 : decode cX2_init 30 = .ok (.bipush 110, 2) := dk_16 110 (dk_at dksX2_init_1 6 rfl rfl)
theorem dX2_init_32 : decode cX2_init 32 = .ok (.newarray .int, 2) := dk_188_10 (dk_at dksX2_init_1 8 rfl rfl)
theorem dX2_init_34 : decode cX2_init 34 = .ok (.putfield 19, 3) := dk_181 0 19 (dk_at dksX2_init_1 10 rfl rfl)
theorem dX2_init_37 : decode cX2_init 37 = .ok (.aload_n 0, 1) := dk_42 (dk_at dksX2_init_1 13 rfl rfl)
theorem dX2_init_38 : decode cX2_init 38 = .ok (.bipush 80, 2) := dk_16 80 (dk_at dksX2_init_1 14 rfl rfl)
theorem dX2_init_40 : decode cX2_init 40 = .ok (.newarray .int, 2) := dk_188_10 (dk_at dksX2_init_1 16 rfl rfl)
theorem dX2_init_42 : decode cX2_init 42 = .ok (.putfield 22, 3) := dk_181 0 22 (dk_at dksX2_init_1 18 rfl rfl)
theorem dX2_init_45 : decode cX2_init 45 = .ok (.aload_n 0, 1) := dk_42 (dk_at dksX2_init_1 21 rfl rfl)
theorem dX2_init_46 : decode cX2_init 46 = .ok (.bipush 126, 2) := dk_16 126 (dk_at dksX2_init_1 22 rfl rfl)
theorem dX2_init_48 : decode cX2_init 48 = .ok (.newarray .int, 2) := dk_188_10 (dk_at dksX2_init_2 0 rfl rfl)
theorem dX2_init_50 : decode cX2_init 50 = .ok (.putfield 25, 3) := dk_181 0 25 (dk_at dksX2_init_2 2 rfl rfl)
theorem dX2_init_53 : decode cX2_init 53 = .ok (.aload_n 0, 1) := dk_42 (dk_at dksX2_init_2 5 rfl rfl)
theorem dX2_init_54 : decode cX2_init 54 = .ok (.bipush 20, 2) := dk_16 20 (dk_at dksX2_init_2 6 rfl rfl)
theorem dX2_init_56 : decode cX2_init 56 = .ok (.newarray .int, 2) := dk_188_10 (dk_at dksX2_init_2 8 rfl rfl)
theorem dX2_init_58 : decode cX2_init 58 = .ok (.putfield 28, 3) := dk_181 0 28 (dk_at dksX2_init_2 10 rfl rfl)
theorem dX2_init_61 : decode cX2_init 61 = .ok (.aload_n 0, 1) := dk_42 (dk_at dksX2_init_2 13 rfl rfl)
theorem dX2_init_62 : decode cX2_init 62 = .ok (.sipush 240, 3) := dk_17 0 240 (dk_at dksX2_init_2 14 rfl rfl)
theorem dX2_init_65 : decode cX2_init 65 = .ok (.newarray .int, 2) := dk_188_10 (dk_at dksX2_init_2 17 rfl rfl)
theorem dX2_init_67 : decode cX2_init 67 = .ok (.putfield 31, 3) := dk_181 0 31 (dk_at dksX2_init_2 19 rfl rfl)
theorem dX2_init_70 : decode cX2_init 70 = .ok (.aload_n 0, 1) := dk_42 (dk_at dksX2_init_2 22 rfl rfl)
theorem dX2_init_71 : decode cX2_init 71 = .ok (.bipush 13, 2) := dk_16 13 (dk_at dksX2_init_3 0 rfl rfl)
theorem dX2_init_73 : decode cX2_init 73 = .ok (.newarray .int, 2) := dk_188_10 (dk_at dksX2_init_3 2 rfl rfl)
theorem dX2_init_75 : decode cX2_init 75 = .ok (.putfield 34, 3) := dk_181 0 34 (dk_at dksX2_init_3 4 rfl rfl)
theorem dX2_init_78 : decode cX2_init 78 = .ok (.aload_n 0, 1) := dk_42 (dk_at dksX2_init_3 7 rfl rfl)
theorem dX2_init_79 : decode cX2_init 79 = .ok (.bipush 13, 2) := dk_16 13 (dk_at dksX2_init_3 8 rfl rfl)
theorem dX2_init_81 : decode cX2_init 81 = .ok (.newarray .int, 2) := dk_188_10 (dk_at dksX2_init_3 10 rfl rfl)
theorem dX2_init_83 : decode cX2_init 83 = .ok (.putfield 37, 3) := dk_181 0 37 (dk_at dksX2_init_3 12 rfl rfl)
theorem dX2_init_86 : decode cX2_init 86 = .ok (.aload_n 0, 1) := dk_42 (dk_at dksX2_init_3 15 rfl rfl)
theorem dX2_init_87 : decode cX2_init 87 = .ok (.bipush 12, 2) := dk_16 12 (dk_at dksX2_init_3 16 rfl rfl)
theorem dX2_init_89 : decode cX2_init 89 = .ok (.newarray .int, 2) := dk_188_10 (dk_at dksX2_init_3 18 rfl rfl)
theorem dX2_init_91 : decode cX2_init 91 = .ok (.putfield 40, 3) := dk_181 0 40 (dk_at dksX2_init_3 20 rfl rfl)
theorem dX2_init_94 : decode cX2_init 94 = .ok (.return_, 1) := dk_177 (dk_at dksX2_init_3 23 rfl rfl)
abbrev cX2_make : ByteArray := prog_7_method_31_code
def yX2_make : MethodName := ⟨RX2, "make", "(IIII)I"⟩
def dkwX2_make_5 : List UInt8 := [3, 46, 4, 100, 172]
abbrev dktX2_make_5 : List UInt8 := dkwX2_make_5 ++ []
def dkwX2_make_4 : List UInt8 := [16, 27, 108, 54, 5, 132, 6, 1, 167, 255, 221, 42, 27, 28, 29, 2, 3, 182, 0, 104, 42, 180, 0, 7]
abbrev dktX2_make_4 : List UInt8 := dkwX2_make_4 ++ dktX2_make_5
def dkwX2_make_3 : List UInt8 := [162, 0, 35, 42, 42, 180, 0, 7, 3, 46, 6, 21, 6, 96, 21, 5, 16, 27, 112, 182, 0, 93, 21, 5]
abbrev dktX2_make_3 : List UInt8 := dkwX2_make_3 ++ dktX2_make_4
def dkwX2_make_2 : List UInt8 := [16, 12, 160, 0, 6, 16, 253, 172, 42, 182, 0, 101, 21, 4, 54, 5, 3, 54, 6, 21, 6, 7]
abbrev dktX2_make_2 : List UInt8 := dkwX2_make_2 ++ dktX2_make_3
def dkwX2_make_1 : List UInt8 := [16, 15, 184, 0, 51, 153, 0, 11, 21, 4, 184, 0, 98, 154, 0, 5, 2, 172, 42, 180, 0, 7, 3, 46]
abbrev dktX2_make_1 : List UInt8 := dkwX2_make_1 ++ dktX2_make_2
def dkwX2_make_0 : List UInt8 := [27, 4, 16, 60, 184, 0, 51, 153, 0, 32, 28, 3, 27, 4, 100, 184, 0, 51, 153, 0, 21, 29, 3]
abbrev dktX2_make_0 : List UInt8 := dkwX2_make_0 ++ dktX2_make_1
theorem dksX2_make_0 : cX2_make.data.toList.drop 0 = dktX2_make_0 := by decide +kernel
theorem dksX2_make_1 : cX2_make.data.toList.drop 23 = dktX2_make_1 := dk_seg dksX2_make_0 23 rfl rfl
theorem dksX2_make_2 : cX2_make.data.toList.drop 47 = dktX2_make_2 := dk_seg dksX2_make_1 24 rfl rfl
theorem dksX2_make_3 : cX2_make.data.toList.drop 69 = dktX2_make_3 := dk_seg dksX2_make_2 22 rfl rfl
theorem dksX2_make_4 : cX2_make.data.toList.drop 93 = dktX2_make_4 := dk_seg dksX2_make_3 24 rfl rfl
theorem dksX2_make_5 : cX2_make.data.toList.drop 117 = dktX2_make_5 := dk_seg dksX2_make_4 24 rfl rfl
theorem dX2_make_0 : decode cX2_make 0 = .ok (.iload_n 1, 1) := dk_27 (dk_at dksX2_make_0 0 rfl rfl)
theorem dX2_make_1 : decode cX2_make 1 = .ok (.iconst 1, 1) := dk_4 (dk_at dksX2_make_0 1 rfl rfl)
theorem dX2_make_2 : decode cX2_make 2 = .ok (.bipush 60, 2) := dk_16 60 (dk_at dksX2_make_0 2 rfl rfl)
theorem dX2_make_4 : decode cX2_make 4 = .ok (.invokestatic 51, 3) := dk_184 0 51 (dk_at dksX2_make_0 4 rfl rfl)
theorem dX2_make_7 : decode cX2_make 7 = .ok (.ifCond .eq 32, 3) := dk_153 0 32 (dk_at dksX2_make_0 7 rfl rfl)
theorem dX2_make_10 : decode cX2_make 10 = .ok (.iload_n 2, 1) := dk_28 (dk_at dksX2_make_0 10 rfl rfl)
theorem dX2_make_11 : decode cX2_make 11 = .ok (.iconst 0, 1) := dk_3 (dk_at dksX2_make_0 11 rfl rfl)
theorem dX2_make_12 : decode cX2_make 12 = .ok (.iload_n 1, 1) := dk_27 (dk_at dksX2_make_0 12 rfl rfl)
theorem dX2_make_13 : decode cX2_make 13 = .ok (.iconst 1, 1) := dk_4 (dk_at dksX2_make_0 13 rfl rfl)
theorem dX2_make_14 : decode cX2_make 14 = .ok (.isub, 1) := dk_100 (dk_at dksX2_make_0 14 rfl rfl)
theorem dX2_make_15 : decode cX2_make 15 = .ok (.invokestatic 51, 3) := dk_184 0 51 (dk_at dksX2_make_0 15 rfl rfl)
theorem dX2_make_18 : decode cX2_make 18 = .ok (.ifCond .eq 21, 3) := dk_153 0 21 (dk_at dksX2_make_0 18 rfl rfl)
theorem dX2_make_21 : decode cX2_make 21 = .ok (.iload_n 3, 1) := dk_29 (dk_at dksX2_make_0 21 rfl rfl)
theorem dX2_make_22 : decode cX2_make 22 = .ok (.iconst 0, 1) := dk_3 (dk_at dksX2_make_0 22 rfl rfl)
theorem dX2_make_23 : decode cX2_make 23 = .ok (.bipush 15, 2) := dk_16 15 (dk_at dksX2_make_1 0 rfl rfl)
theorem dX2_make_25 : decode cX2_make 25 = .ok (.invokestatic 51, 3) := dk_184 0 51 (dk_at dksX2_make_1 2 rfl rfl)
theorem dX2_make_28 : decode cX2_make 28 = .ok (.ifCond .eq 11, 3) := dk_153 0 11 (dk_at dksX2_make_1 5 rfl rfl)
theorem dX2_make_31 : decode cX2_make 31 = .ok (.iload 4, 2) := dk_21 4 (dk_at dksX2_make_1 8 rfl rfl)
theorem dX2_make_33 : decode cX2_make 33 = .ok (.invokestatic 98, 3) := dk_184 0 98 (dk_at dksX2_make_1 10 rfl rfl)
theorem dX2_make_36 : decode cX2_make 36 = .ok (.ifCond .ne 5, 3) := dk_154 0 5 (dk_at dksX2_make_1 13 rfl rfl)
theorem dX2_make_39 : decode cX2_make 39 = .ok (.iconst (-1), 1) := dk_2 (dk_at dksX2_make_1 16 rfl rfl)
theorem dX2_make_40 : decode cX2_make 40 = .ok (.ireturn, 1) := dk_172 (dk_at dksX2_make_1 17 rfl rfl)
theorem dX2_make_41 : decode cX2_make 41 = .ok (.aload_n 0, 1) := dk_42 (dk_at dksX2_make_1 18 rfl rfl)
theorem dX2_make_42 : decode cX2_make 42 = .ok (.getfield 7, 3) := dk_180 0 7 (dk_at dksX2_make_1 19 rfl rfl)
theorem dX2_make_45 : decode cX2_make 45 = .ok (.iconst 0, 1) := dk_3 (dk_at dksX2_make_1 22 rfl rfl)
theorem dX2_make_46 : decode cX2_make 46 = .ok (.iaload, 1) := dk_46 (dk_at dksX2_make_1 23 rfl rfl)
theorem dX2_make_47 : decode cX2_make 47 = .ok (.bipush 12, 2) := dk_16 12 (dk_at dksX2_make_2 0 rfl rfl)
theorem dX2_make_49 : decode cX2_make 49 = .ok (.if_icmp .ne 6, 3) := dk_160 0 6 (dk_at dksX2_make_2 2 rfl rfl)
theorem dX2_make_52 : decode cX2_make 52 = .ok (.bipush (-3), 2) := dk_16 253 (dk_at dksX2_make_2 5 rfl rfl)
theorem dX2_make_54 : decode cX2_make 54 = .ok (.ireturn, 1) := dk_172 (dk_at dksX2_make_2 7 rfl rfl)
theorem dX2_make_55 : decode cX2_make 55 = .ok (.aload_n 0, 1) := dk_42 (dk_at dksX2_make_2 8 rfl rfl)
theorem dX2_make_56 : decode cX2_make 56 = .ok (.invokevirtual 101, 3) := dk_182 0 101 (dk_at dksX2_make_2 9 rfl rfl)
theorem dX2_make_59 : decode cX2_make 59 = .ok (.iload 4, 2) := dk_21 4 (dk_at dksX2_make_2 12 rfl rfl)
theorem dX2_make_61 : decode cX2_make 61 = .ok (.istore 5, 2) := dk_54 5 (dk_at dksX2_make_2 14 rfl rfl)
theorem dX2_make_63 : decode cX2_make 63 = .ok (.iconst 0, 1) := dk_3 (dk_at dksX2_make_2 16 rfl rfl)
theorem dX2_make_64 : decode cX2_make 64 = .ok (.istore 6, 2) := dk_54 6 (dk_at dksX2_make_2 17 rfl rfl)
theorem dX2_make_66 : decode cX2_make 66 = .ok (.iload 6, 2) := dk_21 6 (dk_at dksX2_make_2 19 rfl rfl)
theorem dX2_make_68 : decode cX2_make 68 = .ok (.iconst 4, 1) := dk_7 (dk_at dksX2_make_2 21 rfl rfl)
theorem dX2_make_69 : decode cX2_make 69 = .ok (.if_icmp .ge 35, 3) := dk_162 0 35 (dk_at dksX2_make_3 0 rfl rfl)
theorem dX2_make_72 : decode cX2_make 72 = .ok (.aload_n 0, 1) := dk_42 (dk_at dksX2_make_3 3 rfl rfl)
theorem dX2_make_73 : decode cX2_make 73 = .ok (.aload_n 0, 1) := dk_42 (dk_at dksX2_make_3 4 rfl rfl)
theorem dX2_make_74 : decode cX2_make 74 = .ok (.getfield 7, 3) := dk_180 0 7 (dk_at dksX2_make_3 5 rfl rfl)
theorem dX2_make_77 : decode cX2_make 77 = .ok (.iconst 0, 1) := dk_3 (dk_at dksX2_make_3 8 rfl rfl)
theorem dX2_make_78 : decode cX2_make 78 = .ok (.iaload, 1) := dk_46 (dk_at dksX2_make_3 9 rfl rfl)
theorem dX2_make_79 : decode cX2_make 79 = .ok (.iconst 3, 1) := dk_6 (dk_at dksX2_make_3 10 rfl rfl)
theorem dX2_make_80 : decode cX2_make 80 = .ok (.iload 6, 2) := dk_21 6 (dk_at dksX2_make_3 11 rfl rfl)
theorem dX2_make_82 : decode cX2_make 82 = .ok (.iadd, 1) := dk_96 (dk_at dksX2_make_3 13 rfl rfl)
theorem dX2_make_83 : decode cX2_make 83 = .ok (.iload 5, 2) := dk_21 5 (dk_at dksX2_make_3 14 rfl rfl)
theorem dX2_make_85 : decode cX2_make 85 = .ok (.bipush 27, 2) := dk_16 27 (dk_at dksX2_make_3 16 rfl rfl)
theorem dX2_make_87 : decode cX2_make 87 = .ok (.irem, 1) := dk_112 (dk_at dksX2_make_3 18 rfl rfl)
theorem dX2_make_88 : decode cX2_make 88 = .ok (.invokevirtual 93, 3) := dk_182 0 93 (dk_at dksX2_make_3 19 rfl rfl)
theorem dX2_make_91 : decode cX2_make 91 = .ok (.iload 5, 2) := dk_21 5 (dk_at dksX2_make_3 22 rfl rfl)
theorem dX2_make_93 : decode cX2_make 93 = .ok (.bipush 27, 2) := dk_16 27 (dk_at dksX2_make_4 0 rfl rfl)
theorem dX2_make_95 : decode cX2_make 95 = .ok (.idiv, 1) := dk_108 (dk_at dksX2_make_4 2 rfl rfl)
theorem dX2_make_96 : decode cX2_make 96 = .ok (.istore 5, 2) := dk_54 5 (dk_at dksX2_make_4 3 rfl rfl)
theorem dX2_make_98 : decode cX2_make 98 = .ok (.iinc 6 1, 3) := dk_132 6 1 (dk_at dksX2_make_4 5 rfl rfl)
theorem dX2_make_101 : decode cX2_make 101 = .ok (.goto (-35), 3) := dk_167 255 221 (dk_at dksX2_make_4 8 rfl rfl)
theorem dX2_make_104 : decode cX2_make 104 = .ok (.aload_n 0, 1) := dk_42 (dk_at dksX2_make_4 11 rfl rfl)
theorem dX2_make_105 : decode cX2_make 105 = .ok (.iload_n 1, 1) := dk_27 (dk_at dksX2_make_4 12 rfl rfl)
theorem dX2_make_106 : decode cX2_make 106 = .ok (.iload_n 2, 1) := dk_28 (dk_at dksX2_make_4 13 rfl rfl)
theorem dX2_make_107 : decode cX2_make 107 = .ok (.iload_n 3, 1) := dk_29 (dk_at dksX2_make_4 14 rfl rfl)
theorem dX2_make_108 : decode cX2_make 108 = .ok (.iconst (-1), 1) := dk_2 (dk_at dksX2_make_4 15 rfl rfl)
theorem dX2_make_109 : decode cX2_make 109 = .ok (.iconst 0, 1) := dk_3 (dk_at dksX2_make_4 16 rfl rfl)
theorem dX2_make_110 : decode cX2_make 110 = .ok (.invokevirtual 104, 3) := dk_182 0 104 (dk_at dksX2_make_4 17 rfl rfl)
theorem dX2_make_113 : decode cX2_make 113 = .ok (.aload_n 0, 1) := dk_42 (dk_at dksX2_make_4 20 rfl rfl)
theorem dX2_make_114 : decode cX2_make 114 = .ok (.getfield 7, 3) := dk_180 0 7 (dk_at dksX2_make_4 21 rfl rfl)
theorem dX2_make_117 : decode cX2_make 117 = .ok (.iconst 0, 1) := dk_3 (dk_at dksX2_make_5 0 rfl rfl)
theorem dX2_make_118 : decode cX2_make 118 = .ok (.iaload, 1) := dk_46 (dk_at dksX2_make_5 1 rfl rfl)
theorem dX2_make_119 : decode cX2_make 119 = .ok (.iconst 1, 1) := dk_4 (dk_at dksX2_make_5 2 rfl rfl)
theorem dX2_make_120 : decode cX2_make 120 = .ok (.isub, 1) := dk_100 (dk_at dksX2_make_5 3 rfl rfl)
theorem dX2_make_121 : decode cX2_make 121 = .ok (.ireturn, 1) := dk_172 (dk_at dksX2_make_5 4 rfl rfl)
abbrev cX2_in : ByteArray := prog_7_method_3_code
def yX2_in : MethodName := ⟨RX2, "in", "(III)Z"⟩
def dkwX2_in_0 : List UInt8 := [26, 27, 161, 0, 12, 26, 28, 163, 0, 7, 4, 167, 0, 4, 3, 172]
abbrev dktX2_in_0 : List UInt8 := dkwX2_in_0 ++ []
theorem dksX2_in_0 : cX2_in.data.toList.drop 0 = dktX2_in_0 := by decide +kernel
theorem dX2_in_0 : decode cX2_in 0 = .ok (.iload_n 0, 1) := dk_26 (dk_at dksX2_in_0 0 rfl rfl)
theorem dX2_in_1 : decode cX2_in 1 = .ok (.iload_n 1, 1) := dk_27 (dk_at dksX2_in_0 1 rfl rfl)
theorem dX2_in_2 : decode cX2_in 2 = .ok (.if_icmp .lt 12, 3) := dk_161 0 12 (dk_at dksX2_in_0 2 rfl rfl)
theorem dX2_in_5 : decode cX2_in 5 = .ok (.iload_n 0, 1) := dk_26 (dk_at dksX2_in_0 5 rfl rfl)
theorem dX2_in_6 : decode cX2_in 6 = .ok (.iload_n 2, 1) := dk_28 (dk_at dksX2_in_0 6 rfl rfl)
theorem dX2_in_7 : decode cX2_in 7 = .ok (.if_icmp .gt 7, 3) := dk_163 0 7 (dk_at dksX2_in_0 7 rfl rfl)
theorem dX2_in_10 : decode cX2_in 10 = .ok (.iconst 1, 1) := dk_4 (dk_at dksX2_in_0 10 rfl rfl)
theorem dX2_in_11 : decode cX2_in 11 = .ok (.goto 4, 3) := dk_167 0 4 (dk_at dksX2_in_0 11 rfl rfl)
theorem dX2_in_14 : decode cX2_in 14 = .ok (.iconst 0, 1) := dk_3 (dk_at dksX2_in_0 14 rfl rfl)
theorem dX2_in_15 : decode cX2_in 15 = .ok (.ireturn, 1) := dk_172 (dk_at dksX2_in_0 15 rfl rfl)
abbrev cX2_isLabel : ByteArray := prog_7_method_30_code
def yX2_isLabel : MethodName := ⟨RX2, "isLabel", "(I)Z"⟩
def dkwX2_isLabel_2 : List UInt8 := [167, 255, 222, 27, 172]
abbrev dktX2_isLabel_2 : List UInt8 := dkwX2_isLabel_2 ++ []
def dkwX2_isLabel_1 : List UInt8 := [112, 157, 0, 7, 28, 154, 0, 7, 4, 167, 0, 4, 3, 60, 28, 16, 27, 108, 61, 132, 3, 1]
abbrev dktX2_isLabel_1 : List UInt8 := dkwX2_isLabel_1 ++ dktX2_isLabel_2
def dkwX2_isLabel_0 : List UInt8 := [26, 4, 18, 97, 184, 0, 51, 60, 26, 61, 3, 62, 29, 7, 162, 0, 35, 27, 153, 0, 18, 28, 16, 27]
abbrev dktX2_isLabel_0 : List UInt8 := dkwX2_isLabel_0 ++ dktX2_isLabel_1
theorem dksX2_isLabel_0 : cX2_isLabel.data.toList.drop 0 = dktX2_isLabel_0 := by decide +kernel
theorem dksX2_isLabel_1 : cX2_isLabel.data.toList.drop 24 = dktX2_isLabel_1 := dk_seg dksX2_isLabel_0 24 rfl rfl
theorem dksX2_isLabel_2 : cX2_isLabel.data.toList.drop 46 = dktX2_isLabel_2 := dk_seg dksX2_isLabel_1 22 rfl rfl
theorem dX2_isLabel_0 : decode cX2_isLabel 0 = .ok (.iload_n 0, 1) := dk_26 (dk_at dksX2_isLabel_0 0 rfl rfl)
theorem dX2_isLabel_1 : decode cX2_isLabel 1 = .ok (.iconst 1, 1) := dk_4 (dk_at dksX2_isLabel_0 1 rfl rfl)
theorem dX2_isLabel_2 : decode cX2_isLabel 2 = .ok (.ldc 97, 2) := dk_18 97 (dk_at dksX2_isLabel_0 2 rfl rfl)
theorem dX2_isLabel_4 : decode cX2_isLabel 4 = .ok (.invokestatic 51, 3) := dk_184 0 51 (dk_at dksX2_isLabel_0 4 rfl rfl)
theorem dX2_isLabel_7 : decode cX2_isLabel 7 = .ok (.istore_n 1, 1) := dk_60 (dk_at dksX2_isLabel_0 7 rfl rfl)
theorem dX2_isLabel_8 : decode cX2_isLabel 8 = .ok (.iload_n 0, 1) := dk_26 (dk_at dksX2_isLabel_0 8 rfl rfl)
theorem dX2_isLabel_9 : decode cX2_isLabel 9 = .ok (.istore_n 2, 1) := dk_61 (dk_at dksX2_isLabel_0 9 rfl rfl)
theorem dX2_isLabel_10 : decode cX2_isLabel 10 = .ok (.iconst 0, 1) := dk_3 (dk_at dksX2_isLabel_0 10 rfl rfl)
theorem dX2_isLabel_11 : decode cX2_isLabel 11 = .ok (.istore_n 3, 1) := dk_62 (dk_at dksX2_isLabel_0 11 rfl rfl)
theorem dX2_isLabel_12 : decode cX2_isLabel 12 = .ok (.iload_n 3, 1) := dk_29 (dk_at dksX2_isLabel_0 12 rfl rfl)
theorem dX2_isLabel_13 : decode cX2_isLabel 13 = .ok (.iconst 4, 1) := dk_7 (dk_at dksX2_isLabel_0 13 rfl rfl)
theorem dX2_isLabel_14 : decode cX2_isLabel 14 = .ok (.if_icmp .ge 35, 3) := dk_162 0 35 (dk_at dksX2_isLabel_0 14 rfl rfl)
theorem dX2_isLabel_17 : decode cX2_isLabel 17 = .ok (.iload_n 1, 1) := dk_27 (dk_at dksX2_isLabel_0 17 rfl rfl)
theorem dX2_isLabel_18 : decode cX2_isLabel 18 = .ok (.ifCond .eq 18, 3) := dk_153 0 18 (dk_at dksX2_isLabel_0 18 rfl rfl)
theorem dX2_isLabel_21 : decode cX2_isLabel 21 = .ok (.iload_n 2, 1) := dk_28 (dk_at dksX2_isLabel_0 21 rfl rfl)
theorem dX2_isLabel_22 : decode cX2_isLabel 22 = .ok (.bipush 27, 2) := dk_16 27 (dk_at dksX2_isLabel_0 22 rfl rfl)
theorem dX2_isLabel_24 : decode cX2_isLabel 24 = .ok (.irem, 1) := dk_112 (dk_at dksX2_isLabel_1 0 rfl rfl)
theorem dX2_isLabel_25 : decode cX2_isLabel 25 = .ok (.ifCond .gt 7, 3) := dk_157 0 7 (dk_at dksX2_isLabel_1 1 rfl rfl)
theorem dX2_isLabel_28 : decode cX2_isLabel 28 = .ok (.iload_n 2, 1) := dk_28 (dk_at dksX2_isLabel_1 4 rfl rfl)
theorem dX2_isLabel_29 : decode cX2_isLabel 29 = .ok (.ifCond .ne 7, 3) := dk_154 0 7 (dk_at dksX2_isLabel_1 5 rfl rfl)
theorem dX2_isLabel_32 : decode cX2_isLabel 32 = .ok (.iconst 1, 1) := dk_4 (dk_at dksX2_isLabel_1 8 rfl rfl)
theorem dX2_isLabel_33 : decode cX2_isLabel 33 = .ok (.goto 4, 3) := dk_167 0 4 (dk_at dksX2_isLabel_1 9 rfl rfl)
theorem dX2_isLabel_36 : decode cX2_isLabel 36 = .ok (.iconst 0, 1) := dk_3 (dk_at dksX2_isLabel_1 12 rfl rfl)
theorem dX2_isLabel_37 : decode cX2_isLabel 37 = .ok (.istore_n 1, 1) := dk_60 (dk_at dksX2_isLabel_1 13 rfl rfl)
theorem dX2_isLabel_38 : decode cX2_isLabel 38 = .ok (.iload_n 2, 1) := dk_28 (dk_at dksX2_isLabel_1 14 rfl rfl)
theorem dX2_isLabel_39 : decode cX2_isLabel 39 = .ok (.bipush 27, 2) := dk_16 27 (dk_at dksX2_isLabel_1 15 rfl rfl)
theorem dX2_isLabel_41 : decode cX2_isLabel 41 = .ok (.idiv, 1) := dk_108 (dk_at dksX2_isLabel_1 17 rfl rfl)
theorem dX2_isLabel_42 : decode cX2_isLabel 42 = .ok (.istore_n 2, 1) := dk_61 (dk_at dksX2_isLabel_1 18 rfl rfl)
theorem dX2_isLabel_43 : decode cX2_isLabel 43 = .ok (.iinc 3 1, 3) := dk_132 3 1 (dk_at dksX2_isLabel_1 19 rfl rfl)
theorem dX2_isLabel_46 : decode cX2_isLabel 46 = .ok (.goto (-34), 3) := dk_167 255 222 (dk_at dksX2_isLabel_2 0 rfl rfl)
theorem dX2_isLabel_49 : decode cX2_isLabel 49 = .ok (.iload_n 1, 1) := dk_27 (dk_at dksX2_isLabel_2 3 rfl rfl)
theorem dX2_isLabel_50 : decode cX2_isLabel 50 = .ok (.ireturn, 1) := dk_172 (dk_at dksX2_isLabel_2 4 rfl rfl)
abbrev cX2_records : ByteArray := prog_7_method_5_code
def yX2_records : MethodName := ⟨RX2, "records", "()V"⟩
def dkwX2_records_3 : List UInt8 := [180, 0, 43, 4, 96, 181, 0, 43, 177]
abbrev dktX2_records_3 : List UInt8 := dkwX2_records_3 ++ []
def dkwX2_records_2 : List UInt8 := [181, 0, 43, 42, 180, 0, 7, 3, 42, 180, 0, 16, 16, 110, 42, 180, 0, 43, 104, 184, 0, 47, 42, 89]
abbrev dktX2_records_2 : List UInt8 := dkwX2_records_2 ++ dktX2_records_3
def dkwX2_records_1 : List UInt8 := [180, 0, 16, 27, 16, 110, 96, 46, 79, 132, 1, 1, 167, 255, 231, 42, 89, 180, 0, 43, 4, 100]
abbrev dktX2_records_1 : List UInt8 := dkwX2_records_1 ++ dktX2_records_2
def dkwX2_records_0 : List UInt8 := [42, 180, 0, 43, 7, 160, 0, 43, 3, 60, 27, 17, 1, 74, 162, 0, 24, 42, 180, 0, 16, 27, 42]
abbrev dktX2_records_0 : List UInt8 := dkwX2_records_0 ++ dktX2_records_1
theorem dksX2_records_0 : cX2_records.data.toList.drop 0 = dktX2_records_0 := by decide +kernel
theorem dksX2_records_1 : cX2_records.data.toList.drop 23 = dktX2_records_1 := dk_seg dksX2_records_0 23 rfl rfl
theorem dksX2_records_2 : cX2_records.data.toList.drop 45 = dktX2_records_2 := dk_seg dksX2_records_1 22 rfl rfl
theorem dksX2_records_3 : cX2_records.data.toList.drop 69 = dktX2_records_3 := dk_seg dksX2_records_2 24 rfl rfl
theorem dX2_records_0 : decode cX2_records 0 = .ok (.aload_n 0, 1) := dk_42 (dk_at dksX2_records_0 0 rfl rfl)
theorem dX2_records_1 : decode cX2_records 1 = .ok (.getfield 43, 3) := dk_180 0 43 (dk_at dksX2_records_0 1 rfl rfl)
theorem dX2_records_4 : decode cX2_records 4 = .ok (.iconst 4, 1) := dk_7 (dk_at dksX2_records_0 4 rfl rfl)
theorem dX2_records_5 : decode cX2_records 5 = .ok (.if_icmp .ne 43, 3) := dk_160 0 43 (dk_at dksX2_records_0 5 rfl rfl)
theorem dX2_records_8 : decode cX2_records 8 = .ok (.iconst 0, 1) := dk_3 (dk_at dksX2_records_0 8 rfl rfl)
theorem dX2_records_9 : decode cX2_records 9 = .ok (.istore_n 1, 1) := dk_60 (dk_at dksX2_records_0 9 rfl rfl)
theorem dX2_records_10 : decode cX2_records 10 = .ok (.iload_n 1, 1) := dk_27 (dk_at dksX2_records_0 10 rfl rfl)
theorem dX2_records_11 : decode cX2_records 11 = .ok (.sipush 330, 3) := dk_17 1 74 (dk_at dksX2_records_0 11 rfl rfl)
theorem dX2_records_14 : decode cX2_records 14 = .ok (.if_icmp .ge 24, 3) := dk_162 0 24 (dk_at dksX2_records_0 14 rfl rfl)
theorem dX2_records_17 : decode cX2_records 17 = .ok (.aload_n 0, 1) := dk_42 (dk_at dksX2_records_0 17 rfl rfl)
theorem dX2_records_18 : decode cX2_records 18 = .ok (.getfield 16, 3) := dk_180 0 16 (dk_at dksX2_records_0 18 rfl rfl)
theorem dX2_records_21 : decode cX2_records 21 = .ok (.iload_n 1, 1) := dk_27 (dk_at dksX2_records_0 21 rfl rfl)
theorem dX2_records_22 : decode cX2_records 22 = .ok (.aload_n 0, 1) := dk_42 (dk_at dksX2_records_0 22 rfl rfl)
theorem dX2_records_23 : decode cX2_records 23 = .ok (.getfield 16, 3) := dk_180 0 16 (dk_at dksX2_records_1 0 rfl rfl)
theorem dX2_records_26 : decode cX2_records 26 = .ok (.iload_n 1, 1) := dk_27 (dk_at dksX2_records_1 3 rfl rfl)
theorem dX2_records_27 : decode cX2_records 27 = .ok (.bipush 110, 2) := dk_16 110 (dk_at dksX2_records_1 4 rfl rfl)
theorem dX2_records_29 : decode cX2_records 29 = .ok (.iadd, 1) := dk_96 (dk_at dksX2_records_1 6 rfl rfl)
theorem dX2_records_30 : decode cX2_records 30 = .ok (.iaload, 1) := dk_46 (dk_at dksX2_records_1 7 rfl rfl)
theorem dX2_records_31 : decode cX2_records 31 = .ok (.iastore, 1) := dk_79 (dk_at dksX2_records_1 8 rfl rfl)
theorem dX2_records_32 : decode cX2_records 32 = .ok (.iinc 1 1, 3) := dk_132 1 1 (dk_at dksX2_records_1 9 rfl rfl)
theorem dX2_records_35 : decode cX2_records 35 = .ok (.goto (-25), 3) := dk_167 255 231 (dk_at dksX2_records_1 12 rfl rfl)
theorem dX2_records_38 : decode cX2_records 38 = .ok (.aload_n 0, 1) := dk_42 (dk_at dksX2_records_1 15 rfl rfl)
theorem dX2_records_39 : decode cX2_records 39 = .ok (.dup, 1) := dk_89 (dk_at dksX2_records_1 16 rfl rfl)
theorem dX2_records_40 : decode cX2_records 40 = .ok (.getfield 43, 3) := dk_180 0 43 (dk_at dksX2_records_1 17 rfl rfl)
theorem dX2_records_43 : decode cX2_records 43 = .ok (.iconst 1, 1) := dk_4 (dk_at dksX2_records_1 20 rfl rfl)
theorem dX2_records_44 : decode cX2_records 44 = .ok (.isub, 1) := dk_100 (dk_at dksX2_records_1 21 rfl rfl)
theorem dX2_records_45 : decode cX2_records 45 = .ok (.putfield 43, 3) := dk_181 0 43 (dk_at dksX2_records_2 0 rfl rfl)
theorem dX2_records_48 : decode cX2_records 48 = .ok (.aload_n 0, 1) := dk_42 (dk_at dksX2_records_2 3 rfl rfl)
theorem dX2_records_49 : decode cX2_records 49 = .ok (.getfield 7, 3) := dk_180 0 7 (dk_at dksX2_records_2 4 rfl rfl)
theorem dX2_records_52 : decode cX2_records 52 = .ok (.iconst 0, 1) := dk_3 (dk_at dksX2_records_2 7 rfl rfl)
theorem dX2_records_53 : decode cX2_records 53 = .ok (.aload_n 0, 1) := dk_42 (dk_at dksX2_records_2 8 rfl rfl)
theorem dX2_records_54 : decode cX2_records 54 = .ok (.getfield 16, 3) := dk_180 0 16 (dk_at dksX2_records_2 9 rfl rfl)
theorem dX2_records_57 : decode cX2_records 57 = .ok (.bipush 110, 2) := dk_16 110 (dk_at dksX2_records_2 12 rfl rfl)
theorem dX2_records_59 : decode cX2_records 59 = .ok (.aload_n 0, 1) := dk_42 (dk_at dksX2_records_2 14 rfl rfl)
theorem dX2_records_60 : decode cX2_records 60 = .ok (.getfield 43, 3) := dk_180 0 43 (dk_at dksX2_records_2 15 rfl rfl)
theorem dX2_records_63 : decode cX2_records 63 = .ok (.imul, 1) := dk_104 (dk_at dksX2_records_2 18 rfl rfl)
theorem dX2_records_64 : decode cX2_records 64 = .ok (.invokestatic 47, 3) := dk_184 0 47 (dk_at dksX2_records_2 19 rfl rfl)
theorem dX2_records_67 : decode cX2_records 67 = .ok (.aload_n 0, 1) := dk_42 (dk_at dksX2_records_2 22 rfl rfl)
theorem dX2_records_68 : decode cX2_records 68 = .ok (.dup, 1) := dk_89 (dk_at dksX2_records_2 23 rfl rfl)
theorem dX2_records_69 : decode cX2_records 69 = .ok (.getfield 43, 3) := dk_180 0 43 (dk_at dksX2_records_3 0 rfl rfl)
theorem dX2_records_72 : decode cX2_records 72 = .ok (.iconst 1, 1) := dk_4 (dk_at dksX2_records_3 3 rfl rfl)
theorem dX2_records_73 : decode cX2_records 73 = .ok (.iadd, 1) := dk_96 (dk_at dksX2_records_3 4 rfl rfl)
theorem dX2_records_74 : decode cX2_records 74 = .ok (.putfield 43, 3) := dk_181 0 43 (dk_at dksX2_records_3 5 rfl rfl)
theorem dX2_records_77 : decode cX2_records 77 = .ok (.return_, 1) := dk_177 (dk_at dksX2_records_3 8 rfl rfl)
abbrev cX2_copies : ByteArray := prog_7_method_4_code
def yX2_copies : MethodName := ⟨RX2, "copies", "([II[II)V"⟩
def dkwX2_copies_1 : List UInt8 := [132, 4, 1, 167, 255, 234, 177]
abbrev dktX2_copies_1 : List UInt8 := dkwX2_copies_1 ++ []
def dkwX2_copies_0 : List UInt8 := [3, 54, 4, 21, 4, 16, 110, 162, 0, 21, 44, 29, 21, 4, 96, 42, 27, 21, 4, 96, 46, 79]
abbrev dktX2_copies_0 : List UInt8 := dkwX2_copies_0 ++ dktX2_copies_1
theorem dksX2_copies_0 : cX2_copies.data.toList.drop 0 = dktX2_copies_0 := by decide +kernel
theorem dksX2_copies_1 : cX2_copies.data.toList.drop 22 = dktX2_copies_1 := dk_seg dksX2_copies_0 22 rfl rfl
theorem dX2_copies_0 : decode cX2_copies 0 = .ok (.iconst 0, 1) := dk_3 (dk_at dksX2_copies_0 0 rfl rfl)
theorem dX2_copies_1 : decode cX2_copies 1 = .ok (.istore 4, 2) := dk_54 4 (dk_at dksX2_copies_0 1 rfl rfl)
theorem dX2_copies_3 : decode cX2_copies 3 = .ok (.iload 4, 2) := dk_21 4 (dk_at dksX2_copies_0 3 rfl rfl)
theorem dX2_copies_5 : decode cX2_copies 5 = .ok (.bipush 110, 2) := dk_16 110 (dk_at dksX2_copies_0 5 rfl rfl)
theorem dX2_copies_7 : decode cX2_copies 7 = .ok (.if_icmp .ge 21, 3) := dk_162 0 21 (dk_at dksX2_copies_0 7 rfl rfl)
theorem dX2_copies_10 : decode cX2_copies 10 = .ok (.aload_n 2, 1) := dk_44 (dk_at dksX2_copies_0 10 rfl rfl)
theorem dX2_copies_11 : decode cX2_copies 11 = .ok (.iload_n 3, 1) := dk_29 (dk_at dksX2_copies_0 11 rfl rfl)
theorem dX2_copies_12 : decode cX2_copies 12 = .ok (.iload 4, 2) := dk_21 4 (dk_at dksX2_copies_0 12 rfl rfl)
theorem dX2_copies_14 : decode cX2_copies 14 = .ok (.iadd, 1) := dk_96 (dk_at dksX2_copies_0 14 rfl rfl)
theorem dX2_copies_15 : decode cX2_copies 15 = .ok (.aload_n 0, 1) := dk_42 (dk_at dksX2_copies_0 15 rfl rfl)
theorem dX2_copies_16 : decode cX2_copies 16 = .ok (.iload_n 1, 1) := dk_27 (dk_at dksX2_copies_0 16 rfl rfl)
theorem dX2_copies_17 : decode cX2_copies 17 = .ok (.iload 4, 2) := dk_21 4 (dk_at dksX2_copies_0 17 rfl rfl)
theorem dX2_copies_19 : decode cX2_copies 19 = .ok (.iadd, 1) := dk_96 (dk_at dksX2_copies_0 19 rfl rfl)
theorem dX2_copies_20 : decode cX2_copies 20 = .ok (.iaload, 1) := dk_46 (dk_at dksX2_copies_0 20 rfl rfl)
theorem dX2_copies_21 : decode cX2_copies 21 = .ok (.iastore, 1) := dk_79 (dk_at dksX2_copies_0 21 rfl rfl)
theorem dX2_copies_22 : decode cX2_copies 22 = .ok (.iinc 4 1, 3) := dk_132 4 1 (dk_at dksX2_copies_1 0 rfl rfl)
theorem dX2_copies_25 : decode cX2_copies 25 = .ok (.goto (-22), 3) := dk_167 255 234 (dk_at dksX2_copies_1 3 rfl rfl)
theorem dX2_copies_28 : decode cX2_copies 28 = .ok (.return_, 1) := dk_177 (dk_at dksX2_copies_1 6 rfl rfl)
abbrev cX2_lays : ByteArray := prog_7_method_8_code
def yX2_lays : MethodName := ⟨RX2, "lays", "(III)V"⟩
def dkwX2_lays_0 : List UInt8 := [42, 180, 0, 7, 5, 16, 9, 27, 104, 96, 28, 96, 29, 79, 177]
abbrev dktX2_lays_0 : List UInt8 := dkwX2_lays_0 ++ []
theorem dksX2_lays_0 : cX2_lays.data.toList.drop 0 = dktX2_lays_0 := by decide +kernel
theorem dX2_lays_0 : decode cX2_lays 0 = .ok (.aload_n 0, 1) := dk_42 (dk_at dksX2_lays_0 0 rfl rfl)
theorem dX2_lays_1 : decode cX2_lays 1 = .ok (.getfield 7, 3) := dk_180 0 7 (dk_at dksX2_lays_0 1 rfl rfl)
theorem dX2_lays_4 : decode cX2_lays 4 = .ok (.iconst 2, 1) := dk_5 (dk_at dksX2_lays_0 4 rfl rfl)
theorem dX2_lays_5 : decode cX2_lays 5 = .ok (.bipush 9, 2) := dk_16 9 (dk_at dksX2_lays_0 5 rfl rfl)
theorem dX2_lays_7 : decode cX2_lays 7 = .ok (.iload_n 1, 1) := dk_27 (dk_at dksX2_lays_0 7 rfl rfl)
theorem dX2_lays_8 : decode cX2_lays 8 = .ok (.imul, 1) := dk_104 (dk_at dksX2_lays_0 8 rfl rfl)
theorem dX2_lays_9 : decode cX2_lays 9 = .ok (.iadd, 1) := dk_96 (dk_at dksX2_lays_0 9 rfl rfl)
theorem dX2_lays_10 : decode cX2_lays 10 = .ok (.iload_n 2, 1) := dk_28 (dk_at dksX2_lays_0 10 rfl rfl)
theorem dX2_lays_11 : decode cX2_lays 11 = .ok (.iadd, 1) := dk_96 (dk_at dksX2_lays_0 11 rfl rfl)
theorem dX2_lays_12 : decode cX2_lays 12 = .ok (.iload_n 3, 1) := dk_29 (dk_at dksX2_lays_0 12 rfl rfl)
theorem dX2_lays_13 : decode cX2_lays 13 = .ok (.iastore, 1) := dk_79 (dk_at dksX2_lays_0 13 rfl rfl)
theorem dX2_lays_14 : decode cX2_lays 14 = .ok (.return_, 1) := dk_177 (dk_at dksX2_lays_0 14 rfl rfl)
abbrev cX2_adds : ByteArray := prog_7_method_29_code
def yX2_adds : MethodName := ⟨RX2, "adds", "(IIIII)V"⟩
def dkwX2_adds_2 : List UInt8 := [16, 8, 21, 5, 182, 0, 93, 42, 180, 0, 7, 3, 92, 46, 4, 96, 79, 177]
abbrev dktX2_adds_2 : List UInt8 := dkwX2_adds_2 ++ []
def dkwX2_adds_1 : List UInt8 := [42, 21, 6, 5, 29, 182, 0, 93, 42, 21, 6, 16, 7, 21, 4, 4, 96, 182, 0, 93, 42, 21, 6]
abbrev dktX2_adds_1 : List UInt8 := dkwX2_adds_1 ++ dktX2_adds_2
def dkwX2_adds_0 : List UInt8 := [42, 180, 0, 7, 3, 46, 54, 6, 42, 21, 6, 3, 27, 182, 0, 93, 42, 21, 6, 4, 28, 182, 0, 93]
abbrev dktX2_adds_0 : List UInt8 := dkwX2_adds_0 ++ dktX2_adds_1
theorem dksX2_adds_0 : cX2_adds.data.toList.drop 0 = dktX2_adds_0 := by decide +kernel
theorem dksX2_adds_1 : cX2_adds.data.toList.drop 24 = dktX2_adds_1 := dk_seg dksX2_adds_0 24 rfl rfl
theorem dksX2_adds_2 : cX2_adds.data.toList.drop 47 = dktX2_adds_2 := dk_seg dksX2_adds_1 23 rfl rfl
theorem dX2_adds_0 : decode cX2_adds 0 = .ok (.aload_n 0, 1) := dk_42 (dk_at dksX2_adds_0 0 rfl rfl)
theorem dX2_adds_1 : decode cX2_adds 1 = .ok (.getfield 7, 3) := dk_180 0 7 (dk_at dksX2_adds_0 1 rfl rfl)
theorem dX2_adds_4 : decode cX2_adds 4 = .ok (.iconst 0, 1) := dk_3 (dk_at dksX2_adds_0 4 rfl rfl)
theorem dX2_adds_5 : decode cX2_adds 5 = .ok (.iaload, 1) := dk_46 (dk_at dksX2_adds_0 5 rfl rfl)
theorem dX2_adds_6 : decode cX2_adds 6 = .ok (.istore 6, 2) := dk_54 6 (dk_at dksX2_adds_0 6 rfl rfl)
theorem dX2_adds_8 : decode cX2_adds 8 = .ok (.aload_n 0, 1) := dk_42 (dk_at dksX2_adds_0 8 rfl rfl)
theorem dX2_adds_9 : decode cX2_adds 9 = .ok (.iload 6, 2) := dk_21 6 (dk_at dksX2_adds_0 9 rfl rfl)
theorem dX2_adds_11 : decode cX2_adds 11 = .ok (.iconst 0, 1) := dk_3 (dk_at dksX2_adds_0 11 rfl rfl)
theorem dX2_adds_12 : decode cX2_adds 12 = .ok (.iload_n 1, 1) := dk_27 (dk_at dksX2_adds_0 12 rfl rfl)
theorem dX2_adds_13 : decode cX2_adds 13 = .ok (.invokevirtual 93, 3) := dk_182 0 93 (dk_at dksX2_adds_0 13 rfl rfl)
theorem dX2_adds_16 : decode cX2_adds 16 = .ok (.aload_n 0, 1) := dk_42 (dk_at dksX2_adds_0 16 rfl rfl)
theorem dX2_adds_17 : decode cX2_adds 17 = .ok (.iload 6, 2) := dk_21 6 (dk_at dksX2_adds_0 17 rfl rfl)
theorem dX2_adds_19 : decode cX2_adds 19 = .ok (.iconst 1, 1) := dk_4 (dk_at dksX2_adds_0 19 rfl rfl)
theorem dX2_adds_20 : decode cX2_adds 20 = .ok (.iload_n 2, 1) := dk_28 (dk_at dksX2_adds_0 20 rfl rfl)
theorem dX2_adds_21 : decode cX2_adds 21 = .ok (.invokevirtual 93, 3) := dk_182 0 93 (dk_at dksX2_adds_0 21 rfl rfl)
theorem dX2_adds_24 : decode cX2_adds 24 = .ok (.aload_n 0, 1) := dk_42 (dk_at dksX2_adds_1 0 rfl rfl)
theorem dX2_adds_25 : decode cX2_adds 25 = .ok (.iload 6, 2) := dk_21 6 (dk_at dksX2_adds_1 1 rfl rfl)
theorem dX2_adds_27 : decode cX2_adds 27 = .ok (.iconst 2, 1) := dk_5 (dk_at dksX2_adds_1 3 rfl rfl)
theorem dX2_adds_28 : decode cX2_adds 28 = .ok (.iload_n 3, 1) := dk_29 (dk_at dksX2_adds_1 4 rfl rfl)
theorem dX2_adds_29 : decode cX2_adds 29 = .ok (.invokevirtual 93, 3) := dk_182 0 93 (dk_at dksX2_adds_1 5 rfl rfl)
theorem dX2_adds_32 : decode cX2_adds 32 = .ok (.aload_n 0, 1) := dk_42 (dk_at dksX2_adds_1 8 rfl rfl)
theorem dX2_adds_33 : decode cX2_adds 33 = .ok (.iload 6, 2) := dk_21 6 (dk_at dksX2_adds_1 9 rfl rfl)
theorem dX2_adds_35 : decode cX2_adds 35 = .ok (.bipush 7, 2) := dk_16 7 (dk_at dksX2_adds_1 11 rfl rfl)
theorem dX2_adds_37 : decode cX2_adds 37 = .ok (.iload 4, 2) := dk_21 4 (dk_at dksX2_adds_1 13 rfl rfl)
theorem dX2_adds_39 : decode cX2_adds 39 = .ok (.iconst 1, 1) := dk_4 (dk_at dksX2_adds_1 15 rfl rfl)
theorem dX2_adds_40 : decode cX2_adds 40 = .ok (.iadd, 1) := dk_96 (dk_at dksX2_adds_1 16 rfl rfl)
theorem dX2_adds_41 : decode cX2_adds 41 = .ok (.invokevirtual 93, 3) := dk_182 0 93 (dk_at dksX2_adds_1 17 rfl rfl)
theorem dX2_adds_44 : decode cX2_adds 44 = .ok (.aload_n 0, 1) := dk_42 (dk_at dksX2_adds_1 20 rfl rfl)
theorem dX2_adds_45 : decode cX2_adds 45 = .ok (.iload 6, 2) := dk_21 6 (dk_at dksX2_adds_1 21 rfl rfl)
theorem dX2_adds_47 : decode cX2_adds 47 = .ok (.bipush 8, 2) := dk_16 8 (dk_at dksX2_adds_2 0 rfl rfl)
theorem dX2_adds_49 : decode cX2_adds 49 = .ok (.iload 5, 2) := dk_21 5 (dk_at dksX2_adds_2 2 rfl rfl)
theorem dX2_adds_51 : decode cX2_adds 51 = .ok (.invokevirtual 93, 3) := dk_182 0 93 (dk_at dksX2_adds_2 4 rfl rfl)
theorem dX2_adds_54 : decode cX2_adds 54 = .ok (.aload_n 0, 1) := dk_42 (dk_at dksX2_adds_2 7 rfl rfl)
theorem dX2_adds_55 : decode cX2_adds 55 = .ok (.getfield 7, 3) := dk_180 0 7 (dk_at dksX2_adds_2 8 rfl rfl)
theorem dX2_adds_58 : decode cX2_adds 58 = .ok (.iconst 0, 1) := dk_3 (dk_at dksX2_adds_2 11 rfl rfl)
theorem dX2_adds_59 : decode cX2_adds 59 = .ok (.dup2, 1) := dk_92 (dk_at dksX2_adds_2 12 rfl rfl)
theorem dX2_adds_60 : decode cX2_adds 60 = .ok (.iaload, 1) := dk_46 (dk_at dksX2_adds_2 13 rfl rfl)
theorem dX2_adds_61 : decode cX2_adds 61 = .ok (.iconst 1, 1) := dk_4 (dk_at dksX2_adds_2 14 rfl rfl)
theorem dX2_adds_62 : decode cX2_adds 62 = .ok (.iadd, 1) := dk_96 (dk_at dksX2_adds_2 15 rfl rfl)
theorem dX2_adds_63 : decode cX2_adds 63 = .ok (.iastore, 1) := dk_79 (dk_at dksX2_adds_2 16 rfl rfl)
theorem dX2_adds_64 : decode cX2_adds 64 = .ok (.return_, 1) := dk_177 (dk_at dksX2_adds_2 17 rfl rfl)
abbrev cX2_put : ByteArray := prog_7_method_32_code
def yX2_put : MethodName := ⟨RX2, "put", "(II)I"⟩
def dkwX2_put_3 : List UInt8 := [27, 182, 0, 80, 96, 172]
abbrev dktX2_put_3 : List UInt8 := dkwX2_put_3 ++ []
def dkwX2_put_2 : List UInt8 := [27, 16, 8, 42, 28, 182, 0, 67, 182, 0, 93, 42, 27, 16, 7, 28, 4, 96, 182, 0, 93, 16, 10, 42]
abbrev dktX2_put_2 : List UInt8 := dkwX2_put_2 ++ dktX2_put_3
def dkwX2_put_1 : List UInt8 := [28, 182, 0, 111, 62, 29, 158, 0, 9, 42, 29, 182, 0, 114, 172, 42, 27, 16, 7, 3, 182, 0, 93, 42]
abbrev dktX2_put_1 : List UInt8 := dkwX2_put_1 ++ dktX2_put_2
def dkwX2_put_0 : List UInt8 := [42, 27, 182, 0, 108, 153, 0, 11, 42, 28, 182, 0, 108, 154, 0, 5, 2, 172, 42, 182, 0, 101, 42, 27]
abbrev dktX2_put_0 : List UInt8 := dkwX2_put_0 ++ dktX2_put_1
theorem dksX2_put_0 : cX2_put.data.toList.drop 0 = dktX2_put_0 := by decide +kernel
theorem dksX2_put_1 : cX2_put.data.toList.drop 24 = dktX2_put_1 := dk_seg dksX2_put_0 24 rfl rfl
theorem dksX2_put_2 : cX2_put.data.toList.drop 48 = dktX2_put_2 := dk_seg dksX2_put_1 24 rfl rfl
theorem dksX2_put_3 : cX2_put.data.toList.drop 72 = dktX2_put_3 := dk_seg dksX2_put_2 24 rfl rfl
theorem dX2_put_0 : decode cX2_put 0 = .ok (.aload_n 0, 1) := dk_42 (dk_at dksX2_put_0 0 rfl rfl)
theorem dX2_put_1 : decode cX2_put 1 = .ok (.iload_n 1, 1) := dk_27 (dk_at dksX2_put_0 1 rfl rfl)
theorem dX2_put_2 : decode cX2_put 2 = .ok (.invokevirtual 108, 3) := dk_182 0 108 (dk_at dksX2_put_0 2 rfl rfl)
theorem dX2_put_5 : decode cX2_put 5 = .ok (.ifCond .eq 11, 3) := dk_153 0 11 (dk_at dksX2_put_0 5 rfl rfl)
theorem dX2_put_8 : decode cX2_put 8 = .ok (.aload_n 0, 1) := dk_42 (dk_at dksX2_put_0 8 rfl rfl)
theorem dX2_put_9 : decode cX2_put 9 = .ok (.iload_n 2, 1) := dk_28 (dk_at dksX2_put_0 9 rfl rfl)
theorem dX2_put_10 : decode cX2_put 10 = .ok (.invokevirtual 108, 3) := dk_182 0 108 (dk_at dksX2_put_0 10 rfl rfl)
theorem dX2_put_13 : decode cX2_put 13 = .ok (.ifCond .ne 5, 3) := dk_154 0 5 (dk_at dksX2_put_0 13 rfl rfl)
theorem dX2_put_16 : decode cX2_put 16 = .ok (.iconst (-1), 1) := dk_2 (dk_at dksX2_put_0 16 rfl rfl)
theorem dX2_put_17 : decode cX2_put 17 = .ok (.ireturn, 1) := dk_172 (dk_at dksX2_put_0 17 rfl rfl)
theorem dX2_put_18 : decode cX2_put 18 = .ok (.aload_n 0, 1) := dk_42 (dk_at dksX2_put_0 18 rfl rfl)
theorem dX2_put_19 : decode cX2_put 19 = .ok (.invokevirtual 101, 3) := dk_182 0 101 (dk_at dksX2_put_0 19 rfl rfl)
theorem dX2_put_22 : decode cX2_put 22 = .ok (.aload_n 0, 1) := dk_42 (dk_at dksX2_put_0 22 rfl rfl)
theorem dX2_put_23 : decode cX2_put 23 = .ok (.iload_n 1, 1) := dk_27 (dk_at dksX2_put_0 23 rfl rfl)
theorem dX2_put_24 : decode cX2_put 24 = .ok (.iload_n 2, 1) := dk_28 (dk_at dksX2_put_1 0 rfl rfl)
theorem dX2_put_25 : decode cX2_put 25 = .ok (.invokevirtual 111, 3) := dk_182 0 111 (dk_at dksX2_put_1 1 rfl rfl)
theorem dX2_put_28 : decode cX2_put 28 = .ok (.istore_n 3, 1) := dk_62 (dk_at dksX2_put_1 4 rfl rfl)
theorem dX2_put_29 : decode cX2_put 29 = .ok (.iload_n 3, 1) := dk_29 (dk_at dksX2_put_1 5 rfl rfl)
theorem dX2_put_30 : decode cX2_put 30 = .ok (.ifCond .le 9, 3) := dk_158 0 9 (dk_at dksX2_put_1 6 rfl rfl)
theorem dX2_put_33 : decode cX2_put 33 = .ok (.aload_n 0, 1) := dk_42 (dk_at dksX2_put_1 9 rfl rfl)
theorem dX2_put_34 : decode cX2_put 34 = .ok (.iload_n 3, 1) := dk_29 (dk_at dksX2_put_1 10 rfl rfl)
theorem dX2_put_35 : decode cX2_put 35 = .ok (.invokevirtual 114, 3) := dk_182 0 114 (dk_at dksX2_put_1 11 rfl rfl)
theorem dX2_put_38 : decode cX2_put 38 = .ok (.ireturn, 1) := dk_172 (dk_at dksX2_put_1 14 rfl rfl)
theorem dX2_put_39 : decode cX2_put 39 = .ok (.aload_n 0, 1) := dk_42 (dk_at dksX2_put_1 15 rfl rfl)
theorem dX2_put_40 : decode cX2_put 40 = .ok (.iload_n 1, 1) := dk_27 (dk_at dksX2_put_1 16 rfl rfl)
theorem dX2_put_41 : decode cX2_put 41 = .ok (.bipush 7, 2) := dk_16 7 (dk_at dksX2_put_1 17 rfl rfl)
theorem dX2_put_43 : decode cX2_put 43 = .ok (.iconst 0, 1) := dk_3 (dk_at dksX2_put_1 19 rfl rfl)
theorem dX2_put_44 : decode cX2_put 44 = .ok (.invokevirtual 93, 3) := dk_182 0 93 (dk_at dksX2_put_1 20 rfl rfl)
theorem dX2_put_47 : decode cX2_put 47 = .ok (.aload_n 0, 1) := dk_42 (dk_at dksX2_put_1 23 rfl rfl)
theorem dX2_put_48 : decode cX2_put 48 = .ok (.iload_n 1, 1) := dk_27 (dk_at dksX2_put_2 0 rfl rfl)
theorem dX2_put_49 : decode cX2_put 49 = .ok (.bipush 8, 2) := dk_16 8 (dk_at dksX2_put_2 1 rfl rfl)
theorem dX2_put_51 : decode cX2_put 51 = .ok (.aload_n 0, 1) := dk_42 (dk_at dksX2_put_2 3 rfl rfl)
theorem dX2_put_52 : decode cX2_put 52 = .ok (.iload_n 2, 1) := dk_28 (dk_at dksX2_put_2 4 rfl rfl)
theorem dX2_put_53 : decode cX2_put 53 = .ok (.invokevirtual 67, 3) := dk_182 0 67 (dk_at dksX2_put_2 5 rfl rfl)
theorem dX2_put_56 : decode cX2_put 56 = .ok (.invokevirtual 93, 3) := dk_182 0 93 (dk_at dksX2_put_2 8 rfl rfl)
theorem dX2_put_59 : decode cX2_put 59 = .ok (.aload_n 0, 1) := dk_42 (dk_at dksX2_put_2 11 rfl rfl)
theorem dX2_put_60 : decode cX2_put 60 = .ok (.iload_n 1, 1) := dk_27 (dk_at dksX2_put_2 12 rfl rfl)
theorem dX2_put_61 : decode cX2_put 61 = .ok (.bipush 7, 2) := dk_16 7 (dk_at dksX2_put_2 13 rfl rfl)
theorem dX2_put_63 : decode cX2_put 63 = .ok (.iload_n 2, 1) := dk_28 (dk_at dksX2_put_2 15 rfl rfl)
theorem dX2_put_64 : decode cX2_put 64 = .ok (.iconst 1, 1) := dk_4 (dk_at dksX2_put_2 16 rfl rfl)
theorem dX2_put_65 : decode cX2_put 65 = .ok (.iadd, 1) := dk_96 (dk_at dksX2_put_2 17 rfl rfl)
theorem dX2_put_66 : decode cX2_put 66 = .ok (.invokevirtual 93, 3) := dk_182 0 93 (dk_at dksX2_put_2 18 rfl rfl)
theorem dX2_put_69 : decode cX2_put 69 = .ok (.bipush 10, 2) := dk_16 10 (dk_at dksX2_put_2 21 rfl rfl)
theorem dX2_put_71 : decode cX2_put 71 = .ok (.aload_n 0, 1) := dk_42 (dk_at dksX2_put_2 23 rfl rfl)
theorem dX2_put_72 : decode cX2_put 72 = .ok (.iload_n 1, 1) := dk_27 (dk_at dksX2_put_3 0 rfl rfl)
theorem dX2_put_73 : decode cX2_put 73 = .ok (.invokevirtual 80, 3) := dk_182 0 80 (dk_at dksX2_put_3 1 rfl rfl)
theorem dX2_put_76 : decode cX2_put 76 = .ok (.iadd, 1) := dk_96 (dk_at dksX2_put_3 4 rfl rfl)
theorem dX2_put_77 : decode cX2_put 77 = .ok (.ireturn, 1) := dk_172 (dk_at dksX2_put_3 5 rfl rfl)
abbrev cX2_isCrate : ByteArray := prog_7_method_6_code
def yX2_isCrate : MethodName := ⟨RX2, "isCrate", "(I)Z"⟩
def dkwX2_isCrate_0 : List UInt8 := [27, 3, 42, 180, 0, 7, 3, 46, 4, 100, 184, 0, 51, 172]
abbrev dktX2_isCrate_0 : List UInt8 := dkwX2_isCrate_0 ++ []
theorem dksX2_isCrate_0 : cX2_isCrate.data.toList.drop 0 = dktX2_isCrate_0 := by decide +kernel
theorem dX2_isCrate_0 : decode cX2_isCrate 0 = .ok (.iload_n 1, 1) := dk_27 (dk_at dksX2_isCrate_0 0 rfl rfl)
theorem dX2_isCrate_1 : decode cX2_isCrate 1 = .ok (.iconst 0, 1) := dk_3 (dk_at dksX2_isCrate_0 1 rfl rfl)
theorem dX2_isCrate_2 : decode cX2_isCrate 2 = .ok (.aload_n 0, 1) := dk_42 (dk_at dksX2_isCrate_0 2 rfl rfl)
theorem dX2_isCrate_3 : decode cX2_isCrate 3 = .ok (.getfield 7, 3) := dk_180 0 7 (dk_at dksX2_isCrate_0 3 rfl rfl)
theorem dX2_isCrate_6 : decode cX2_isCrate 6 = .ok (.iconst 0, 1) := dk_3 (dk_at dksX2_isCrate_0 6 rfl rfl)
theorem dX2_isCrate_7 : decode cX2_isCrate 7 = .ok (.iaload, 1) := dk_46 (dk_at dksX2_isCrate_0 7 rfl rfl)
theorem dX2_isCrate_8 : decode cX2_isCrate 8 = .ok (.iconst 1, 1) := dk_4 (dk_at dksX2_isCrate_0 8 rfl rfl)
theorem dX2_isCrate_9 : decode cX2_isCrate 9 = .ok (.isub, 1) := dk_100 (dk_at dksX2_isCrate_0 9 rfl rfl)
theorem dX2_isCrate_10 : decode cX2_isCrate 10 = .ok (.invokestatic 51, 3) := dk_184 0 51 (dk_at dksX2_isCrate_0 10 rfl rfl)
theorem dX2_isCrate_13 : decode cX2_isCrate 13 = .ok (.ireturn, 1) := dk_172 (dk_at dksX2_isCrate_0 13 rfl rfl)
abbrev cX2_reasonPut : ByteArray := prog_7_method_25_code
def yX2_reasonPut : MethodName := ⟨RX2, "reasonPut", "(II)I"⟩
def dkwX2_reasonPut_2 : List UInt8 := [29, 42, 27, 3, 182, 0, 55, 162, 0, 7, 6, 167, 0, 4, 3, 172]
abbrev dktX2_reasonPut_2 : List UInt8 := dkwX2_reasonPut_2 ++ []
def dkwX2_reasonPut_1 : List UInt8 := [182, 0, 90, 42, 27, 182, 0, 59, 28, 160, 0, 12, 42, 27, 3, 182, 0, 55, 167, 0, 4, 3, 96, 62]
abbrev dktX2_reasonPut_1 : List UInt8 := dkwX2_reasonPut_1 ++ dktX2_reasonPut_2
def dkwX2_reasonPut_0 : List UInt8 := [42, 27, 182, 0, 86, 154, 0, 5, 4, 172, 42, 27, 28, 182, 0, 63, 153, 0, 5, 5, 172, 42, 28]
abbrev dktX2_reasonPut_0 : List UInt8 := dkwX2_reasonPut_0 ++ dktX2_reasonPut_1
theorem dksX2_reasonPut_0 : cX2_reasonPut.data.toList.drop 0 = dktX2_reasonPut_0 := by decide +kernel
theorem dksX2_reasonPut_1 : cX2_reasonPut.data.toList.drop 23 = dktX2_reasonPut_1 := dk_seg dksX2_reasonPut_0 23 rfl rfl
theorem dksX2_reasonPut_2 : cX2_reasonPut.data.toList.drop 47 = dktX2_reasonPut_2 := dk_seg dksX2_reasonPut_1 24 rfl rfl
theorem dX2_reasonPut_0 : decode cX2_reasonPut 0 = .ok (.aload_n 0, 1) := dk_42 (dk_at dksX2_reasonPut_0 0 rfl rfl)
theorem dX2_reasonPut_1 : decode cX2_reasonPut 1 = .ok (.iload_n 1, 1) := dk_27 (dk_at dksX2_reasonPut_0 1 rfl rfl)
theorem dX2_reasonPut_2 : decode cX2_reasonPut 2 = .ok (.invokevirtual 86, 3) := dk_182 0 86 (dk_at dksX2_reasonPut_0 2 rfl rfl)
theorem dX2_reasonPut_5 : decode cX2_reasonPut 5 = .ok (.ifCond .ne 5, 3) := dk_154 0 5 (dk_at dksX2_reasonPut_0 5 rfl rfl)
theorem dX2_reasonPut_8 : decode cX2_reasonPut 8 = .ok (.iconst 1, 1) := dk_4 (dk_at dksX2_reasonPut_0 8 rfl rfl)
theorem dX2_reasonPut_9 : decode cX2_reasonPut 9 = .ok (.ireturn, 1) := dk_172 (dk_at dksX2_reasonPut_0 9 rfl rfl)
theorem dX2_reasonPut_10 : decode cX2_reasonPut 10 = .ok (.aload_n 0, 1) := dk_42 (dk_at dksX2_reasonPut_0 10 rfl rfl)
theorem dX2_reasonPut_11 : decode cX2_reasonPut 11 = .ok (.iload_n 1, 1) := dk_27 (dk_at dksX2_reasonPut_0 11 rfl rfl)
theorem dX2_reasonPut_12 : decode cX2_reasonPut 12 = .ok (.iload_n 2, 1) := dk_28 (dk_at dksX2_reasonPut_0 12 rfl rfl)
theorem dX2_reasonPut_13 : decode cX2_reasonPut 13 = .ok (.invokevirtual 63, 3) := dk_182 0 63 (dk_at dksX2_reasonPut_0 13 rfl rfl)
theorem dX2_reasonPut_16 : decode cX2_reasonPut 16 = .ok (.ifCond .eq 5, 3) := dk_153 0 5 (dk_at dksX2_reasonPut_0 16 rfl rfl)
theorem dX2_reasonPut_19 : decode cX2_reasonPut 19 = .ok (.iconst 2, 1) := dk_5 (dk_at dksX2_reasonPut_0 19 rfl rfl)
theorem dX2_reasonPut_20 : decode cX2_reasonPut 20 = .ok (.ireturn, 1) := dk_172 (dk_at dksX2_reasonPut_0 20 rfl rfl)
theorem dX2_reasonPut_21 : decode cX2_reasonPut 21 = .ok (.aload_n 0, 1) := dk_42 (dk_at dksX2_reasonPut_0 21 rfl rfl)
theorem dX2_reasonPut_22 : decode cX2_reasonPut 22 = .ok (.iload_n 2, 1) := dk_28 (dk_at dksX2_reasonPut_0 22 rfl rfl)
theorem dX2_reasonPut_23 : decode cX2_reasonPut 23 = .ok (.invokevirtual 90, 3) := dk_182 0 90 (dk_at dksX2_reasonPut_1 0 rfl rfl)
theorem dX2_reasonPut_26 : decode cX2_reasonPut 26 = .ok (.aload_n 0, 1) := dk_42 (dk_at dksX2_reasonPut_1 3 rfl rfl)
theorem dX2_reasonPut_27 : decode cX2_reasonPut 27 = .ok (.iload_n 1, 1) := dk_27 (dk_at dksX2_reasonPut_1 4 rfl rfl)
theorem dX2_reasonPut_28 : decode cX2_reasonPut 28 = .ok (.invokevirtual 59, 3) := dk_182 0 59 (dk_at dksX2_reasonPut_1 5 rfl rfl)
theorem dX2_reasonPut_31 : decode cX2_reasonPut 31 = .ok (.iload_n 2, 1) := dk_28 (dk_at dksX2_reasonPut_1 8 rfl rfl)
theorem dX2_reasonPut_32 : decode cX2_reasonPut 32 = .ok (.if_icmp .ne 12, 3) := dk_160 0 12 (dk_at dksX2_reasonPut_1 9 rfl rfl)
theorem dX2_reasonPut_35 : decode cX2_reasonPut 35 = .ok (.aload_n 0, 1) := dk_42 (dk_at dksX2_reasonPut_1 12 rfl rfl)
theorem dX2_reasonPut_36 : decode cX2_reasonPut 36 = .ok (.iload_n 1, 1) := dk_27 (dk_at dksX2_reasonPut_1 13 rfl rfl)
theorem dX2_reasonPut_37 : decode cX2_reasonPut 37 = .ok (.iconst 0, 1) := dk_3 (dk_at dksX2_reasonPut_1 14 rfl rfl)
theorem dX2_reasonPut_38 : decode cX2_reasonPut 38 = .ok (.invokevirtual 55, 3) := dk_182 0 55 (dk_at dksX2_reasonPut_1 15 rfl rfl)
theorem dX2_reasonPut_41 : decode cX2_reasonPut 41 = .ok (.goto 4, 3) := dk_167 0 4 (dk_at dksX2_reasonPut_1 18 rfl rfl)
theorem dX2_reasonPut_44 : decode cX2_reasonPut 44 = .ok (.iconst 0, 1) := dk_3 (dk_at dksX2_reasonPut_1 21 rfl rfl)
theorem dX2_reasonPut_45 : decode cX2_reasonPut 45 = .ok (.iadd, 1) := dk_96 (dk_at dksX2_reasonPut_1 22 rfl rfl)
theorem dX2_reasonPut_46 : decode cX2_reasonPut 46 = .ok (.istore_n 3, 1) := dk_62 (dk_at dksX2_reasonPut_1 23 rfl rfl)
theorem dX2_reasonPut_47 : decode cX2_reasonPut 47 = .ok (.iload_n 3, 1) := dk_29 (dk_at dksX2_reasonPut_2 0 rfl rfl)
theorem dX2_reasonPut_48 : decode cX2_reasonPut 48 = .ok (.aload_n 0, 1) := dk_42 (dk_at dksX2_reasonPut_2 1 rfl rfl)
theorem dX2_reasonPut_49 : decode cX2_reasonPut 49 = .ok (.iload_n 1, 1) := dk_27 (dk_at dksX2_reasonPut_2 2 rfl rfl)
theorem dX2_reasonPut_50 : decode cX2_reasonPut 50 = .ok (.iconst 0, 1) := dk_3 (dk_at dksX2_reasonPut_2 3 rfl rfl)
theorem dX2_reasonPut_51 : decode cX2_reasonPut 51 = .ok (.invokevirtual 55, 3) := dk_182 0 55 (dk_at dksX2_reasonPut_2 4 rfl rfl)
theorem dX2_reasonPut_54 : decode cX2_reasonPut 54 = .ok (.if_icmp .ge 7, 3) := dk_162 0 7 (dk_at dksX2_reasonPut_2 7 rfl rfl)
theorem dX2_reasonPut_57 : decode cX2_reasonPut 57 = .ok (.iconst 3, 1) := dk_6 (dk_at dksX2_reasonPut_2 10 rfl rfl)
theorem dX2_reasonPut_58 : decode cX2_reasonPut 58 = .ok (.goto 4, 3) := dk_167 0 4 (dk_at dksX2_reasonPut_2 11 rfl rfl)
theorem dX2_reasonPut_61 : decode cX2_reasonPut 61 = .ok (.iconst 0, 1) := dk_3 (dk_at dksX2_reasonPut_2 14 rfl rfl)
theorem dX2_reasonPut_62 : decode cX2_reasonPut 62 = .ok (.ireturn, 1) := dk_172 (dk_at dksX2_reasonPut_2 15 rfl rfl)
abbrev cX2_isTop : ByteArray := prog_7_method_16_code
def yX2_isTop : MethodName := ⟨RX2, "isTop", "(I)Z"⟩
def dkwX2_isTop_1 : List UInt8 := [4, 100, 160, 0, 7, 4, 167, 0, 4, 3, 172]
abbrev dktX2_isTop_1 : List UInt8 := dkwX2_isTop_1 ++ []
def dkwX2_isTop_0 : List UInt8 := [42, 27, 182, 0, 59, 155, 0, 24, 42, 27, 16, 8, 182, 0, 55, 42, 42, 27, 182, 0, 59, 182, 0, 67]
abbrev dktX2_isTop_0 : List UInt8 := dkwX2_isTop_0 ++ dktX2_isTop_1
theorem dksX2_isTop_0 : cX2_isTop.data.toList.drop 0 = dktX2_isTop_0 := by decide +kernel
theorem dksX2_isTop_1 : cX2_isTop.data.toList.drop 24 = dktX2_isTop_1 := dk_seg dksX2_isTop_0 24 rfl rfl
theorem dX2_isTop_0 : decode cX2_isTop 0 = .ok (.aload_n 0, 1) := dk_42 (dk_at dksX2_isTop_0 0 rfl rfl)
theorem dX2_isTop_1 : decode cX2_isTop 1 = .ok (.iload_n 1, 1) := dk_27 (dk_at dksX2_isTop_0 1 rfl rfl)
theorem dX2_isTop_2 : decode cX2_isTop 2 = .ok (.invokevirtual 59, 3) := dk_182 0 59 (dk_at dksX2_isTop_0 2 rfl rfl)
theorem dX2_isTop_5 : decode cX2_isTop 5 = .ok (.ifCond .lt 24, 3) := dk_155 0 24 (dk_at dksX2_isTop_0 5 rfl rfl)
theorem dX2_isTop_8 : decode cX2_isTop 8 = .ok (.aload_n 0, 1) := dk_42 (dk_at dksX2_isTop_0 8 rfl rfl)
theorem dX2_isTop_9 : decode cX2_isTop 9 = .ok (.iload_n 1, 1) := dk_27 (dk_at dksX2_isTop_0 9 rfl rfl)
theorem dX2_isTop_10 : decode cX2_isTop 10 = .ok (.bipush 8, 2) := dk_16 8 (dk_at dksX2_isTop_0 10 rfl rfl)
theorem dX2_isTop_12 : decode cX2_isTop 12 = .ok (.invokevirtual 55, 3) := dk_182 0 55 (dk_at dksX2_isTop_0 12 rfl rfl)
theorem dX2_isTop_15 : decode cX2_isTop 15 = .ok (.aload_n 0, 1) := dk_42 (dk_at dksX2_isTop_0 15 rfl rfl)
theorem dX2_isTop_16 : decode cX2_isTop 16 = .ok (.aload_n 0, 1) := dk_42 (dk_at dksX2_isTop_0 16 rfl rfl)
theorem dX2_isTop_17 : decode cX2_isTop 17 = .ok (.iload_n 1, 1) := dk_27 (dk_at dksX2_isTop_0 17 rfl rfl)
theorem dX2_isTop_18 : decode cX2_isTop 18 = .ok (.invokevirtual 59, 3) := dk_182 0 59 (dk_at dksX2_isTop_0 18 rfl rfl)
theorem dX2_isTop_21 : decode cX2_isTop 21 = .ok (.invokevirtual 67, 3) := dk_182 0 67 (dk_at dksX2_isTop_0 21 rfl rfl)
theorem dX2_isTop_24 : decode cX2_isTop 24 = .ok (.iconst 1, 1) := dk_4 (dk_at dksX2_isTop_1 0 rfl rfl)
theorem dX2_isTop_25 : decode cX2_isTop 25 = .ok (.isub, 1) := dk_100 (dk_at dksX2_isTop_1 1 rfl rfl)
theorem dX2_isTop_26 : decode cX2_isTop 26 = .ok (.if_icmp .ne 7, 3) := dk_160 0 7 (dk_at dksX2_isTop_1 2 rfl rfl)
theorem dX2_isTop_29 : decode cX2_isTop 29 = .ok (.iconst 1, 1) := dk_4 (dk_at dksX2_isTop_1 5 rfl rfl)
theorem dX2_isTop_30 : decode cX2_isTop 30 = .ok (.goto 4, 3) := dk_167 0 4 (dk_at dksX2_isTop_1 6 rfl rfl)
theorem dX2_isTop_33 : decode cX2_isTop 33 = .ok (.iconst 0, 1) := dk_3 (dk_at dksX2_isTop_1 9 rfl rfl)
theorem dX2_isTop_34 : decode cX2_isTop 34 = .ok (.ireturn, 1) := dk_172 (dk_at dksX2_isTop_1 10 rfl rfl)
abbrev cX2_around : ByteArray := prog_7_method_9_code
def yX2_around : MethodName := ⟨RX2, "around", "(I)I"⟩
def dkwX2_around_0 : List UInt8 := [42, 27, 16, 7, 182, 0, 55, 4, 100, 172]
abbrev dktX2_around_0 : List UInt8 := dkwX2_around_0 ++ []
theorem dksX2_around_0 : cX2_around.data.toList.drop 0 = dktX2_around_0 := by decide +kernel
theorem dX2_around_0 : decode cX2_around 0 = .ok (.aload_n 0, 1) := dk_42 (dk_at dksX2_around_0 0 rfl rfl)
theorem dX2_around_1 : decode cX2_around 1 = .ok (.iload_n 1, 1) := dk_27 (dk_at dksX2_around_0 1 rfl rfl)
theorem dX2_around_2 : decode cX2_around 2 = .ok (.bipush 7, 2) := dk_16 7 (dk_at dksX2_around_0 2 rfl rfl)
theorem dX2_around_4 : decode cX2_around 4 = .ok (.invokevirtual 55, 3) := dk_182 0 55 (dk_at dksX2_around_0 4 rfl rfl)
theorem dX2_around_7 : decode cX2_around 7 = .ok (.iconst 1, 1) := dk_4 (dk_at dksX2_around_0 7 rfl rfl)
theorem dX2_around_8 : decode cX2_around 8 = .ok (.isub, 1) := dk_100 (dk_at dksX2_around_0 8 rfl rfl)
theorem dX2_around_9 : decode cX2_around 9 = .ok (.ireturn, 1) := dk_172 (dk_at dksX2_around_0 9 rfl rfl)
abbrev cX2_of : ByteArray := prog_7_method_7_code
def yX2_of : MethodName := ⟨RX2, "of", "(II)I"⟩
def dkwX2_of_0 : List UInt8 := [42, 180, 0, 7, 5, 16, 9, 27, 104, 96, 28, 96, 46, 172]
abbrev dktX2_of_0 : List UInt8 := dkwX2_of_0 ++ []
theorem dksX2_of_0 : cX2_of.data.toList.drop 0 = dktX2_of_0 := by decide +kernel
theorem dX2_of_0 : decode cX2_of 0 = .ok (.aload_n 0, 1) := dk_42 (dk_at dksX2_of_0 0 rfl rfl)
theorem dX2_of_1 : decode cX2_of 1 = .ok (.getfield 7, 3) := dk_180 0 7 (dk_at dksX2_of_0 1 rfl rfl)
theorem dX2_of_4 : decode cX2_of 4 = .ok (.iconst 2, 1) := dk_5 (dk_at dksX2_of_0 4 rfl rfl)
theorem dX2_of_5 : decode cX2_of 5 = .ok (.bipush 9, 2) := dk_16 9 (dk_at dksX2_of_0 5 rfl rfl)
theorem dX2_of_7 : decode cX2_of 7 = .ok (.iload_n 1, 1) := dk_27 (dk_at dksX2_of_0 7 rfl rfl)
theorem dX2_of_8 : decode cX2_of 8 = .ok (.imul, 1) := dk_104 (dk_at dksX2_of_0 8 rfl rfl)
theorem dX2_of_9 : decode cX2_of 9 = .ok (.iadd, 1) := dk_96 (dk_at dksX2_of_0 9 rfl rfl)
theorem dX2_of_10 : decode cX2_of 10 = .ok (.iload_n 2, 1) := dk_28 (dk_at dksX2_of_0 10 rfl rfl)
theorem dX2_of_11 : decode cX2_of 11 = .ok (.iadd, 1) := dk_96 (dk_at dksX2_of_0 11 rfl rfl)
theorem dX2_of_12 : decode cX2_of 12 = .ok (.iaload, 1) := dk_46 (dk_at dksX2_of_0 12 rfl rfl)
theorem dX2_of_13 : decode cX2_of 13 = .ok (.ireturn, 1) := dk_172 (dk_at dksX2_of_0 13 rfl rfl)
abbrev cX2_pile : ByteArray := prog_7_method_10_code
def yX2_pile : MethodName := ⟨RX2, "pile", "(I)I"⟩
def dkwX2_pile_1 : List UInt8 := [4, 167, 0, 4, 3, 96, 61, 132, 3, 1, 167, 255, 226, 28, 172]
abbrev dktX2_pile_1 : List UInt8 := dkwX2_pile_1 ++ []
def dkwX2_pile_0 : List UInt8 := [3, 61, 3, 62, 29, 42, 180, 0, 7, 3, 46, 162, 0, 26, 28, 42, 29, 182, 0, 59, 27, 160, 0, 7]
abbrev dktX2_pile_0 : List UInt8 := dkwX2_pile_0 ++ dktX2_pile_1
theorem dksX2_pile_0 : cX2_pile.data.toList.drop 0 = dktX2_pile_0 := by decide +kernel
theorem dksX2_pile_1 : cX2_pile.data.toList.drop 24 = dktX2_pile_1 := dk_seg dksX2_pile_0 24 rfl rfl
theorem dX2_pile_0 : decode cX2_pile 0 = .ok (.iconst 0, 1) := dk_3 (dk_at dksX2_pile_0 0 rfl rfl)
theorem dX2_pile_1 : decode cX2_pile 1 = .ok (.istore_n 2, 1) := dk_61 (dk_at dksX2_pile_0 1 rfl rfl)
theorem dX2_pile_2 : decode cX2_pile 2 = .ok (.iconst 0, 1) := dk_3 (dk_at dksX2_pile_0 2 rfl rfl)
theorem dX2_pile_3 : decode cX2_pile 3 = .ok (.istore_n 3, 1) := dk_62 (dk_at dksX2_pile_0 3 rfl rfl)
theorem dX2_pile_4 : decode cX2_pile 4 = .ok (.iload_n 3, 1) := dk_29 (dk_at dksX2_pile_0 4 rfl rfl)
theorem dX2_pile_5 : decode cX2_pile 5 = .ok (.aload_n 0, 1) := dk_42 (dk_at dksX2_pile_0 5 rfl rfl)
theorem dX2_pile_6 : decode cX2_pile 6 = .ok (.getfield 7, 3) := dk_180 0 7 (dk_at dksX2_pile_0 6 rfl rfl)
theorem dX2_pile_9 : decode cX2_pile 9 = .ok (.iconst 0, 1) := dk_3 (dk_at dksX2_pile_0 9 rfl rfl)
theorem dX2_pile_10 : decode cX2_pile 10 = .ok (.iaload, 1) := dk_46 (dk_at dksX2_pile_0 10 rfl rfl)
theorem dX2_pile_11 : decode cX2_pile 11 = .ok (.if_icmp .ge 26, 3) := dk_162 0 26 (dk_at dksX2_pile_0 11 rfl rfl)
theorem dX2_pile_14 : decode cX2_pile 14 = .ok (.iload_n 2, 1) := dk_28 (dk_at dksX2_pile_0 14 rfl rfl)
theorem dX2_pile_15 : decode cX2_pile 15 = .ok (.aload_n 0, 1) := dk_42 (dk_at dksX2_pile_0 15 rfl rfl)
theorem dX2_pile_16 : decode cX2_pile 16 = .ok (.iload_n 3, 1) := dk_29 (dk_at dksX2_pile_0 16 rfl rfl)
theorem dX2_pile_17 : decode cX2_pile 17 = .ok (.invokevirtual 59, 3) := dk_182 0 59 (dk_at dksX2_pile_0 17 rfl rfl)
theorem dX2_pile_20 : decode cX2_pile 20 = .ok (.iload_n 1, 1) := dk_27 (dk_at dksX2_pile_0 20 rfl rfl)
theorem dX2_pile_21 : decode cX2_pile 21 = .ok (.if_icmp .ne 7, 3) := dk_160 0 7 (dk_at dksX2_pile_0 21 rfl rfl)
theorem dX2_pile_24 : decode cX2_pile 24 = .ok (.iconst 1, 1) := dk_4 (dk_at dksX2_pile_1 0 rfl rfl)
theorem dX2_pile_25 : decode cX2_pile 25 = .ok (.goto 4, 3) := dk_167 0 4 (dk_at dksX2_pile_1 1 rfl rfl)
theorem dX2_pile_28 : decode cX2_pile 28 = .ok (.iconst 0, 1) := dk_3 (dk_at dksX2_pile_1 4 rfl rfl)
theorem dX2_pile_29 : decode cX2_pile 29 = .ok (.iadd, 1) := dk_96 (dk_at dksX2_pile_1 5 rfl rfl)
theorem dX2_pile_30 : decode cX2_pile 30 = .ok (.istore_n 2, 1) := dk_61 (dk_at dksX2_pile_1 6 rfl rfl)
theorem dX2_pile_31 : decode cX2_pile 31 = .ok (.iinc 3 1, 3) := dk_132 3 1 (dk_at dksX2_pile_1 7 rfl rfl)
theorem dX2_pile_34 : decode cX2_pile 34 = .ok (.goto (-30), 3) := dk_167 255 226 (dk_at dksX2_pile_1 10 rfl rfl)
theorem dX2_pile_37 : decode cX2_pile 37 = .ok (.iload_n 2, 1) := dk_28 (dk_at dksX2_pile_1 13 rfl rfl)
theorem dX2_pile_38 : decode cX2_pile 38 = .ok (.ireturn, 1) := dk_172 (dk_at dksX2_pile_1 14 rfl rfl)
abbrev cX2_holds : ByteArray := prog_7_method_14_code
def yX2_holds : MethodName := ⟨RX2, "holds", "(II)Z"⟩
def dkwX2_holds_1 : List UInt8 := [160, 0, 7, 4, 167, 0, 4, 3, 172]
abbrev dktX2_holds_1 : List UInt8 := dkwX2_holds_1 ++ []
def dkwX2_holds_0 : List UInt8 := [28, 62, 29, 155, 0, 17, 29, 27, 159, 0, 12, 42, 29, 182, 0, 59, 62, 167, 255, 241, 29, 27]
abbrev dktX2_holds_0 : List UInt8 := dkwX2_holds_0 ++ dktX2_holds_1
theorem dksX2_holds_0 : cX2_holds.data.toList.drop 0 = dktX2_holds_0 := by decide +kernel
theorem dksX2_holds_1 : cX2_holds.data.toList.drop 22 = dktX2_holds_1 := dk_seg dksX2_holds_0 22 rfl rfl
theorem dX2_holds_0 : decode cX2_holds 0 = .ok (.iload_n 2, 1) := dk_28 (dk_at dksX2_holds_0 0 rfl rfl)
theorem dX2_holds_1 : decode cX2_holds 1 = .ok (.istore_n 3, 1) := dk_62 (dk_at dksX2_holds_0 1 rfl rfl)
theorem dX2_holds_2 : decode cX2_holds 2 = .ok (.iload_n 3, 1) := dk_29 (dk_at dksX2_holds_0 2 rfl rfl)
theorem dX2_holds_3 : decode cX2_holds 3 = .ok (.ifCond .lt 17, 3) := dk_155 0 17 (dk_at dksX2_holds_0 3 rfl rfl)
theorem dX2_holds_6 : decode cX2_holds 6 = .ok (.iload_n 3, 1) := dk_29 (dk_at dksX2_holds_0 6 rfl rfl)
theorem dX2_holds_7 : decode cX2_holds 7 = .ok (.iload_n 1, 1) := dk_27 (dk_at dksX2_holds_0 7 rfl rfl)
theorem dX2_holds_8 : decode cX2_holds 8 = .ok (.if_icmp .eq 12, 3) := dk_159 0 12 (dk_at dksX2_holds_0 8 rfl rfl)
theorem dX2_holds_11 : decode cX2_holds 11 = .ok (.aload_n 0, 1) := dk_42 (dk_at dksX2_holds_0 11 rfl rfl)
theorem dX2_holds_12 : decode cX2_holds 12 = .ok (.iload_n 3, 1) := dk_29 (dk_at dksX2_holds_0 12 rfl rfl)
theorem dX2_holds_13 : decode cX2_holds 13 = .ok (.invokevirtual 59, 3) := dk_182 0 59 (dk_at dksX2_holds_0 13 rfl rfl)
theorem dX2_holds_16 : decode cX2_holds 16 = .ok (.istore_n 3, 1) := dk_62 (dk_at dksX2_holds_0 16 rfl rfl)
theorem dX2_holds_17 : decode cX2_holds 17 = .ok (.goto (-15), 3) := dk_167 255 241 (dk_at dksX2_holds_0 17 rfl rfl)
theorem dX2_holds_20 : decode cX2_holds 20 = .ok (.iload_n 3, 1) := dk_29 (dk_at dksX2_holds_0 20 rfl rfl)
theorem dX2_holds_21 : decode cX2_holds 21 = .ok (.iload_n 1, 1) := dk_27 (dk_at dksX2_holds_0 21 rfl rfl)
theorem dX2_holds_22 : decode cX2_holds 22 = .ok (.if_icmp .ne 7, 3) := dk_160 0 7 (dk_at dksX2_holds_1 0 rfl rfl)
theorem dX2_holds_25 : decode cX2_holds 25 = .ok (.iconst 1, 1) := dk_4 (dk_at dksX2_holds_1 3 rfl rfl)
theorem dX2_holds_26 : decode cX2_holds 26 = .ok (.goto 4, 3) := dk_167 0 4 (dk_at dksX2_holds_1 4 rfl rfl)
theorem dX2_holds_29 : decode cX2_holds 29 = .ok (.iconst 0, 1) := dk_3 (dk_at dksX2_holds_1 7 rfl rfl)
theorem dX2_holds_30 : decode cX2_holds 30 = .ok (.ireturn, 1) := dk_172 (dk_at dksX2_holds_1 8 rfl rfl)
abbrev cX2_roomLeft : ByteArray := prog_7_method_12_code
def yX2_roomLeft : MethodName := ⟨RX2, "roomLeft", "(I)I"⟩
def dkwX2_roomLeft_2 : List UInt8 := [167, 255, 221, 28, 172]
abbrev dktX2_roomLeft_2 : List UInt8 := dkwX2_roomLeft_2 ++ []
def dkwX2_roomLeft_1 : List UInt8 := [182, 0, 59, 27, 160, 0, 12, 42, 29, 3, 182, 0, 55, 167, 0, 4, 3, 100, 61, 132, 3, 1]
abbrev dktX2_roomLeft_1 : List UInt8 := dkwX2_roomLeft_1 ++ dktX2_roomLeft_2
def dkwX2_roomLeft_0 : List UInt8 := [42, 27, 4, 182, 0, 55, 61, 3, 62, 29, 42, 180, 0, 7, 3, 46, 162, 0, 31, 28, 42, 29]
abbrev dktX2_roomLeft_0 : List UInt8 := dkwX2_roomLeft_0 ++ dktX2_roomLeft_1
theorem dksX2_roomLeft_0 : cX2_roomLeft.data.toList.drop 0 = dktX2_roomLeft_0 := by decide +kernel
theorem dksX2_roomLeft_1 : cX2_roomLeft.data.toList.drop 22 = dktX2_roomLeft_1 := dk_seg dksX2_roomLeft_0 22 rfl rfl
theorem dksX2_roomLeft_2 : cX2_roomLeft.data.toList.drop 44 = dktX2_roomLeft_2 := dk_seg dksX2_roomLeft_1 22 rfl rfl
theorem dX2_roomLeft_0 : decode cX2_roomLeft 0 = .ok (.aload_n 0, 1) := dk_42 (dk_at dksX2_roomLeft_0 0 rfl rfl)
theorem dX2_roomLeft_1 : decode cX2_roomLeft 1 = .ok (.iload_n 1, 1) := dk_27 (dk_at dksX2_roomLeft_0 1 rfl rfl)
theorem dX2_roomLeft_2 : decode cX2_roomLeft 2 = .ok (.iconst 1, 1) := dk_4 (dk_at dksX2_roomLeft_0 2 rfl rfl)
theorem dX2_roomLeft_3 : decode cX2_roomLeft 3 = .ok (.invokevirtual 55, 3) := dk_182 0 55 (dk_at dksX2_roomLeft_0 3 rfl rfl)
theorem dX2_roomLeft_6 : decode cX2_roomLeft 6 = .ok (.istore_n 2, 1) := dk_61 (dk_at dksX2_roomLeft_0 6 rfl rfl)
theorem dX2_roomLeft_7 : decode cX2_roomLeft 7 = .ok (.iconst 0, 1) := dk_3 (dk_at dksX2_roomLeft_0 7 rfl rfl)
theorem dX2_roomLeft_8 : decode cX2_roomLeft 8 = .ok (.istore_n 3, 1) := dk_62 (dk_at dksX2_roomLeft_0 8 rfl rfl)
theorem dX2_roomLeft_9 : decode cX2_roomLeft 9 = .ok (.iload_n 3, 1) := dk_29 (dk_at dksX2_roomLeft_0 9 rfl rfl)
theorem dX2_roomLeft_10 : decode cX2_roomLeft 10 = .ok (.aload_n 0, 1) := dk_42 (dk_at dksX2_roomLeft_0 10 rfl rfl)
theorem dX2_roomLeft_11 : decode cX2_roomLeft 11 = .ok (.getfield 7, 3) := dk_180 0 7 (dk_at dksX2_roomLeft_0 11 rfl rfl)
theorem dX2_roomLeft_14 : decode cX2_roomLeft 14 = .ok (.iconst 0, 1) := dk_3 (dk_at dksX2_roomLeft_0 14 rfl rfl)
theorem dX2_roomLeft_15 : decode cX2_roomLeft 15 = .ok (.iaload, 1) := dk_46 (dk_at dksX2_roomLeft_0 15 rfl rfl)
theorem dX2_roomLeft_16 : decode cX2_roomLeft 16 = .ok (.if_icmp .ge 31, 3) := dk_162 0 31 (dk_at dksX2_roomLeft_0 16 rfl rfl)
theorem dX2_roomLeft_19 : decode cX2_roomLeft 19 = .ok (.iload_n 2, 1) := dk_28 (dk_at dksX2_roomLeft_0 19 rfl rfl)
theorem dX2_roomLeft_20 : decode cX2_roomLeft 20 = .ok (.aload_n 0, 1) := dk_42 (dk_at dksX2_roomLeft_0 20 rfl rfl)
theorem dX2_roomLeft_21 : decode cX2_roomLeft 21 = .ok (.iload_n 3, 1) := dk_29 (dk_at dksX2_roomLeft_0 21 rfl rfl)
theorem dX2_roomLeft_22 : decode cX2_roomLeft 22 = .ok (.invokevirtual 59, 3) := dk_182 0 59 (dk_at dksX2_roomLeft_1 0 rfl rfl)
theorem dX2_roomLeft_25 : decode cX2_roomLeft 25 = .ok (.iload_n 1, 1) := dk_27 (dk_at dksX2_roomLeft_1 3 rfl rfl)
theorem dX2_roomLeft_26 : decode cX2_roomLeft 26 = .ok (.if_icmp .ne 12, 3) := dk_160 0 12 (dk_at dksX2_roomLeft_1 4 rfl rfl)
theorem dX2_roomLeft_29 : decode cX2_roomLeft 29 = .ok (.aload_n 0, 1) := dk_42 (dk_at dksX2_roomLeft_1 7 rfl rfl)
theorem dX2_roomLeft_30 : decode cX2_roomLeft 30 = .ok (.iload_n 3, 1) := dk_29 (dk_at dksX2_roomLeft_1 8 rfl rfl)
theorem dX2_roomLeft_31 : decode cX2_roomLeft 31 = .ok (.iconst 0, 1) := dk_3 (dk_at dksX2_roomLeft_1 9 rfl rfl)
theorem dX2_roomLeft_32 : decode cX2_roomLeft 32 = .ok (.invokevirtual 55, 3) := dk_182 0 55 (dk_at dksX2_roomLeft_1 10 rfl rfl)
theorem dX2_roomLeft_35 : decode cX2_roomLeft 35 = .ok (.goto 4, 3) := dk_167 0 4 (dk_at dksX2_roomLeft_1 13 rfl rfl)
theorem dX2_roomLeft_38 : decode cX2_roomLeft 38 = .ok (.iconst 0, 1) := dk_3 (dk_at dksX2_roomLeft_1 16 rfl rfl)
theorem dX2_roomLeft_39 : decode cX2_roomLeft 39 = .ok (.isub, 1) := dk_100 (dk_at dksX2_roomLeft_1 17 rfl rfl)
theorem dX2_roomLeft_40 : decode cX2_roomLeft 40 = .ok (.istore_n 2, 1) := dk_61 (dk_at dksX2_roomLeft_1 18 rfl rfl)
theorem dX2_roomLeft_41 : decode cX2_roomLeft 41 = .ok (.iinc 3 1, 3) := dk_132 3 1 (dk_at dksX2_roomLeft_1 19 rfl rfl)
theorem dX2_roomLeft_44 : decode cX2_roomLeft 44 = .ok (.goto (-35), 3) := dk_167 255 221 (dk_at dksX2_roomLeft_2 0 rfl rfl)
theorem dX2_roomLeft_47 : decode cX2_roomLeft 47 = .ok (.iload_n 2, 1) := dk_28 (dk_at dksX2_roomLeft_2 3 rfl rfl)
theorem dX2_roomLeft_48 : decode cX2_roomLeft 48 = .ok (.ireturn, 1) := dk_172 (dk_at dksX2_roomLeft_2 4 rfl rfl)
abbrev cX2_refuses : ByteArray := prog_7_method_28_code
def yX2_refuses : MethodName := ⟨RX2, "refuses", "(I)I"⟩
def dkwX2_refuses_0 : List UInt8 := [42, 180, 0, 7, 4, 92, 46, 4, 96, 79, 27, 172]
abbrev dktX2_refuses_0 : List UInt8 := dkwX2_refuses_0 ++ []
theorem dksX2_refuses_0 : cX2_refuses.data.toList.drop 0 = dktX2_refuses_0 := by decide +kernel
theorem dX2_refuses_0 : decode cX2_refuses 0 = .ok (.aload_n 0, 1) := dk_42 (dk_at dksX2_refuses_0 0 rfl rfl)
theorem dX2_refuses_1 : decode cX2_refuses 1 = .ok (.getfield 7, 3) := dk_180 0 7 (dk_at dksX2_refuses_0 1 rfl rfl)
theorem dX2_refuses_4 : decode cX2_refuses 4 = .ok (.iconst 1, 1) := dk_4 (dk_at dksX2_refuses_0 4 rfl rfl)
theorem dX2_refuses_5 : decode cX2_refuses 5 = .ok (.dup2, 1) := dk_92 (dk_at dksX2_refuses_0 5 rfl rfl)
theorem dX2_refuses_6 : decode cX2_refuses 6 = .ok (.iaload, 1) := dk_46 (dk_at dksX2_refuses_0 6 rfl rfl)
theorem dX2_refuses_7 : decode cX2_refuses 7 = .ok (.iconst 1, 1) := dk_4 (dk_at dksX2_refuses_0 7 rfl rfl)
theorem dX2_refuses_8 : decode cX2_refuses 8 = .ok (.iadd, 1) := dk_96 (dk_at dksX2_refuses_0 8 rfl rfl)
theorem dX2_refuses_9 : decode cX2_refuses 9 = .ok (.iastore, 1) := dk_79 (dk_at dksX2_refuses_0 9 rfl rfl)
theorem dX2_refuses_10 : decode cX2_refuses 10 = .ok (.iload_n 1, 1) := dk_27 (dk_at dksX2_refuses_0 10 rfl rfl)
theorem dX2_refuses_11 : decode cX2_refuses 11 = .ok (.ireturn, 1) := dk_172 (dk_at dksX2_refuses_0 11 rfl rfl)
abbrev cX2_depthOf : ByteArray := prog_7_method_13_code
def yX2_depthOf : MethodName := ⟨RX2, "depthOf", "(I)I"⟩
def dkwX2_depthOf_1 : List UInt8 := [28, 172]
abbrev dktX2_depthOf_1 : List UInt8 := dkwX2_depthOf_1 ++ []
def dkwX2_depthOf_0 : List UInt8 := [3, 61, 42, 27, 182, 0, 59, 62, 29, 155, 0, 15, 132, 2, 1, 42, 29, 182, 0, 59, 62, 167, 255, 243]
abbrev dktX2_depthOf_0 : List UInt8 := dkwX2_depthOf_0 ++ dktX2_depthOf_1
theorem dksX2_depthOf_0 : cX2_depthOf.data.toList.drop 0 = dktX2_depthOf_0 := by decide +kernel
theorem dksX2_depthOf_1 : cX2_depthOf.data.toList.drop 24 = dktX2_depthOf_1 := dk_seg dksX2_depthOf_0 24 rfl rfl
theorem dX2_depthOf_0 : decode cX2_depthOf 0 = .ok (.iconst 0, 1) := dk_3 (dk_at dksX2_depthOf_0 0 rfl rfl)
theorem dX2_depthOf_1 : decode cX2_depthOf 1 = .ok (.istore_n 2, 1) := dk_61 (dk_at dksX2_depthOf_0 1 rfl rfl)
theorem dX2_depthOf_2 : decode cX2_depthOf 2 = .ok (.aload_n 0, 1) := dk_42 (dk_at dksX2_depthOf_0 2 rfl rfl)
theorem dX2_depthOf_3 : decode cX2_depthOf 3 = .ok (.iload_n 1, 1) := dk_27 (dk_at dksX2_depthOf_0 3 rfl rfl)
theorem dX2_depthOf_4 : decode cX2_depthOf 4 = .ok (.invokevirtual 59, 3) := dk_182 0 59 (dk_at dksX2_depthOf_0 4 rfl rfl)
theorem dX2_depthOf_7 : decode cX2_depthOf 7 = .ok (.istore_n 3, 1) := dk_62 (dk_at dksX2_depthOf_0 7 rfl rfl)
theorem dX2_depthOf_8 : decode cX2_depthOf 8 = .ok (.iload_n 3, 1) := dk_29 (dk_at dksX2_depthOf_0 8 rfl rfl)
theorem dX2_depthOf_9 : decode cX2_depthOf 9 = .ok (.ifCond .lt 15, 3) := dk_155 0 15 (dk_at dksX2_depthOf_0 9 rfl rfl)
theorem dX2_depthOf_12 : decode cX2_depthOf 12 = .ok (.iinc 2 1, 3) := dk_132 2 1 (dk_at dksX2_depthOf_0 12 rfl rfl)
theorem dX2_depthOf_15 : decode cX2_depthOf 15 = .ok (.aload_n 0, 1) := dk_42 (dk_at dksX2_depthOf_0 15 rfl rfl)
theorem dX2_depthOf_16 : decode cX2_depthOf 16 = .ok (.iload_n 3, 1) := dk_29 (dk_at dksX2_depthOf_0 16 rfl rfl)
theorem dX2_depthOf_17 : decode cX2_depthOf 17 = .ok (.invokevirtual 59, 3) := dk_182 0 59 (dk_at dksX2_depthOf_0 17 rfl rfl)
theorem dX2_depthOf_20 : decode cX2_depthOf 20 = .ok (.istore_n 3, 1) := dk_62 (dk_at dksX2_depthOf_0 20 rfl rfl)
theorem dX2_depthOf_21 : decode cX2_depthOf 21 = .ok (.goto (-13), 3) := dk_167 255 243 (dk_at dksX2_depthOf_0 21 rfl rfl)
theorem dX2_depthOf_24 : decode cX2_depthOf 24 = .ok (.iload_n 2, 1) := dk_28 (dk_at dksX2_depthOf_1 0 rfl rfl)
theorem dX2_depthOf_25 : decode cX2_depthOf 25 = .ok (.ireturn, 1) := dk_172 (dk_at dksX2_depthOf_1 1 rfl rfl)
abbrev cX2_ground : ByteArray := prog_7_method_33_code
def yX2_ground : MethodName := ⟨RX2, "ground", "(I)I"⟩
def dkwX2_ground_2 : List UInt8 := [172]
abbrev dktX2_ground_2 : List UInt8 := dkwX2_ground_2 ++ []
def dkwX2_ground_1 : List UInt8 := [42, 28, 182, 0, 114, 172, 42, 27, 16, 7, 3, 182, 0, 93, 42, 27, 16, 8, 3, 182, 0, 93, 16, 10]
abbrev dktX2_ground_1 : List UInt8 := dkwX2_ground_1 ++ dktX2_ground_2
def dkwX2_ground_0 : List UInt8 := [42, 27, 182, 0, 108, 154, 0, 5, 2, 172, 42, 182, 0, 101, 42, 27, 182, 0, 117, 61, 28, 158, 0, 9]
abbrev dktX2_ground_0 : List UInt8 := dkwX2_ground_0 ++ dktX2_ground_1
theorem dksX2_ground_0 : cX2_ground.data.toList.drop 0 = dktX2_ground_0 := by decide +kernel
theorem dksX2_ground_1 : cX2_ground.data.toList.drop 24 = dktX2_ground_1 := dk_seg dksX2_ground_0 24 rfl rfl
theorem dksX2_ground_2 : cX2_ground.data.toList.drop 48 = dktX2_ground_2 := dk_seg dksX2_ground_1 24 rfl rfl
theorem dX2_ground_0 : decode cX2_ground 0 = .ok (.aload_n 0, 1) := dk_42 (dk_at dksX2_ground_0 0 rfl rfl)
theorem dX2_ground_1 : decode cX2_ground 1 = .ok (.iload_n 1, 1) := dk_27 (dk_at dksX2_ground_0 1 rfl rfl)
theorem dX2_ground_2 : decode cX2_ground 2 = .ok (.invokevirtual 108, 3) := dk_182 0 108 (dk_at dksX2_ground_0 2 rfl rfl)
theorem dX2_ground_5 : decode cX2_ground 5 = .ok (.ifCond .ne 5, 3) := dk_154 0 5 (dk_at dksX2_ground_0 5 rfl rfl)
theorem dX2_ground_8 : decode cX2_ground 8 = .ok (.iconst (-1), 1) := dk_2 (dk_at dksX2_ground_0 8 rfl rfl)
theorem dX2_ground_9 : decode cX2_ground 9 = .ok (.ireturn, 1) := dk_172 (dk_at dksX2_ground_0 9 rfl rfl)
theorem dX2_ground_10 : decode cX2_ground 10 = .ok (.aload_n 0, 1) := dk_42 (dk_at dksX2_ground_0 10 rfl rfl)
theorem dX2_ground_11 : decode cX2_ground 11 = .ok (.invokevirtual 101, 3) := dk_182 0 101 (dk_at dksX2_ground_0 11 rfl rfl)
theorem dX2_ground_14 : decode cX2_ground 14 = .ok (.aload_n 0, 1) := dk_42 (dk_at dksX2_ground_0 14 rfl rfl)
theorem dX2_ground_15 : decode cX2_ground 15 = .ok (.iload_n 1, 1) := dk_27 (dk_at dksX2_ground_0 15 rfl rfl)
theorem dX2_ground_16 : decode cX2_ground 16 = .ok (.invokevirtual 117, 3) := dk_182 0 117 (dk_at dksX2_ground_0 16 rfl rfl)
theorem dX2_ground_19 : decode cX2_ground 19 = .ok (.istore_n 2, 1) := dk_61 (dk_at dksX2_ground_0 19 rfl rfl)
theorem dX2_ground_20 : decode cX2_ground 20 = .ok (.iload_n 2, 1) := dk_28 (dk_at dksX2_ground_0 20 rfl rfl)
theorem dX2_ground_21 : decode cX2_ground 21 = .ok (.ifCond .le 9, 3) := dk_158 0 9 (dk_at dksX2_ground_0 21 rfl rfl)
theorem dX2_ground_24 : decode cX2_ground 24 = .ok (.aload_n 0, 1) := dk_42 (dk_at dksX2_ground_1 0 rfl rfl)
theorem dX2_ground_25 : decode cX2_ground 25 = .ok (.iload_n 2, 1) := dk_28 (dk_at dksX2_ground_1 1 rfl rfl)
theorem dX2_ground_26 : decode cX2_ground 26 = .ok (.invokevirtual 114, 3) := dk_182 0 114 (dk_at dksX2_ground_1 2 rfl rfl)
theorem dX2_ground_29 : decode cX2_ground 29 = .ok (.ireturn, 1) := dk_172 (dk_at dksX2_ground_1 5 rfl rfl)
theorem dX2_ground_30 : decode cX2_ground 30 = .ok (.aload_n 0, 1) := dk_42 (dk_at dksX2_ground_1 6 rfl rfl)
theorem dX2_ground_31 : decode cX2_ground 31 = .ok (.iload_n 1, 1) := dk_27 (dk_at dksX2_ground_1 7 rfl rfl)
theorem dX2_ground_32 : decode cX2_ground 32 = .ok (.bipush 7, 2) := dk_16 7 (dk_at dksX2_ground_1 8 rfl rfl)
theorem dX2_ground_34 : decode cX2_ground 34 = .ok (.iconst 0, 1) := dk_3 (dk_at dksX2_ground_1 10 rfl rfl)
theorem dX2_ground_35 : decode cX2_ground 35 = .ok (.invokevirtual 93, 3) := dk_182 0 93 (dk_at dksX2_ground_1 11 rfl rfl)
theorem dX2_ground_38 : decode cX2_ground 38 = .ok (.aload_n 0, 1) := dk_42 (dk_at dksX2_ground_1 14 rfl rfl)
theorem dX2_ground_39 : decode cX2_ground 39 = .ok (.iload_n 1, 1) := dk_27 (dk_at dksX2_ground_1 15 rfl rfl)
theorem dX2_ground_40 : decode cX2_ground 40 = .ok (.bipush 8, 2) := dk_16 8 (dk_at dksX2_ground_1 16 rfl rfl)
theorem dX2_ground_42 : decode cX2_ground 42 = .ok (.iconst 0, 1) := dk_3 (dk_at dksX2_ground_1 18 rfl rfl)
theorem dX2_ground_43 : decode cX2_ground 43 = .ok (.invokevirtual 93, 3) := dk_182 0 93 (dk_at dksX2_ground_1 19 rfl rfl)
theorem dX2_ground_46 : decode cX2_ground 46 = .ok (.bipush 10, 2) := dk_16 10 (dk_at dksX2_ground_1 22 rfl rfl)
theorem dX2_ground_48 : decode cX2_ground 48 = .ok (.ireturn, 1) := dk_172 (dk_at dksX2_ground_2 0 rfl rfl)
abbrev cX2_reasonGround : ByteArray := prog_7_method_26_code
def yX2_reasonGround : MethodName := ⟨RX2, "reasonGround", "(I)I"⟩
def dkwX2_reasonGround_1 : List UInt8 := [3, 172]
abbrev dktX2_reasonGround_1 : List UInt8 := dkwX2_reasonGround_1 ++ []
def dkwX2_reasonGround_0 : List UInt8 := [42, 27, 182, 0, 86, 154, 0, 7, 4, 167, 0, 16, 42, 27, 182, 0, 59, 156, 0, 7, 7, 167, 0, 4]
abbrev dktX2_reasonGround_0 : List UInt8 := dkwX2_reasonGround_0 ++ dktX2_reasonGround_1
theorem dksX2_reasonGround_0 : cX2_reasonGround.data.toList.drop 0 = dktX2_reasonGround_0 := by decide +kernel
theorem dksX2_reasonGround_1 : cX2_reasonGround.data.toList.drop 24 = dktX2_reasonGround_1 := dk_seg dksX2_reasonGround_0 24 rfl rfl
theorem dX2_reasonGround_0 : decode cX2_reasonGround 0 = .ok (.aload_n 0, 1) := dk_42 (dk_at dksX2_reasonGround_0 0 rfl rfl)
theorem dX2_reasonGround_1 : decode cX2_reasonGround 1 = .ok (.iload_n 1, 1) := dk_27 (dk_at dksX2_reasonGround_0 1 rfl rfl)
theorem dX2_reasonGround_2 : decode cX2_reasonGround 2 = .ok (.invokevirtual 86, 3) := dk_182 0 86 (dk_at dksX2_reasonGround_0 2 rfl rfl)
theorem dX2_reasonGround_5 : decode cX2_reasonGround 5 = .ok (.ifCond .ne 7, 3) := dk_154 0 7 (dk_at dksX2_reasonGround_0 5 rfl rfl)
theorem dX2_reasonGround_8 : decode cX2_reasonGround 8 = .ok (.iconst 1, 1) := dk_4 (dk_at dksX2_reasonGround_0 8 rfl rfl)
theorem dX2_reasonGround_9 : decode cX2_reasonGround 9 = .ok (.goto 16, 3) := dk_167 0 16 (dk_at dksX2_reasonGround_0 9 rfl rfl)
theorem dX2_reasonGround_12 : decode cX2_reasonGround 12 = .ok (.aload_n 0, 1) := dk_42 (dk_at dksX2_reasonGround_0 12 rfl rfl)
theorem dX2_reasonGround_13 : decode cX2_reasonGround 13 = .ok (.iload_n 1, 1) := dk_27 (dk_at dksX2_reasonGround_0 13 rfl rfl)
theorem dX2_reasonGround_14 : decode cX2_reasonGround 14 = .ok (.invokevirtual 59, 3) := dk_182 0 59 (dk_at dksX2_reasonGround_0 14 rfl rfl)
theorem dX2_reasonGround_17 : decode cX2_reasonGround 17 = .ok (.ifCond .ge 7, 3) := dk_156 0 7 (dk_at dksX2_reasonGround_0 17 rfl rfl)
theorem dX2_reasonGround_20 : decode cX2_reasonGround 20 = .ok (.iconst 4, 1) := dk_7 (dk_at dksX2_reasonGround_0 20 rfl rfl)
theorem dX2_reasonGround_21 : decode cX2_reasonGround 21 = .ok (.goto 4, 3) := dk_167 0 4 (dk_at dksX2_reasonGround_0 21 rfl rfl)
theorem dX2_reasonGround_24 : decode cX2_reasonGround 24 = .ok (.iconst 0, 1) := dk_3 (dk_at dksX2_reasonGround_1 0 rfl rfl)
theorem dX2_reasonGround_25 : decode cX2_reasonGround 25 = .ok (.ireturn, 1) := dk_172 (dk_at dksX2_reasonGround_1 1 rfl rfl)
abbrev cX2_turn : ByteArray := prog_7_method_35_code
def yX2_turn : MethodName := ⟨RX2, "turn", "(I)I"⟩
def dkwX2_turn_1 : List UInt8 := [184, 0, 120, 182, 0, 93, 42, 27, 5, 182, 0, 55, 172]
abbrev dktX2_turn_1 : List UInt8 := dkwX2_turn_1 ++ []
def dkwX2_turn_0 : List UInt8 := [42, 27, 182, 0, 108, 154, 0, 5, 2, 172, 42, 182, 0, 101, 42, 27, 5, 42, 27, 5, 182, 0, 55]
abbrev dktX2_turn_0 : List UInt8 := dkwX2_turn_0 ++ dktX2_turn_1
theorem dksX2_turn_0 : cX2_turn.data.toList.drop 0 = dktX2_turn_0 := by decide +kernel
theorem dksX2_turn_1 : cX2_turn.data.toList.drop 23 = dktX2_turn_1 := dk_seg dksX2_turn_0 23 rfl rfl
theorem dX2_turn_0 : decode cX2_turn 0 = .ok (.aload_n 0, 1) := dk_42 (dk_at dksX2_turn_0 0 rfl rfl)
theorem dX2_turn_1 : decode cX2_turn 1 = .ok (.iload_n 1, 1) := dk_27 (dk_at dksX2_turn_0 1 rfl rfl)
theorem dX2_turn_2 : decode cX2_turn 2 = .ok (.invokevirtual 108, 3) := dk_182 0 108 (dk_at dksX2_turn_0 2 rfl rfl)
theorem dX2_turn_5 : decode cX2_turn 5 = .ok (.ifCond .ne 5, 3) := dk_154 0 5 (dk_at dksX2_turn_0 5 rfl rfl)
theorem dX2_turn_8 : decode cX2_turn 8 = .ok (.iconst (-1), 1) := dk_2 (dk_at dksX2_turn_0 8 rfl rfl)
theorem dX2_turn_9 : decode cX2_turn 9 = .ok (.ireturn, 1) := dk_172 (dk_at dksX2_turn_0 9 rfl rfl)
theorem dX2_turn_10 : decode cX2_turn 10 = .ok (.aload_n 0, 1) := dk_42 (dk_at dksX2_turn_0 10 rfl rfl)
theorem dX2_turn_11 : decode cX2_turn 11 = .ok (.invokevirtual 101, 3) := dk_182 0 101 (dk_at dksX2_turn_0 11 rfl rfl)
theorem dX2_turn_14 : decode cX2_turn 14 = .ok (.aload_n 0, 1) := dk_42 (dk_at dksX2_turn_0 14 rfl rfl)
theorem dX2_turn_15 : decode cX2_turn 15 = .ok (.iload_n 1, 1) := dk_27 (dk_at dksX2_turn_0 15 rfl rfl)
theorem dX2_turn_16 : decode cX2_turn 16 = .ok (.iconst 2, 1) := dk_5 (dk_at dksX2_turn_0 16 rfl rfl)
theorem dX2_turn_17 : decode cX2_turn 17 = .ok (.aload_n 0, 1) := dk_42 (dk_at dksX2_turn_0 17 rfl rfl)
theorem dX2_turn_18 : decode cX2_turn 18 = .ok (.iload_n 1, 1) := dk_27 (dk_at dksX2_turn_0 18 rfl rfl)
theorem dX2_turn_19 : decode cX2_turn 19 = .ok (.iconst 2, 1) := dk_5 (dk_at dksX2_turn_0 19 rfl rfl)
theorem dX2_turn_20 : decode cX2_turn 20 = .ok (.invokevirtual 55, 3) := dk_182 0 55 (dk_at dksX2_turn_0 20 rfl rfl)
theorem dX2_turn_23 : decode cX2_turn 23 = .ok (.invokestatic 120, 3) := dk_184 0 120 (dk_at dksX2_turn_1 0 rfl rfl)
theorem dX2_turn_26 : decode cX2_turn 26 = .ok (.invokevirtual 93, 3) := dk_182 0 93 (dk_at dksX2_turn_1 3 rfl rfl)
theorem dX2_turn_29 : decode cX2_turn 29 = .ok (.aload_n 0, 1) := dk_42 (dk_at dksX2_turn_1 6 rfl rfl)
theorem dX2_turn_30 : decode cX2_turn 30 = .ok (.iload_n 1, 1) := dk_27 (dk_at dksX2_turn_1 7 rfl rfl)
theorem dX2_turn_31 : decode cX2_turn 31 = .ok (.iconst 2, 1) := dk_5 (dk_at dksX2_turn_1 8 rfl rfl)
theorem dX2_turn_32 : decode cX2_turn 32 = .ok (.invokevirtual 55, 3) := dk_182 0 55 (dk_at dksX2_turn_1 9 rfl rfl)
theorem dX2_turn_35 : decode cX2_turn 35 = .ok (.ireturn, 1) := dk_172 (dk_at dksX2_turn_1 12 rfl rfl)
abbrev cX2_turned : ByteArray := prog_7_method_34_code
def yX2_turned : MethodName := ⟨RX2, "turned", "(I)I"⟩
def dkwX2_turned_0 : List UInt8 := [26, 4, 120, 26, 6, 122, 128, 16, 15, 126, 172]
abbrev dktX2_turned_0 : List UInt8 := dkwX2_turned_0 ++ []
theorem dksX2_turned_0 : cX2_turned.data.toList.drop 0 = dktX2_turned_0 := by decide +kernel
theorem dX2_turned_0 : decode cX2_turned 0 = .ok (.iload_n 0, 1) := dk_26 (dk_at dksX2_turned_0 0 rfl rfl)
theorem dX2_turned_1 : decode cX2_turned 1 = .ok (.iconst 1, 1) := dk_4 (dk_at dksX2_turned_0 1 rfl rfl)
theorem dX2_turned_2 : decode cX2_turned 2 = .ok (.ishl, 1) := dk_120 (dk_at dksX2_turned_0 2 rfl rfl)
theorem dX2_turned_3 : decode cX2_turned 3 = .ok (.iload_n 0, 1) := dk_26 (dk_at dksX2_turned_0 3 rfl rfl)
theorem dX2_turned_4 : decode cX2_turned 4 = .ok (.iconst 3, 1) := dk_6 (dk_at dksX2_turned_0 4 rfl rfl)
theorem dX2_turned_5 : decode cX2_turned 5 = .ok (.ishr, 1) := dk_122 (dk_at dksX2_turned_0 5 rfl rfl)
theorem dX2_turned_6 : decode cX2_turned 6 = .ok (.ior, 1) := dk_128 (dk_at dksX2_turned_0 6 rfl rfl)
theorem dX2_turned_7 : decode cX2_turned 7 = .ok (.bipush 15, 2) := dk_16 15 (dk_at dksX2_turned_0 7 rfl rfl)
theorem dX2_turned_9 : decode cX2_turned 9 = .ok (.iand, 1) := dk_126 (dk_at dksX2_turned_0 9 rfl rfl)
theorem dX2_turned_10 : decode cX2_turned 10 = .ok (.ireturn, 1) := dk_172 (dk_at dksX2_turned_0 10 rfl rfl)
abbrev cX2_breakUp : ByteArray := prog_7_method_36_code
def yX2_breakUp : MethodName := ⟨RX2, "breakUp", "(I)I"⟩
def dkwX2_breakUp_6 : List UInt8 := [16, 10, 42, 180, 0, 7, 3, 46, 96, 172]
abbrev dktX2_breakUp_6 : List UInt8 := dkwX2_breakUp_6 ++ []
def dkwX2_breakUp_5 : List UInt8 := [182, 0, 55, 4, 100, 167, 0, 10, 42, 29, 16, 7, 182, 0, 55, 182, 0, 93, 132, 3, 1, 167, 255, 204]
abbrev dktX2_breakUp_5 : List UInt8 := dkwX2_breakUp_5 ++ dktX2_breakUp_6
def dkwX2_breakUp_4 : List UInt8 := [162, 0, 48, 42, 29, 16, 7, 42, 29, 16, 7, 182, 0, 55, 27, 4, 96, 164, 0, 15, 42, 29, 16, 7]
abbrev dktX2_breakUp_4 : List UInt8 := dkwX2_breakUp_4 ++ dktX2_breakUp_5
def dkwX2_breakUp_3 : List UInt8 := [16, 9, 96, 46, 167, 0, 4, 3, 79, 132, 3, 1, 167, 255, 219, 3, 62, 29, 42, 180, 0, 7, 3, 46]
abbrev dktX2_breakUp_3 : List UInt8 := dkwX2_breakUp_3 ++ dktX2_breakUp_4
def dkwX2_breakUp_2 : List UInt8 := [16, 110, 162, 0, 37, 42, 180, 0, 7, 29, 29, 16, 9, 96, 16, 110, 162, 0, 15, 42, 180, 0, 7, 29]
abbrev dktX2_breakUp_2 : List UInt8 := dkwX2_breakUp_2 ++ dktX2_breakUp_3
def dkwX2_breakUp_1 : List UInt8 := [42, 28, 182, 0, 114, 172, 42, 180, 0, 7, 3, 92, 46, 4, 100, 79, 5, 16, 9, 27, 104, 96, 62, 29]
abbrev dktX2_breakUp_1 : List UInt8 := dkwX2_breakUp_1 ++ dktX2_breakUp_2
def dkwX2_breakUp_0 : List UInt8 := [42, 27, 182, 0, 108, 154, 0, 5, 2, 172, 42, 182, 0, 101, 42, 27, 182, 0, 123, 61, 28, 158, 0, 9]
abbrev dktX2_breakUp_0 : List UInt8 := dkwX2_breakUp_0 ++ dktX2_breakUp_1
theorem dksX2_breakUp_0 : cX2_breakUp.data.toList.drop 0 = dktX2_breakUp_0 := by decide +kernel
theorem dksX2_breakUp_1 : cX2_breakUp.data.toList.drop 24 = dktX2_breakUp_1 := dk_seg dksX2_breakUp_0 24 rfl rfl
theorem dksX2_breakUp_2 : cX2_breakUp.data.toList.drop 48 = dktX2_breakUp_2 := dk_seg dksX2_breakUp_1 24 rfl rfl
theorem dksX2_breakUp_3 : cX2_breakUp.data.toList.drop 72 = dktX2_breakUp_3 := dk_seg dksX2_breakUp_2 24 rfl rfl
theorem dksX2_breakUp_4 : cX2_breakUp.data.toList.drop 96 = dktX2_breakUp_4 := dk_seg dksX2_breakUp_3 24 rfl rfl
theorem dksX2_breakUp_5 : cX2_breakUp.data.toList.drop 120 = dktX2_breakUp_5 := dk_seg dksX2_breakUp_4 24 rfl rfl
theorem dksX2_breakUp_6 : cX2_breakUp.data.toList.drop 144 = dktX2_breakUp_6 := dk_seg dksX2_breakUp_5 24 rfl rfl
theorem dX2_breakUp_0 : decode cX2_breakUp 0 = .ok (.aload_n 0, 1) := dk_42 (dk_at dksX2_breakUp_0 0 rfl rfl)
theorem dX2_breakUp_1 : decode cX2_breakUp 1 = .ok (.iload_n 1, 1) := dk_27 (dk_at dksX2_breakUp_0 1 rfl rfl)
theorem dX2_breakUp_2 : decode cX2_breakUp 2 = .ok (.invokevirtual 108, 3) := dk_182 0 108 (dk_at dksX2_breakUp_0 2 rfl rfl)
theorem dX2_breakUp_5 : decode cX2_breakUp 5 = .ok (.ifCond .ne 5, 3) := dk_154 0 5 (dk_at dksX2_breakUp_0 5 rfl rfl)
theorem dX2_breakUp_8 : decode cX2_breakUp 8 = .ok (.iconst (-1), 1) := dk_2 (dk_at dksX2_breakUp_0 8 rfl rfl)
theorem dX2_breakUp_9 : decode cX2_breakUp 9 = .ok (.ireturn, 1) := dk_172 (dk_at dksX2_breakUp_0 9 rfl rfl)
theorem dX2_breakUp_10 : decode cX2_breakUp 10 = .ok (.aload_n 0, 1) := dk_42 (dk_at dksX2_breakUp_0 10 rfl rfl)
theorem dX2_breakUp_11 : decode cX2_breakUp 11 = .ok (.invokevirtual 101, 3) := dk_182 0 101 (dk_at dksX2_breakUp_0 11 rfl rfl)
theorem dX2_breakUp_14 : decode cX2_breakUp 14 = .ok (.aload_n 0, 1) := dk_42 (dk_at dksX2_breakUp_0 14 rfl rfl)
theorem dX2_breakUp_15 : decode cX2_breakUp 15 = .ok (.iload_n 1, 1) := dk_27 (dk_at dksX2_breakUp_0 15 rfl rfl)
theorem dX2_breakUp_16 : decode cX2_breakUp 16 = .ok (.invokevirtual 123, 3) := dk_182 0 123 (dk_at dksX2_breakUp_0 16 rfl rfl)
theorem dX2_breakUp_19 : decode cX2_breakUp 19 = .ok (.istore_n 2, 1) := dk_61 (dk_at dksX2_breakUp_0 19 rfl rfl)
theorem dX2_breakUp_20 : decode cX2_breakUp 20 = .ok (.iload_n 2, 1) := dk_28 (dk_at dksX2_breakUp_0 20 rfl rfl)
theorem dX2_breakUp_21 : decode cX2_breakUp 21 = .ok (.ifCond .le 9, 3) := dk_158 0 9 (dk_at dksX2_breakUp_0 21 rfl rfl)
theorem dX2_breakUp_24 : decode cX2_breakUp 24 = .ok (.aload_n 0, 1) := dk_42 (dk_at dksX2_breakUp_1 0 rfl rfl)
theorem dX2_breakUp_25 : decode cX2_breakUp 25 = .ok (.iload_n 2, 1) := dk_28 (dk_at dksX2_breakUp_1 1 rfl rfl)
theorem dX2_breakUp_26 : decode cX2_breakUp 26 = .ok (.invokevirtual 114, 3) := dk_182 0 114 (dk_at dksX2_breakUp_1 2 rfl rfl)
theorem dX2_breakUp_29 : decode cX2_breakUp 29 = .ok (.ireturn, 1) := dk_172 (dk_at dksX2_breakUp_1 5 rfl rfl)
theorem dX2_breakUp_30 : decode cX2_breakUp 30 = .ok (.aload_n 0, 1) := dk_42 (dk_at dksX2_breakUp_1 6 rfl rfl)
theorem dX2_breakUp_31 : decode cX2_breakUp 31 = .ok (.getfield 7, 3) := dk_180 0 7 (dk_at dksX2_breakUp_1 7 rfl rfl)
theorem dX2_breakUp_34 : decode cX2_breakUp 34 = .ok (.iconst 0, 1) := dk_3 (dk_at dksX2_breakUp_1 10 rfl rfl)
theorem dX2_breakUp_35 : decode cX2_breakUp 35 = .ok (.dup2, 1) := dk_92 (dk_at dksX2_breakUp_1 11 rfl rfl)
theorem dX2_breakUp_36 : decode cX2_breakUp 36 = .ok (.iaload, 1) := dk_46 (dk_at dksX2_breakUp_1 12 rfl rfl)
theorem dX2_breakUp_37 : decode cX2_breakUp 37 = .ok (.iconst 1, 1) := dk_4 (dk_at dksX2_breakUp_1 13 rfl rfl)
theorem dX2_breakUp_38 : decode cX2_breakUp 38 = .ok (.isub, 1) := dk_100 (dk_at dksX2_breakUp_1 14 rfl rfl)
theorem dX2_breakUp_39 : decode cX2_breakUp 39 = .ok (.iastore, 1) := dk_79 (dk_at dksX2_breakUp_1 15 rfl rfl)
theorem dX2_breakUp_40 : decode cX2_breakUp 40 = .ok (.iconst 2, 1) := dk_5 (dk_at dksX2_breakUp_1 16 rfl rfl)
theorem dX2_breakUp_41 : decode cX2_breakUp 41 = .ok (.bipush 9, 2) := dk_16 9 (dk_at dksX2_breakUp_1 17 rfl rfl)
theorem dX2_breakUp_43 : decode cX2_breakUp 43 = .ok (.iload_n 1, 1) := dk_27 (dk_at dksX2_breakUp_1 19 rfl rfl)
theorem dX2_breakUp_44 : decode cX2_breakUp 44 = .ok (.imul, 1) := dk_104 (dk_at dksX2_breakUp_1 20 rfl rfl)
theorem dX2_breakUp_45 : decode cX2_breakUp 45 = .ok (.iadd, 1) := dk_96 (dk_at dksX2_breakUp_1 21 rfl rfl)
theorem dX2_breakUp_46 : decode cX2_breakUp 46 = .ok (.istore_n 3, 1) := dk_62 (dk_at dksX2_breakUp_1 22 rfl rfl)
theorem dX2_breakUp_47 : decode cX2_breakUp 47 = .ok (.iload_n 3, 1) := dk_29 (dk_at dksX2_breakUp_1 23 rfl rfl)
theorem dX2_breakUp_48 : decode cX2_breakUp 48 = .ok (.bipush 110, 2) := dk_16 110 (dk_at dksX2_breakUp_2 0 rfl rfl)
theorem dX2_breakUp_50 : decode cX2_breakUp 50 = .ok (.if_icmp .ge 37, 3) := dk_162 0 37 (dk_at dksX2_breakUp_2 2 rfl rfl)
theorem dX2_breakUp_53 : decode cX2_breakUp 53 = .ok (.aload_n 0, 1) := dk_42 (dk_at dksX2_breakUp_2 5 rfl rfl)
theorem dX2_breakUp_54 : decode cX2_breakUp 54 = .ok (.getfield 7, 3) := dk_180 0 7 (dk_at dksX2_breakUp_2 6 rfl rfl)
theorem dX2_breakUp_57 : decode cX2_breakUp 57 = .ok (.iload_n 3, 1) := dk_29 (dk_at dksX2_breakUp_2 9 rfl rfl)
theorem dX2_breakUp_58 : decode cX2_breakUp 58 = .ok (.iload_n 3, 1) := dk_29 (dk_at dksX2_breakUp_2 10 rfl rfl)
theorem dX2_breakUp_59 : decode cX2_breakUp 59 = .ok (.bipush 9, 2) := dk_16 9 (dk_at dksX2_breakUp_2 11 rfl rfl)
theorem dX2_breakUp_61 : decode cX2_breakUp 61 = .ok (.iadd, 1) := dk_96 (dk_at dksX2_breakUp_2 13 rfl rfl)
theorem dX2_breakUp_62 : decode cX2_breakUp 62 = .ok (.bipush 110, 2) := dk_16 110 (dk_at dksX2_breakUp_2 14 rfl rfl)
theorem dX2_breakUp_64 : decode cX2_breakUp 64 = .ok (.if_icmp .ge 15, 3) := dk_162 0 15 (dk_at dksX2_breakUp_2 16 rfl rfl)
theorem dX2_breakUp_67 : decode cX2_breakUp 67 = .ok (.aload_n 0, 1) := dk_42 (dk_at dksX2_breakUp_2 19 rfl rfl)
theorem dX2_breakUp_68 : decode cX2_breakUp 68 = .ok (.getfield 7, 3) := dk_180 0 7 (dk_at dksX2_breakUp_2 20 rfl rfl)
theorem dX2_breakUp_71 : decode cX2_breakUp 71 = .ok (.iload_n 3, 1) := dk_29 (dk_at dksX2_breakUp_2 23 rfl rfl)
theorem dX2_breakUp_72 : decode cX2_breakUp 72 = .ok (.bipush 9, 2) := dk_16 9 (dk_at dksX2_breakUp_3 0 rfl rfl)
theorem dX2_breakUp_74 : decode cX2_breakUp 74 = .ok (.iadd, 1) := dk_96 (dk_at dksX2_breakUp_3 2 rfl rfl)
theorem dX2_breakUp_75 : decode cX2_breakUp 75 = .ok (.iaload, 1) := dk_46 (dk_at dksX2_breakUp_3 3 rfl rfl)
theorem dX2_breakUp_76 : decode cX2_breakUp 76 = .ok (.goto 4, 3) := dk_167 0 4 (dk_at dksX2_breakUp_3 4 rfl rfl)
theorem dX2_breakUp_79 : decode cX2_breakUp 79 = .ok (.iconst 0, 1) := dk_3 (dk_at dksX2_breakUp_3 7 rfl rfl)
theorem dX2_breakUp_80 : decode cX2_breakUp 80 = .ok (.iastore, 1) := dk_79 (dk_at dksX2_breakUp_3 8 rfl rfl)
theorem dX2_breakUp_81 : decode cX2_breakUp 81 = .ok (.iinc 3 1, 3) := dk_132 3 1 (dk_at dksX2_breakUp_3 9 rfl rfl)
theorem dX2_breakUp_84 : decode cX2_breakUp 84 = .ok (.goto (-37), 3) := dk_167 255 219 (dk_at dksX2_breakUp_3 12 rfl rfl)
theorem dX2_breakUp_87 : decode cX2_breakUp 87 = .ok (.iconst 0, 1) := dk_3 (dk_at dksX2_breakUp_3 15 rfl rfl)
theorem dX2_breakUp_88 : decode cX2_breakUp 88 = .ok (.istore_n 3, 1) := dk_62 (dk_at dksX2_breakUp_3 16 rfl rfl)
theorem dX2_breakUp_89 : decode cX2_breakUp 89 = .ok (.iload_n 3, 1) := dk_29 (dk_at dksX2_breakUp_3 17 rfl rfl)
theorem dX2_breakUp_90 : decode cX2_breakUp 90 = .ok (.aload_n 0, 1) := dk_42 (dk_at dksX2_breakUp_3 18 rfl rfl)
theorem dX2_breakUp_91 : decode cX2_breakUp 91 = .ok (.getfield 7, 3) := dk_180 0 7 (dk_at dksX2_breakUp_3 19 rfl rfl)
theorem dX2_breakUp_94 : decode cX2_breakUp 94 = .ok (.iconst 0, 1) := dk_3 (dk_at dksX2_breakUp_3 22 rfl rfl)
theorem dX2_breakUp_95 : decode cX2_breakUp 95 = .ok (.iaload, 1) := dk_46 (dk_at dksX2_breakUp_3 23 rfl rfl)
theorem dX2_breakUp_96 : decode cX2_breakUp 96 = .ok (.if_icmp .ge 48, 3) := dk_162 0 48 (dk_at dksX2_breakUp_4 0 rfl rfl)
theorem dX2_breakUp_99 : decode cX2_breakUp 99 = .ok (.aload_n 0, 1) := dk_42 (dk_at dksX2_breakUp_4 3 rfl rfl)
theorem dX2_breakUp_100 : decode cX2_breakUp 100 = .ok (.iload_n 3, 1) := dk_29 (dk_at dksX2_breakUp_4 4 rfl rfl)
theorem dX2_breakUp_101 : decode cX2_breakUp 101 = .ok (.bipush 7, 2) := dk_16 7 (dk_at dksX2_breakUp_4 5 rfl rfl)
theorem dX2_breakUp_103 : decode cX2_breakUp 103 = .ok (.aload_n 0, 1) := dk_42 (dk_at dksX2_breakUp_4 7 rfl rfl)
theorem dX2_breakUp_104 : decode cX2_breakUp 104 = .ok (.iload_n 3, 1) := dk_29 (dk_at dksX2_breakUp_4 8 rfl rfl)
theorem dX2_breakUp_105 : decode cX2_breakUp 105 = .ok (.bipush 7, 2) := dk_16 7 (dk_at dksX2_breakUp_4 9 rfl rfl)
theorem dX2_breakUp_107 : decode cX2_breakUp 107 = .ok (.invokevirtual 55, 3) := dk_182 0 55 (dk_at dksX2_breakUp_4 11 rfl rfl)
theorem dX2_breakUp_110 : decode cX2_breakUp 110 = .ok (.iload_n 1, 1) := dk_27 (dk_at dksX2_breakUp_4 14 rfl rfl)
theorem dX2_breakUp_111 : decode cX2_breakUp 111 = .ok (.iconst 1, 1) := dk_4 (dk_at dksX2_breakUp_4 15 rfl rfl)
theorem dX2_breakUp_112 : decode cX2_breakUp 112 = .ok (.iadd, 1) := dk_96 (dk_at dksX2_breakUp_4 16 rfl rfl)
theorem dX2_breakUp_113 : decode cX2_breakUp 113 = .ok (.if_icmp .le 15, 3) := dk_164 0 15 (dk_at dksX2_breakUp_4 17 rfl rfl)
theorem dX2_breakUp_116 : decode cX2_breakUp 116 = .ok (.aload_n 0, 1) := dk_42 (dk_at dksX2_breakUp_4 20 rfl rfl)
theorem dX2_breakUp_117 : decode cX2_breakUp 117 = .ok (.iload_n 3, 1) := dk_29 (dk_at dksX2_breakUp_4 21 rfl rfl)
theorem dX2_breakUp_118 : decode cX2_breakUp 118 = .ok (.bipush 7, 2) := dk_16 7 (dk_at dksX2_breakUp_4 22 rfl rfl)
theorem dX2_breakUp_120 : decode cX2_breakUp 120 = .ok (.invokevirtual 55, 3) := dk_182 0 55 (dk_at dksX2_breakUp_5 0 rfl rfl)
theorem dX2_breakUp_123 : decode cX2_breakUp 123 = .ok (.iconst 1, 1) := dk_4 (dk_at dksX2_breakUp_5 3 rfl rfl)
theorem dX2_breakUp_124 : decode cX2_breakUp 124 = .ok (.isub, 1) := dk_100 (dk_at dksX2_breakUp_5 4 rfl rfl)
theorem dX2_breakUp_125 : decode cX2_breakUp 125 = .ok (.goto 10, 3) := dk_167 0 10 (dk_at dksX2_breakUp_5 5 rfl rfl)
theorem dX2_breakUp_128 : decode cX2_breakUp 128 = .ok (.aload_n 0, 1) := dk_42 (dk_at dksX2_breakUp_5 8 rfl rfl)
theorem dX2_breakUp_129 : decode cX2_breakUp 129 = .ok (.iload_n 3, 1) := dk_29 (dk_at dksX2_breakUp_5 9 rfl rfl)
theorem dX2_breakUp_130 : decode cX2_breakUp 130 = .ok (.bipush 7, 2) := dk_16 7 (dk_at dksX2_breakUp_5 10 rfl rfl)
theorem dX2_breakUp_132 : decode cX2_breakUp 132 = .ok (.invokevirtual 55, 3) := dk_182 0 55 (dk_at dksX2_breakUp_5 12 rfl rfl)
theorem dX2_breakUp_135 : decode cX2_breakUp 135 = .ok (.invokevirtual 93, 3) := dk_182 0 93 (dk_at dksX2_breakUp_5 15 rfl rfl)
theorem dX2_breakUp_138 : decode cX2_breakUp 138 = .ok (.iinc 3 1, 3) := dk_132 3 1 (dk_at dksX2_breakUp_5 18 rfl rfl)
theorem dX2_breakUp_141 : decode cX2_breakUp 141 = .ok (.goto (-52), 3) := dk_167 255 204 (dk_at dksX2_breakUp_5 21 rfl rfl)
theorem dX2_breakUp_144 : decode cX2_breakUp 144 = .ok (.bipush 10, 2) := dk_16 10 (dk_at dksX2_breakUp_6 0 rfl rfl)
theorem dX2_breakUp_146 : decode cX2_breakUp 146 = .ok (.aload_n 0, 1) := dk_42 (dk_at dksX2_breakUp_6 2 rfl rfl)
theorem dX2_breakUp_147 : decode cX2_breakUp 147 = .ok (.getfield 7, 3) := dk_180 0 7 (dk_at dksX2_breakUp_6 3 rfl rfl)
theorem dX2_breakUp_150 : decode cX2_breakUp 150 = .ok (.iconst 0, 1) := dk_3 (dk_at dksX2_breakUp_6 6 rfl rfl)
theorem dX2_breakUp_151 : decode cX2_breakUp 151 = .ok (.iaload, 1) := dk_46 (dk_at dksX2_breakUp_6 7 rfl rfl)
theorem dX2_breakUp_152 : decode cX2_breakUp 152 = .ok (.iadd, 1) := dk_96 (dk_at dksX2_breakUp_6 8 rfl rfl)
theorem dX2_breakUp_153 : decode cX2_breakUp 153 = .ok (.ireturn, 1) := dk_172 (dk_at dksX2_breakUp_6 9 rfl rfl)
abbrev cX2_reasonBreak : ByteArray := prog_7_method_27_code
def yX2_reasonBreak : MethodName := ⟨RX2, "reasonBreak", "(I)I"⟩
def dkwX2_reasonBreak_1 : List UInt8 := [3, 172]
abbrev dktX2_reasonBreak_1 : List UInt8 := dkwX2_reasonBreak_1 ++ []
def dkwX2_reasonBreak_0 : List UInt8 := [42, 27, 182, 0, 86, 154, 0, 7, 4, 167, 0, 16, 42, 27, 182, 0, 67, 158, 0, 7, 8, 167, 0, 4]
abbrev dktX2_reasonBreak_0 : List UInt8 := dkwX2_reasonBreak_0 ++ dktX2_reasonBreak_1
theorem dksX2_reasonBreak_0 : cX2_reasonBreak.data.toList.drop 0 = dktX2_reasonBreak_0 := by decide +kernel
theorem dksX2_reasonBreak_1 : cX2_reasonBreak.data.toList.drop 24 = dktX2_reasonBreak_1 := dk_seg dksX2_reasonBreak_0 24 rfl rfl
theorem dX2_reasonBreak_0 : decode cX2_reasonBreak 0 = .ok (.aload_n 0, 1) := dk_42 (dk_at dksX2_reasonBreak_0 0 rfl rfl)
theorem dX2_reasonBreak_1 : decode cX2_reasonBreak 1 = .ok (.iload_n 1, 1) := dk_27 (dk_at dksX2_reasonBreak_0 1 rfl rfl)
theorem dX2_reasonBreak_2 : decode cX2_reasonBreak 2 = .ok (.invokevirtual 86, 3) := dk_182 0 86 (dk_at dksX2_reasonBreak_0 2 rfl rfl)
theorem dX2_reasonBreak_5 : decode cX2_reasonBreak 5 = .ok (.ifCond .ne 7, 3) := dk_154 0 7 (dk_at dksX2_reasonBreak_0 5 rfl rfl)
theorem dX2_reasonBreak_8 : decode cX2_reasonBreak 8 = .ok (.iconst 1, 1) := dk_4 (dk_at dksX2_reasonBreak_0 8 rfl rfl)
theorem dX2_reasonBreak_9 : decode cX2_reasonBreak 9 = .ok (.goto 16, 3) := dk_167 0 16 (dk_at dksX2_reasonBreak_0 9 rfl rfl)
theorem dX2_reasonBreak_12 : decode cX2_reasonBreak 12 = .ok (.aload_n 0, 1) := dk_42 (dk_at dksX2_reasonBreak_0 12 rfl rfl)
theorem dX2_reasonBreak_13 : decode cX2_reasonBreak 13 = .ok (.iload_n 1, 1) := dk_27 (dk_at dksX2_reasonBreak_0 13 rfl rfl)
theorem dX2_reasonBreak_14 : decode cX2_reasonBreak 14 = .ok (.invokevirtual 67, 3) := dk_182 0 67 (dk_at dksX2_reasonBreak_0 14 rfl rfl)
theorem dX2_reasonBreak_17 : decode cX2_reasonBreak 17 = .ok (.ifCond .le 7, 3) := dk_158 0 7 (dk_at dksX2_reasonBreak_0 17 rfl rfl)
theorem dX2_reasonBreak_20 : decode cX2_reasonBreak 20 = .ok (.iconst 5, 1) := dk_8 (dk_at dksX2_reasonBreak_0 20 rfl rfl)
theorem dX2_reasonBreak_21 : decode cX2_reasonBreak 21 = .ok (.goto 4, 3) := dk_167 0 4 (dk_at dksX2_reasonBreak_0 21 rfl rfl)
theorem dX2_reasonBreak_24 : decode cX2_reasonBreak 24 = .ok (.iconst 0, 1) := dk_3 (dk_at dksX2_reasonBreak_1 0 rfl rfl)
theorem dX2_reasonBreak_25 : decode cX2_reasonBreak 25 = .ok (.ireturn, 1) := dk_172 (dk_at dksX2_reasonBreak_1 1 rfl rfl)
abbrev cX2_append : ByteArray := prog_7_method_37_code
def yX2_append : MethodName := ⟨RX2, "append", "(I)I"⟩
def dkwX2_append_2 : List UInt8 := [180, 0, 126, 172]
abbrev dktX2_append_2 : List UInt8 := dkwX2_append_2 ++ []
def dkwX2_append_1 : List UInt8 := [172, 42, 180, 0, 22, 42, 180, 0, 126, 27, 79, 42, 89, 180, 0, 126, 4, 96, 181, 0, 126, 42]
abbrev dktX2_append_1 : List UInt8 := dkwX2_append_1 ++ dktX2_append_2
def dkwX2_append_0 : List UInt8 := [27, 16, 33, 16, 126, 184, 0, 51, 154, 0, 5, 2, 172, 42, 180, 0, 126, 16, 80, 160, 0, 6, 16, 253]
abbrev dktX2_append_0 : List UInt8 := dkwX2_append_0 ++ dktX2_append_1
theorem dksX2_append_0 : cX2_append.data.toList.drop 0 = dktX2_append_0 := by decide +kernel
theorem dksX2_append_1 : cX2_append.data.toList.drop 24 = dktX2_append_1 := dk_seg dksX2_append_0 24 rfl rfl
theorem dksX2_append_2 : cX2_append.data.toList.drop 46 = dktX2_append_2 := dk_seg dksX2_append_1 22 rfl rfl
theorem dX2_append_0 : decode cX2_append 0 = .ok (.iload_n 1, 1) := dk_27 (dk_at dksX2_append_0 0 rfl rfl)
theorem dX2_append_1 : decode cX2_append 1 = .ok (.bipush 33, 2) := dk_16 33 (dk_at dksX2_append_0 1 rfl rfl)
theorem dX2_append_3 : decode cX2_append 3 = .ok (.bipush 126, 2) := dk_16 126 (dk_at dksX2_append_0 3 rfl rfl)
theorem dX2_append_5 : decode cX2_append 5 = .ok (.invokestatic 51, 3) := dk_184 0 51 (dk_at dksX2_append_0 5 rfl rfl)
theorem dX2_append_8 : decode cX2_append 8 = .ok (.ifCond .ne 5, 3) := dk_154 0 5 (dk_at dksX2_append_0 8 rfl rfl)
theorem dX2_append_11 : decode cX2_append 11 = .ok (.iconst (-1), 1) := dk_2 (dk_at dksX2_append_0 11 rfl rfl)
theorem dX2_append_12 : decode cX2_append 12 = .ok (.ireturn, 1) := dk_172 (dk_at dksX2_append_0 12 rfl rfl)
theorem dX2_append_13 : decode cX2_append 13 = .ok (.aload_n 0, 1) := dk_42 (dk_at dksX2_append_0 13 rfl rfl)
theorem dX2_append_14 : decode cX2_append 14 = .ok (.getfield 126, 3) := dk_180 0 126 (dk_at dksX2_append_0 14 rfl rfl)
theorem dX2_append_17 : decode cX2_append 17 = .ok (.bipush 80, 2) := dk_16 80 (dk_at dksX2_append_0 17 rfl rfl)
theorem dX2_append_19 : decode cX2_append 19 = .ok (.if_icmp .ne 6, 3) := dk_160 0 6 (dk_at dksX2_append_0 19 rfl rfl)
theorem dX2_append_22 : decode cX2_append 22 = .ok (.bipush (-3), 2) := dk_16 253 (dk_at dksX2_append_0 22 rfl rfl)
theorem dX2_append_24 : decode cX2_append 24 = .ok (.ireturn, 1) := dk_172 (dk_at dksX2_append_1 0 rfl rfl)
theorem dX2_append_25 : decode cX2_append 25 = .ok (.aload_n 0, 1) := dk_42 (dk_at dksX2_append_1 1 rfl rfl)
theorem dX2_append_26 : decode cX2_append 26 = .ok (.getfield 22, 3) := dk_180 0 22 (dk_at dksX2_append_1 2 rfl rfl)
theorem dX2_append_29 : decode cX2_append 29 = .ok (.aload_n 0, 1) := dk_42 (dk_at dksX2_append_1 5 rfl rfl)
theorem dX2_append_30 : decode cX2_append 30 = .ok (.getfield 126, 3) := dk_180 0 126 (dk_at dksX2_append_1 6 rfl rfl)
theorem dX2_append_33 : decode cX2_append 33 = .ok (.iload_n 1, 1) := dk_27 (dk_at dksX2_append_1 9 rfl rfl)
theorem dX2_append_34 : decode cX2_append 34 = .ok (.iastore, 1) := dk_79 (dk_at dksX2_append_1 10 rfl rfl)
theorem dX2_append_35 : decode cX2_append 35 = .ok (.aload_n 0, 1) := dk_42 (dk_at dksX2_append_1 11 rfl rfl)
theorem dX2_append_36 : decode cX2_append 36 = .ok (.dup, 1) := dk_89 (dk_at dksX2_append_1 12 rfl rfl)
theorem dX2_append_37 : decode cX2_append 37 = .ok (.getfield 126, 3) := dk_180 0 126 (dk_at dksX2_append_1 13 rfl rfl)
theorem dX2_append_40 : decode cX2_append 40 = .ok (.iconst 1, 1) := dk_4 (dk_at dksX2_append_1 16 rfl rfl)
theorem dX2_append_41 : decode cX2_append 41 = .ok (.iadd, 1) := dk_96 (dk_at dksX2_append_1 17 rfl rfl)
theorem dX2_append_42 : decode cX2_append 42 = .ok (.putfield 126, 3) := dk_181 0 126 (dk_at dksX2_append_1 18 rfl rfl)
theorem dX2_append_45 : decode cX2_append 45 = .ok (.aload_n 0, 1) := dk_42 (dk_at dksX2_append_1 21 rfl rfl)
theorem dX2_append_46 : decode cX2_append 46 = .ok (.getfield 126, 3) := dk_180 0 126 (dk_at dksX2_append_2 0 rfl rfl)
theorem dX2_append_49 : decode cX2_append 49 = .ok (.ireturn, 1) := dk_172 (dk_at dksX2_append_2 3 rfl rfl)
abbrev cX2_clear : ByteArray := prog_7_method_38_code
def yX2_clear : MethodName := ⟨RX2, "clear", "()I"⟩
def dkwX2_clear_0 : List UInt8 := [42, 180, 0, 126, 60, 42, 3, 181, 0, 126, 27, 172]
abbrev dktX2_clear_0 : List UInt8 := dkwX2_clear_0 ++ []
theorem dksX2_clear_0 : cX2_clear.data.toList.drop 0 = dktX2_clear_0 := by decide +kernel
theorem dX2_clear_0 : decode cX2_clear 0 = .ok (.aload_n 0, 1) := dk_42 (dk_at dksX2_clear_0 0 rfl rfl)
theorem dX2_clear_1 : decode cX2_clear 1 = .ok (.getfield 126, 3) := dk_180 0 126 (dk_at dksX2_clear_0 1 rfl rfl)
theorem dX2_clear_4 : decode cX2_clear 4 = .ok (.istore_n 1, 1) := dk_60 (dk_at dksX2_clear_0 4 rfl rfl)
theorem dX2_clear_5 : decode cX2_clear 5 = .ok (.aload_n 0, 1) := dk_42 (dk_at dksX2_clear_0 5 rfl rfl)
theorem dX2_clear_6 : decode cX2_clear 6 = .ok (.iconst 0, 1) := dk_3 (dk_at dksX2_clear_0 6 rfl rfl)
theorem dX2_clear_7 : decode cX2_clear 7 = .ok (.putfield 126, 3) := dk_181 0 126 (dk_at dksX2_clear_0 7 rfl rfl)
theorem dX2_clear_10 : decode cX2_clear 10 = .ok (.iload_n 1, 1) := dk_27 (dk_at dksX2_clear_0 10 rfl rfl)
theorem dX2_clear_11 : decode cX2_clear 11 = .ok (.ireturn, 1) := dk_172 (dk_at dksX2_clear_0 11 rfl rfl)
abbrev cX2_fault : ByteArray := prog_7_method_45_code
def yX2_fault : MethodName := ⟨RX2, "fault", "()I"⟩
def dkwX2_fault_0 : List UInt8 := [42, 182, 0, 160, 153, 0, 8, 16, 252, 167, 0, 7, 42, 180, 0, 129, 172]
abbrev dktX2_fault_0 : List UInt8 := dkwX2_fault_0 ++ []
theorem dksX2_fault_0 : cX2_fault.data.toList.drop 0 = dktX2_fault_0 := by decide +kernel
theorem dX2_fault_0 : decode cX2_fault 0 = .ok (.aload_n 0, 1) := dk_42 (dk_at dksX2_fault_0 0 rfl rfl)
theorem dX2_fault_1 : decode cX2_fault 1 = .ok (.invokevirtual 160, 3) := dk_182 0 160 (dk_at dksX2_fault_0 1 rfl rfl)
theorem dX2_fault_4 : decode cX2_fault 4 = .ok (.ifCond .eq 8, 3) := dk_153 0 8 (dk_at dksX2_fault_0 4 rfl rfl)
theorem dX2_fault_7 : decode cX2_fault 7 = .ok (.bipush (-4), 2) := dk_16 252 (dk_at dksX2_fault_0 7 rfl rfl)
theorem dX2_fault_9 : decode cX2_fault 9 = .ok (.goto 7, 3) := dk_167 0 7 (dk_at dksX2_fault_0 9 rfl rfl)
theorem dX2_fault_12 : decode cX2_fault 12 = .ok (.aload_n 0, 1) := dk_42 (dk_at dksX2_fault_0 12 rfl rfl)
theorem dX2_fault_13 : decode cX2_fault 13 = .ok (.getfield 129, 3) := dk_180 0 129 (dk_at dksX2_fault_0 13 rfl rfl)
theorem dX2_fault_16 : decode cX2_fault 16 = .ok (.ireturn, 1) := dk_172 (dk_at dksX2_fault_0 16 rfl rfl)
abbrev cX2_areNests : ByteArray := prog_7_method_44_code
def yX2_areNests : MethodName := ⟨RX2, "areNests", "()Z"⟩
def dkwX2_areNests_2 : List UInt8 := [158, 0, 10, 42, 182, 0, 157, 167, 255, 227, 42, 180, 0, 132, 172]
abbrev dktX2_areNests_2 : List UInt8 := dkwX2_areNests_2 ++ []
def dkwX2_areNests_1 : List UInt8 := [42, 180, 0, 132, 153, 0, 28, 42, 180, 0, 129, 42, 180, 0, 126, 161, 0, 10, 42, 180, 0, 147]
abbrev dktX2_areNests_1 : List UInt8 := dkwX2_areNests_1 ++ dktX2_areNests_2
def dkwX2_areNests_0 : List UInt8 := [42, 3, 181, 0, 129, 42, 4, 181, 0, 132, 42, 3, 181, 0, 144, 42, 3, 181, 0, 147, 42, 182, 0, 157]
abbrev dktX2_areNests_0 : List UInt8 := dkwX2_areNests_0 ++ dktX2_areNests_1
theorem dksX2_areNests_0 : cX2_areNests.data.toList.drop 0 = dktX2_areNests_0 := by decide +kernel
theorem dksX2_areNests_1 : cX2_areNests.data.toList.drop 24 = dktX2_areNests_1 := dk_seg dksX2_areNests_0 24 rfl rfl
theorem dksX2_areNests_2 : cX2_areNests.data.toList.drop 46 = dktX2_areNests_2 := dk_seg dksX2_areNests_1 22 rfl rfl
theorem dX2_areNests_0 : decode cX2_areNests 0 = .ok (.aload_n 0, 1) := dk_42 (dk_at dksX2_areNests_0 0 rfl rfl)
theorem dX2_areNests_1 : decode cX2_areNests 1 = .ok (.iconst 0, 1) := dk_3 (dk_at dksX2_areNests_0 1 rfl rfl)
theorem dX2_areNests_2 : decode cX2_areNests 2 = .ok (.putfield 129, 3) := dk_181 0 129 (dk_at dksX2_areNests_0 2 rfl rfl)
theorem dX2_areNests_5 : decode cX2_areNests 5 = .ok (.aload_n 0, 1) := dk_42 (dk_at dksX2_areNests_0 5 rfl rfl)
theorem dX2_areNests_6 : decode cX2_areNests 6 = .ok (.iconst 1, 1) := dk_4 (dk_at dksX2_areNests_0 6 rfl rfl)
theorem dX2_areNests_7 : decode cX2_areNests 7 = .ok (.putfield 132, 3) := dk_181 0 132 (dk_at dksX2_areNests_0 7 rfl rfl)
theorem dX2_areNests_10 : decode cX2_areNests 10 = .ok (.aload_n 0, 1) := dk_42 (dk_at dksX2_areNests_0 10 rfl rfl)
theorem dX2_areNests_11 : decode cX2_areNests 11 = .ok (.iconst 0, 1) := dk_3 (dk_at dksX2_areNests_0 11 rfl rfl)
theorem dX2_areNests_12 : decode cX2_areNests 12 = .ok (.putfield 144, 3) := dk_181 0 144 (dk_at dksX2_areNests_0 12 rfl rfl)
theorem dX2_areNests_15 : decode cX2_areNests 15 = .ok (.aload_n 0, 1) := dk_42 (dk_at dksX2_areNests_0 15 rfl rfl)
theorem dX2_areNests_16 : decode cX2_areNests 16 = .ok (.iconst 0, 1) := dk_3 (dk_at dksX2_areNests_0 16 rfl rfl)
theorem dX2_areNests_17 : decode cX2_areNests 17 = .ok (.putfield 147, 3) := dk_181 0 147 (dk_at dksX2_areNests_0 17 rfl rfl)
theorem dX2_areNests_20 : decode cX2_areNests 20 = .ok (.aload_n 0, 1) := dk_42 (dk_at dksX2_areNests_0 20 rfl rfl)
theorem dX2_areNests_21 : decode cX2_areNests 21 = .ok (.invokevirtual 157, 3) := dk_182 0 157 (dk_at dksX2_areNests_0 21 rfl rfl)
theorem dX2_areNests_24 : decode cX2_areNests 24 = .ok (.aload_n 0, 1) := dk_42 (dk_at dksX2_areNests_1 0 rfl rfl)
theorem dX2_areNests_25 : decode cX2_areNests 25 = .ok (.getfield 132, 3) := dk_180 0 132 (dk_at dksX2_areNests_1 1 rfl rfl)
theorem dX2_areNests_28 : decode cX2_areNests 28 = .ok (.ifCond .eq 28, 3) := dk_153 0 28 (dk_at dksX2_areNests_1 4 rfl rfl)
theorem dX2_areNests_31 : decode cX2_areNests 31 = .ok (.aload_n 0, 1) := dk_42 (dk_at dksX2_areNests_1 7 rfl rfl)
theorem dX2_areNests_32 : decode cX2_areNests 32 = .ok (.getfield 129, 3) := dk_180 0 129 (dk_at dksX2_areNests_1 8 rfl rfl)
theorem dX2_areNests_35 : decode cX2_areNests 35 = .ok (.aload_n 0, 1) := dk_42 (dk_at dksX2_areNests_1 11 rfl rfl)
theorem dX2_areNests_36 : decode cX2_areNests 36 = .ok (.getfield 126, 3) := dk_180 0 126 (dk_at dksX2_areNests_1 12 rfl rfl)
theorem dX2_areNests_39 : decode cX2_areNests 39 = .ok (.if_icmp .lt 10, 3) := dk_161 0 10 (dk_at dksX2_areNests_1 15 rfl rfl)
theorem dX2_areNests_42 : decode cX2_areNests 42 = .ok (.aload_n 0, 1) := dk_42 (dk_at dksX2_areNests_1 18 rfl rfl)
theorem dX2_areNests_43 : decode cX2_areNests 43 = .ok (.getfield 147, 3) := dk_180 0 147 (dk_at dksX2_areNests_1 19 rfl rfl)
theorem dX2_areNests_46 : decode cX2_areNests 46 = .ok (.ifCond .le 10, 3) := dk_158 0 10 (dk_at dksX2_areNests_2 0 rfl rfl)
theorem dX2_areNests_49 : decode cX2_areNests 49 = .ok (.aload_n 0, 1) := dk_42 (dk_at dksX2_areNests_2 3 rfl rfl)
theorem dX2_areNests_50 : decode cX2_areNests 50 = .ok (.invokevirtual 157, 3) := dk_182 0 157 (dk_at dksX2_areNests_2 4 rfl rfl)
theorem dX2_areNests_53 : decode cX2_areNests 53 = .ok (.goto (-29), 3) := dk_167 255 227 (dk_at dksX2_areNests_2 7 rfl rfl)
theorem dX2_areNests_56 : decode cX2_areNests 56 = .ok (.aload_n 0, 1) := dk_42 (dk_at dksX2_areNests_2 10 rfl rfl)
theorem dX2_areNests_57 : decode cX2_areNests 57 = .ok (.getfield 132, 3) := dk_180 0 132 (dk_at dksX2_areNests_2 11 rfl rfl)
theorem dX2_areNests_60 : decode cX2_areNests 60 = .ok (.ireturn, 1) := dk_172 (dk_at dksX2_areNests_2 14 rfl rfl)
abbrev cX2_takesCrate : ByteArray := prog_7_method_43_code
def yX2_takesCrate : MethodName := ⟨RX2, "takesCrate", "()V"⟩
def dkwX2_takesCrate_15 : List UInt8 := [181, 0, 147, 167, 255, 213, 177]
abbrev dktX2_takesCrate_15 : List UInt8 := dkwX2_takesCrate_15 ++ []
def dkwX2_takesCrate_14 : List UInt8 := [16, 93, 160, 0, 26, 42, 89, 180, 0, 129, 4, 96, 181, 0, 129, 42, 89, 180, 0, 147, 4, 100]
abbrev dktX2_takesCrate_14 : List UInt8 := dkwX2_takesCrate_14 ++ dktX2_takesCrate_15
def dkwX2_takesCrate_13 : List UInt8 := [96, 181, 0, 147, 177, 42, 180, 0, 132, 153, 0, 42, 42, 180, 0, 147, 158, 0, 35, 42, 182, 0, 136]
abbrev dktX2_takesCrate_13 : List UInt8 := dkwX2_takesCrate_13 ++ dktX2_takesCrate_14
def dkwX2_takesCrate_12 : List UInt8 := [181, 0, 129, 42, 180, 0, 28, 42, 180, 0, 147, 42, 180, 0, 144, 4, 100, 79, 42, 89, 180, 0, 147, 4]
abbrev dktX2_takesCrate_12 : List UInt8 := dkwX2_takesCrate_12 ++ dktX2_takesCrate_13
def dkwX2_takesCrate_11 : List UInt8 := [180, 0, 132, 153, 0, 48, 42, 182, 0, 136, 16, 91, 160, 0, 39, 42, 89, 180, 0, 129, 4, 96]
abbrev dktX2_takesCrate_11 : List UInt8 := dkwX2_takesCrate_11 ++ dktX2_takesCrate_12
def dkwX2_takesCrate_10 : List UInt8 := [180, 0, 25, 27, 16, 7, 96, 28, 4, 96, 79, 42, 89, 180, 0, 144, 4, 96, 181, 0, 144, 42]
abbrev dktX2_takesCrate_10 : List UInt8 := dkwX2_takesCrate_10 ++ dktX2_takesCrate_11
def dkwX2_takesCrate_9 : List UInt8 := [180, 0, 25, 27, 16, 8, 96, 28, 156, 0, 7, 3, 167, 0, 8, 42, 28, 182, 0, 154, 79, 42]
abbrev dktX2_takesCrate_9 : List UInt8 := dkwX2_takesCrate_9 ++ dktX2_takesCrate_10
def dkwX2_takesCrate_8 : List UInt8 := [182, 0, 150, 79, 42, 180, 0, 25, 27, 5, 96, 42, 16, 103, 3, 16, 15, 182, 0, 150, 79, 42]
abbrev dktX2_takesCrate_8 : List UInt8 := dkwX2_takesCrate_8 ++ dktX2_takesCrate_9
def dkwX2_takesCrate_7 : List UInt8 := [16, 115, 4, 16, 60, 182, 0, 150, 79, 42, 180, 0, 25, 27, 4, 96, 42, 16, 114, 3, 16, 59]
abbrev dktX2_takesCrate_7 : List UInt8 := dkwX2_takesCrate_7 ++ dktX2_takesCrate_8
def dkwX2_takesCrate_6 : List UInt8 := [132, 3, 1, 42, 89, 180, 0, 129, 4, 96, 181, 0, 129, 167, 255, 198, 42, 180, 0, 25, 27, 3, 96, 42]
abbrev dktX2_takesCrate_6 : List UInt8 := dkwX2_takesCrate_6 ++ dktX2_takesCrate_7
def dkwX2_takesCrate_5 : List UInt8 := [153, 0, 38, 42, 180, 0, 25, 27, 6, 96, 29, 96, 42, 182, 0, 136, 16, 65, 100, 4, 96, 79]
abbrev dktX2_takesCrate_5 : List UInt8 := dkwX2_takesCrate_5 ++ dktX2_takesCrate_6
def dkwX2_takesCrate_4 : List UInt8 := [42, 180, 0, 132, 153, 0, 57, 29, 7, 162, 0, 52, 42, 182, 0, 136, 16, 65, 16, 90, 184, 0, 51]
abbrev dktX2_takesCrate_4 : List UInt8 := dkwX2_takesCrate_4 ++ dktX2_takesCrate_5
def dkwX2_takesCrate_3 : List UInt8 := [182, 0, 140, 42, 89, 180, 0, 129, 42, 180, 0, 132, 153, 0, 7, 4, 167, 0, 4, 3, 100, 181, 0, 129]
abbrev dktX2_takesCrate_3 : List UInt8 := dkwX2_takesCrate_3 ++ dktX2_takesCrate_4
def dkwX2_takesCrate_2 : List UInt8 := [96, 21, 4, 96, 3, 79, 132, 4, 1, 167, 255, 235, 42, 42, 182, 0, 136, 16, 65, 16, 90, 184, 0, 51]
abbrev dktX2_takesCrate_2 : List UInt8 := dkwX2_takesCrate_2 ++ dktX2_takesCrate_3
def dkwX2_takesCrate_1 : List UInt8 := [100, 46, 167, 0, 4, 2, 61, 3, 62, 3, 54, 4, 21, 4, 7, 162, 0, 21, 42, 180, 0, 25, 27, 6]
abbrev dktX2_takesCrate_1 : List UInt8 := dkwX2_takesCrate_1 ++ dktX2_takesCrate_2
def dkwX2_takesCrate_0 : List UInt8 := [16, 9, 42, 180, 0, 144, 104, 60, 42, 180, 0, 147, 158, 0, 17, 42, 180, 0, 28, 42, 180, 0, 147, 4]
abbrev dktX2_takesCrate_0 : List UInt8 := dkwX2_takesCrate_0 ++ dktX2_takesCrate_1
theorem dksX2_takesCrate_0 : cX2_takesCrate.data.toList.drop 0 = dktX2_takesCrate_0 := by decide +kernel
theorem dksX2_takesCrate_1 : cX2_takesCrate.data.toList.drop 24 = dktX2_takesCrate_1 := dk_seg dksX2_takesCrate_0 24 rfl rfl
theorem dksX2_takesCrate_2 : cX2_takesCrate.data.toList.drop 48 = dktX2_takesCrate_2 := dk_seg dksX2_takesCrate_1 24 rfl rfl
theorem dksX2_takesCrate_3 : cX2_takesCrate.data.toList.drop 72 = dktX2_takesCrate_3 := dk_seg dksX2_takesCrate_2 24 rfl rfl
theorem dksX2_takesCrate_4 : cX2_takesCrate.data.toList.drop 96 = dktX2_takesCrate_4 := dk_seg dksX2_takesCrate_3 24 rfl rfl
theorem dksX2_takesCrate_5 : cX2_takesCrate.data.toList.drop 119 = dktX2_takesCrate_5 := dk_seg dksX2_takesCrate_4 23 rfl rfl
theorem dksX2_takesCrate_6 : cX2_takesCrate.data.toList.drop 141 = dktX2_takesCrate_6 := dk_seg dksX2_takesCrate_5 22 rfl rfl
theorem dksX2_takesCrate_7 : cX2_takesCrate.data.toList.drop 165 = dktX2_takesCrate_7 := dk_seg dksX2_takesCrate_6 24 rfl rfl
theorem dksX2_takesCrate_8 : cX2_takesCrate.data.toList.drop 187 = dktX2_takesCrate_8 := dk_seg dksX2_takesCrate_7 22 rfl rfl
theorem dksX2_takesCrate_9 : cX2_takesCrate.data.toList.drop 209 = dktX2_takesCrate_9 := dk_seg dksX2_takesCrate_8 22 rfl rfl
theorem dksX2_takesCrate_10 : cX2_takesCrate.data.toList.drop 231 = dktX2_takesCrate_10 := dk_seg dksX2_takesCrate_9 22 rfl rfl
theorem dksX2_takesCrate_11 : cX2_takesCrate.data.toList.drop 253 = dktX2_takesCrate_11 := dk_seg dksX2_takesCrate_10 22 rfl rfl
theorem dksX2_takesCrate_12 : cX2_takesCrate.data.toList.drop 275 = dktX2_takesCrate_12 := dk_seg dksX2_takesCrate_11 22 rfl rfl
theorem dksX2_takesCrate_13 : cX2_takesCrate.data.toList.drop 299 = dktX2_takesCrate_13 := dk_seg dksX2_takesCrate_12 24 rfl rfl
theorem dksX2_takesCrate_14 : cX2_takesCrate.data.toList.drop 322 = dktX2_takesCrate_14 := dk_seg dksX2_takesCrate_13 23 rfl rfl
theorem dksX2_takesCrate_15 : cX2_takesCrate.data.toList.drop 344 = dktX2_takesCrate_15 := dk_seg dksX2_takesCrate_14 22 rfl rfl
theorem dX2_takesCrate_0 : decode cX2_takesCrate 0 = .ok (.bipush 9, 2) := dk_16 9 (dk_at dksX2_takesCrate_0 0 rfl rfl)
theorem dX2_takesCrate_2 : decode cX2_takesCrate 2 = .ok (.aload_n 0, 1) := dk_42 (dk_at dksX2_takesCrate_0 2 rfl rfl)
theorem dX2_takesCrate_3 : decode cX2_takesCrate 3 = .ok (.getfield 144, 3) := dk_180 0 144 (dk_at dksX2_takesCrate_0 3 rfl rfl)
theorem dX2_takesCrate_6 : decode cX2_takesCrate 6 = .ok (.imul, 1) := dk_104 (dk_at dksX2_takesCrate_0 6 rfl rfl)
theorem dX2_takesCrate_7 : decode cX2_takesCrate 7 = .ok (.istore_n 1, 1) := dk_60 (dk_at dksX2_takesCrate_0 7 rfl rfl)
theorem dX2_takesCrate_8 : decode cX2_takesCrate 8 = .ok (.aload_n 0, 1) := dk_42 (dk_at dksX2_takesCrate_0 8 rfl rfl)
theorem dX2_takesCrate_9 : decode cX2_takesCrate 9 = .ok (.getfield 147, 3) := dk_180 0 147 (dk_at dksX2_takesCrate_0 9 rfl rfl)
theorem dX2_takesCrate_12 : decode cX2_takesCrate 12 = .ok (.ifCond .le 17, 3) := dk_158 0 17 (dk_at dksX2_takesCrate_0 12 rfl rfl)
theorem dX2_takesCrate_15 : decode cX2_takesCrate 15 = .ok (.aload_n 0, 1) := dk_42 (dk_at dksX2_takesCrate_0 15 rfl rfl)
theorem dX2_takesCrate_16 : decode cX2_takesCrate 16 = .ok (.getfield 28, 3) := dk_180 0 28 (dk_at dksX2_takesCrate_0 16 rfl rfl)
theorem dX2_takesCrate_19 : decode cX2_takesCrate 19 = .ok (.aload_n 0, 1) := dk_42 (dk_at dksX2_takesCrate_0 19 rfl rfl)
theorem dX2_takesCrate_20 : decode cX2_takesCrate 20 = .ok (.getfield 147, 3) := dk_180 0 147 (dk_at dksX2_takesCrate_0 20 rfl rfl)
theorem dX2_takesCrate_23 : decode cX2_takesCrate 23 = .ok (.iconst 1, 1) := dk_4 (dk_at dksX2_takesCrate_0 23 rfl rfl)
theorem dX2_takesCrate_24 : decode cX2_takesCrate 24 = .ok (.isub, 1) := dk_100 (dk_at dksX2_takesCrate_1 0 rfl rfl)
theorem dX2_takesCrate_25 : decode cX2_takesCrate 25 = .ok (.iaload, 1) := dk_46 (dk_at dksX2_takesCrate_1 1 rfl rfl)
theorem dX2_takesCrate_26 : decode cX2_takesCrate 26 = .ok (.goto 4, 3) := dk_167 0 4 (dk_at dksX2_takesCrate_1 2 rfl rfl)
theorem dX2_takesCrate_29 : decode cX2_takesCrate 29 = .ok (.iconst (-1), 1) := dk_2 (dk_at dksX2_takesCrate_1 5 rfl rfl)
theorem dX2_takesCrate_30 : decode cX2_takesCrate 30 = .ok (.istore_n 2, 1) := dk_61 (dk_at dksX2_takesCrate_1 6 rfl rfl)
theorem dX2_takesCrate_31 : decode cX2_takesCrate 31 = .ok (.iconst 0, 1) := dk_3 (dk_at dksX2_takesCrate_1 7 rfl rfl)
theorem dX2_takesCrate_32 : decode cX2_takesCrate 32 = .ok (.istore_n 3, 1) := dk_62 (dk_at dksX2_takesCrate_1 8 rfl rfl)
theorem dX2_takesCrate_33 : decode cX2_takesCrate 33 = .ok (.iconst 0, 1) := dk_3 (dk_at dksX2_takesCrate_1 9 rfl rfl)
theorem dX2_takesCrate_34 : decode cX2_takesCrate 34 = .ok (.istore 4, 2) := dk_54 4 (dk_at dksX2_takesCrate_1 10 rfl rfl)
theorem dX2_takesCrate_36 : decode cX2_takesCrate 36 = .ok (.iload 4, 2) := dk_21 4 (dk_at dksX2_takesCrate_1 12 rfl rfl)
theorem dX2_takesCrate_38 : decode cX2_takesCrate 38 = .ok (.iconst 4, 1) := dk_7 (dk_at dksX2_takesCrate_1 14 rfl rfl)
theorem dX2_takesCrate_39 : decode cX2_takesCrate 39 = .ok (.if_icmp .ge 21, 3) := dk_162 0 21 (dk_at dksX2_takesCrate_1 15 rfl rfl)
theorem dX2_takesCrate_42 : decode cX2_takesCrate 42 = .ok (.aload_n 0, 1) := dk_42 (dk_at dksX2_takesCrate_1 18 rfl rfl)
theorem dX2_takesCrate_43 : decode cX2_takesCrate 43 = .ok (.getfield 25, 3) := dk_180 0 25 (dk_at dksX2_takesCrate_1 19 rfl rfl)
theorem dX2_takesCrate_46 : decode cX2_takesCrate 46 = .ok (.iload_n 1, 1) := dk_27 (dk_at dksX2_takesCrate_1 22 rfl rfl)
theorem dX2_takesCrate_47 : decode cX2_takesCrate 47 = .ok (.iconst 3, 1) := dk_6 (dk_at dksX2_takesCrate_1 23 rfl rfl)
theorem dX2_takesCrate_48 : decode cX2_takesCrate 48 = .ok (.iadd, 1) := dk_96 (dk_at dksX2_takesCrate_2 0 rfl rfl)
theorem dX2_takesCrate_49 : decode cX2_takesCrate 49 = .ok (.iload 4, 2) := dk_21 4 (dk_at dksX2_takesCrate_2 1 rfl rfl)
theorem dX2_takesCrate_51 : decode cX2_takesCrate 51 = .ok (.iadd, 1) := dk_96 (dk_at dksX2_takesCrate_2 3 rfl rfl)
theorem dX2_takesCrate_52 : decode cX2_takesCrate 52 = .ok (.iconst 0, 1) := dk_3 (dk_at dksX2_takesCrate_2 4 rfl rfl)
theorem dX2_takesCrate_53 : decode cX2_takesCrate 53 = .ok (.iastore, 1) := dk_79 (dk_at dksX2_takesCrate_2 5 rfl rfl)
theorem dX2_takesCrate_54 : decode cX2_takesCrate 54 = .ok (.iinc 4 1, 3) := dk_132 4 1 (dk_at dksX2_takesCrate_2 6 rfl rfl)
theorem dX2_takesCrate_57 : decode cX2_takesCrate 57 = .ok (.goto (-21), 3) := dk_167 255 235 (dk_at dksX2_takesCrate_2 9 rfl rfl)
theorem dX2_takesCrate_60 : decode cX2_takesCrate 60 = .ok (.aload_n 0, 1) := dk_42 (dk_at dksX2_takesCrate_2 12 rfl rfl)
theorem dX2_takesCrate_61 : decode cX2_takesCrate 61 = .ok (.aload_n 0, 1) := dk_42 (dk_at dksX2_takesCrate_2 13 rfl rfl)
theorem dX2_takesCrate_62 : decode cX2_takesCrate 62 = .ok (.invokevirtual 136, 3) := dk_182 0 136 (dk_at dksX2_takesCrate_2 14 rfl rfl)
theorem dX2_takesCrate_65 : decode cX2_takesCrate 65 = .ok (.bipush 65, 2) := dk_16 65 (dk_at dksX2_takesCrate_2 17 rfl rfl)
theorem dX2_takesCrate_67 : decode cX2_takesCrate 67 = .ok (.bipush 90, 2) := dk_16 90 (dk_at dksX2_takesCrate_2 19 rfl rfl)
theorem dX2_takesCrate_69 : decode cX2_takesCrate 69 = .ok (.invokestatic 51, 3) := dk_184 0 51 (dk_at dksX2_takesCrate_2 21 rfl rfl)
theorem dX2_takesCrate_72 : decode cX2_takesCrate 72 = .ok (.invokevirtual 140, 3) := dk_182 0 140 (dk_at dksX2_takesCrate_3 0 rfl rfl)
theorem dX2_takesCrate_75 : decode cX2_takesCrate 75 = .ok (.aload_n 0, 1) := dk_42 (dk_at dksX2_takesCrate_3 3 rfl rfl)
theorem dX2_takesCrate_76 : decode cX2_takesCrate 76 = .ok (.dup, 1) := dk_89 (dk_at dksX2_takesCrate_3 4 rfl rfl)
theorem dX2_takesCrate_77 : decode cX2_takesCrate 77 = .ok (.getfield 129, 3) := dk_180 0 129 (dk_at dksX2_takesCrate_3 5 rfl rfl)
theorem dX2_takesCrate_80 : decode cX2_takesCrate 80 = .ok (.aload_n 0, 1) := dk_42 (dk_at dksX2_takesCrate_3 8 rfl rfl)
theorem dX2_takesCrate_81 : decode cX2_takesCrate 81 = .ok (.getfield 132, 3) := dk_180 0 132 (dk_at dksX2_takesCrate_3 9 rfl rfl)
theorem dX2_takesCrate_84 : decode cX2_takesCrate 84 = .ok (.ifCond .eq 7, 3) := dk_153 0 7 (dk_at dksX2_takesCrate_3 12 rfl rfl)
theorem dX2_takesCrate_87 : decode cX2_takesCrate 87 = .ok (.iconst 1, 1) := dk_4 (dk_at dksX2_takesCrate_3 15 rfl rfl)
theorem dX2_takesCrate_88 : decode cX2_takesCrate 88 = .ok (.goto 4, 3) := dk_167 0 4 (dk_at dksX2_takesCrate_3 16 rfl rfl)
theorem dX2_takesCrate_91 : decode cX2_takesCrate 91 = .ok (.iconst 0, 1) := dk_3 (dk_at dksX2_takesCrate_3 19 rfl rfl)
theorem dX2_takesCrate_92 : decode cX2_takesCrate 92 = .ok (.isub, 1) := dk_100 (dk_at dksX2_takesCrate_3 20 rfl rfl)
theorem dX2_takesCrate_93 : decode cX2_takesCrate 93 = .ok (.putfield 129, 3) := dk_181 0 129 (dk_at dksX2_takesCrate_3 21 rfl rfl)
theorem dX2_takesCrate_96 : decode cX2_takesCrate 96 = .ok (.aload_n 0, 1) := dk_42 (dk_at dksX2_takesCrate_4 0 rfl rfl)
theorem dX2_takesCrate_97 : decode cX2_takesCrate 97 = .ok (.getfield 132, 3) := dk_180 0 132 (dk_at dksX2_takesCrate_4 1 rfl rfl)
theorem dX2_takesCrate_100 : decode cX2_takesCrate 100 = .ok (.ifCond .eq 57, 3) := dk_153 0 57 (dk_at dksX2_takesCrate_4 4 rfl rfl)
theorem dX2_takesCrate_103 : decode cX2_takesCrate 103 = .ok (.iload_n 3, 1) := dk_29 (dk_at dksX2_takesCrate_4 7 rfl rfl)
theorem dX2_takesCrate_104 : decode cX2_takesCrate 104 = .ok (.iconst 4, 1) := dk_7 (dk_at dksX2_takesCrate_4 8 rfl rfl)
theorem dX2_takesCrate_105 : decode cX2_takesCrate 105 = .ok (.if_icmp .ge 52, 3) := dk_162 0 52 (dk_at dksX2_takesCrate_4 9 rfl rfl)
theorem dX2_takesCrate_108 : decode cX2_takesCrate 108 = .ok (.aload_n 0, 1) := dk_42 (dk_at dksX2_takesCrate_4 12 rfl rfl)
theorem dX2_takesCrate_109 : decode cX2_takesCrate 109 = .ok (.invokevirtual 136, 3) := dk_182 0 136 (dk_at dksX2_takesCrate_4 13 rfl rfl)
theorem dX2_takesCrate_112 : decode cX2_takesCrate 112 = .ok (.bipush 65, 2) := dk_16 65 (dk_at dksX2_takesCrate_4 16 rfl rfl)
theorem dX2_takesCrate_114 : decode cX2_takesCrate 114 = .ok (.bipush 90, 2) := dk_16 90 (dk_at dksX2_takesCrate_4 18 rfl rfl)
theorem dX2_takesCrate_116 : decode cX2_takesCrate 116 = .ok (.invokestatic 51, 3) := dk_184 0 51 (dk_at dksX2_takesCrate_4 20 rfl rfl)
theorem dX2_takesCrate_119 : decode cX2_takesCrate 119 = .ok (.ifCond .eq 38, 3) := dk_153 0 38 (dk_at dksX2_takesCrate_5 0 rfl rfl)
theorem dX2_takesCrate_122 : decode cX2_takesCrate 122 = .ok (.aload_n 0, 1) := dk_42 (dk_at dksX2_takesCrate_5 3 rfl rfl)
theorem dX2_takesCrate_123 : decode cX2_takesCrate 123 = .ok (.getfield 25, 3) := dk_180 0 25 (dk_at dksX2_takesCrate_5 4 rfl rfl)
theorem dX2_takesCrate_126 : decode cX2_takesCrate 126 = .ok (.iload_n 1, 1) := dk_27 (dk_at dksX2_takesCrate_5 7 rfl rfl)
theorem dX2_takesCrate_127 : decode cX2_takesCrate 127 = .ok (.iconst 3, 1) := dk_6 (dk_at dksX2_takesCrate_5 8 rfl rfl)
theorem dX2_takesCrate_128 : decode cX2_takesCrate 128 = .ok (.iadd, 1) := dk_96 (dk_at dksX2_takesCrate_5 9 rfl rfl)
theorem dX2_takesCrate_129 : decode cX2_takesCrate 129 = .ok (.iload_n 3, 1) := dk_29 (dk_at dksX2_takesCrate_5 10 rfl rfl)
theorem dX2_takesCrate_130 : decode cX2_takesCrate 130 = .ok (.iadd, 1) := dk_96 (dk_at dksX2_takesCrate_5 11 rfl rfl)
theorem dX2_takesCrate_131 : decode cX2_takesCrate 131 = .ok (.aload_n 0, 1) := dk_42 (dk_at dksX2_takesCrate_5 12 rfl rfl)
theorem dX2_takesCrate_132 : decode cX2_takesCrate 132 = .ok (.invokevirtual 136, 3) := dk_182 0 136 (dk_at dksX2_takesCrate_5 13 rfl rfl)
theorem dX2_takesCrate_135 : decode cX2_takesCrate 135 = .ok (.bipush 65, 2) := dk_16 65 (dk_at dksX2_takesCrate_5 16 rfl rfl)
theorem dX2_takesCrate_137 : decode cX2_takesCrate 137 = .ok (.isub, 1) := dk_100 (dk_at dksX2_takesCrate_5 18 rfl rfl)
theorem dX2_takesCrate_138 : decode cX2_takesCrate 138 = .ok (.iconst 1, 1) := dk_4 (dk_at dksX2_takesCrate_5 19 rfl rfl)
theorem dX2_takesCrate_139 : decode cX2_takesCrate 139 = .ok (.iadd, 1) := dk_96 (dk_at dksX2_takesCrate_5 20 rfl rfl)
theorem dX2_takesCrate_140 : decode cX2_takesCrate 140 = .ok (.iastore, 1) := dk_79 (dk_at dksX2_takesCrate_5 21 rfl rfl)
theorem dX2_takesCrate_141 : decode cX2_takesCrate 141 = .ok (.iinc 3 1, 3) := dk_132 3 1 (dk_at dksX2_takesCrate_6 0 rfl rfl)
theorem dX2_takesCrate_144 : decode cX2_takesCrate 144 = .ok (.aload_n 0, 1) := dk_42 (dk_at dksX2_takesCrate_6 3 rfl rfl)
theorem dX2_takesCrate_145 : decode cX2_takesCrate 145 = .ok (.dup, 1) := dk_89 (dk_at dksX2_takesCrate_6 4 rfl rfl)
theorem dX2_takesCrate_146 : decode cX2_takesCrate 146 = .ok (.getfield 129, 3) := dk_180 0 129 (dk_at dksX2_takesCrate_6 5 rfl rfl)
theorem dX2_takesCrate_149 : decode cX2_takesCrate 149 = .ok (.iconst 1, 1) := dk_4 (dk_at dksX2_takesCrate_6 8 rfl rfl)
theorem dX2_takesCrate_150 : decode cX2_takesCrate 150 = .ok (.iadd, 1) := dk_96 (dk_at dksX2_takesCrate_6 9 rfl rfl)
theorem dX2_takesCrate_151 : decode cX2_takesCrate 151 = .ok (.putfield 129, 3) := dk_181 0 129 (dk_at dksX2_takesCrate_6 10 rfl rfl)
theorem dX2_takesCrate_154 : decode cX2_takesCrate 154 = .ok (.goto (-58), 3) := dk_167 255 198 (dk_at dksX2_takesCrate_6 13 rfl rfl)
theorem dX2_takesCrate_157 : decode cX2_takesCrate 157 = .ok (.aload_n 0, 1) := dk_42 (dk_at dksX2_takesCrate_6 16 rfl rfl)
theorem dX2_takesCrate_158 : decode cX2_takesCrate 158 = .ok (.getfield 25, 3) := dk_180 0 25 (dk_at dksX2_takesCrate_6 17 rfl rfl)
theorem dX2_takesCrate_161 : decode cX2_takesCrate 161 = .ok (.iload_n 1, 1) := dk_27 (dk_at dksX2_takesCrate_6 20 rfl rfl)
theorem dX2_takesCrate_162 : decode cX2_takesCrate 162 = .ok (.iconst 0, 1) := dk_3 (dk_at dksX2_takesCrate_6 21 rfl rfl)
theorem dX2_takesCrate_163 : decode cX2_takesCrate 163 = .ok (.iadd, 1) := dk_96 (dk_at dksX2_takesCrate_6 22 rfl rfl)
theorem dX2_takesCrate_164 : decode cX2_takesCrate 164 = .ok (.aload_n 0, 1) := dk_42 (dk_at dksX2_takesCrate_6 23 rfl rfl)
theorem dX2_takesCrate_165 : decode cX2_takesCrate 165 = .ok (.bipush 115, 2) := dk_16 115 (dk_at dksX2_takesCrate_7 0 rfl rfl)
theorem dX2_takesCrate_167 : decode cX2_takesCrate 167 = .ok (.iconst 1, 1) := dk_4 (dk_at dksX2_takesCrate_7 2 rfl rfl)
theorem dX2_takesCrate_168 : decode cX2_takesCrate 168 = .ok (.bipush 60, 2) := dk_16 60 (dk_at dksX2_takesCrate_7 3 rfl rfl)
theorem dX2_takesCrate_170 : decode cX2_takesCrate 170 = .ok (.invokevirtual 150, 3) := dk_182 0 150 (dk_at dksX2_takesCrate_7 5 rfl rfl)
theorem dX2_takesCrate_173 : decode cX2_takesCrate 173 = .ok (.iastore, 1) := dk_79 (dk_at dksX2_takesCrate_7 8 rfl rfl)
theorem dX2_takesCrate_174 : decode cX2_takesCrate 174 = .ok (.aload_n 0, 1) := dk_42 (dk_at dksX2_takesCrate_7 9 rfl rfl)
theorem dX2_takesCrate_175 : decode cX2_takesCrate 175 = .ok (.getfield 25, 3) := dk_180 0 25 (dk_at dksX2_takesCrate_7 10 rfl rfl)
theorem dX2_takesCrate_178 : decode cX2_takesCrate 178 = .ok (.iload_n 1, 1) := dk_27 (dk_at dksX2_takesCrate_7 13 rfl rfl)
theorem dX2_takesCrate_179 : decode cX2_takesCrate 179 = .ok (.iconst 1, 1) := dk_4 (dk_at dksX2_takesCrate_7 14 rfl rfl)
theorem dX2_takesCrate_180 : decode cX2_takesCrate 180 = .ok (.iadd, 1) := dk_96 (dk_at dksX2_takesCrate_7 15 rfl rfl)
theorem dX2_takesCrate_181 : decode cX2_takesCrate 181 = .ok (.aload_n 0, 1) := dk_42 (dk_at dksX2_takesCrate_7 16 rfl rfl)
theorem dX2_takesCrate_182 : decode cX2_takesCrate 182 = .ok (.bipush 114, 2) := dk_16 114 (dk_at dksX2_takesCrate_7 17 rfl rfl)
theorem dX2_takesCrate_184 : decode cX2_takesCrate 184 = .ok (.iconst 0, 1) := dk_3 (dk_at dksX2_takesCrate_7 19 rfl rfl)
theorem dX2_takesCrate_185 : decode cX2_takesCrate 185 = .ok (.bipush 59, 2) := dk_16 59 (dk_at dksX2_takesCrate_7 20 rfl rfl)
theorem dX2_takesCrate_187 : decode cX2_takesCrate 187 = .ok (.invokevirtual 150, 3) := dk_182 0 150 (dk_at dksX2_takesCrate_8 0 rfl rfl)
theorem dX2_takesCrate_190 : decode cX2_takesCrate 190 = .ok (.iastore, 1) := dk_79 (dk_at dksX2_takesCrate_8 3 rfl rfl)
theorem dX2_takesCrate_191 : decode cX2_takesCrate 191 = .ok (.aload_n 0, 1) := dk_42 (dk_at dksX2_takesCrate_8 4 rfl rfl)
theorem dX2_takesCrate_192 : decode cX2_takesCrate 192 = .ok (.getfield 25, 3) := dk_180 0 25 (dk_at dksX2_takesCrate_8 5 rfl rfl)
theorem dX2_takesCrate_195 : decode cX2_takesCrate 195 = .ok (.iload_n 1, 1) := dk_27 (dk_at dksX2_takesCrate_8 8 rfl rfl)
theorem dX2_takesCrate_196 : decode cX2_takesCrate 196 = .ok (.iconst 2, 1) := dk_5 (dk_at dksX2_takesCrate_8 9 rfl rfl)
theorem dX2_takesCrate_197 : decode cX2_takesCrate 197 = .ok (.iadd, 1) := dk_96 (dk_at dksX2_takesCrate_8 10 rfl rfl)
theorem dX2_takesCrate_198 : decode cX2_takesCrate 198 = .ok (.aload_n 0, 1) := dk_42 (dk_at dksX2_takesCrate_8 11 rfl rfl)
theorem dX2_takesCrate_199 : decode cX2_takesCrate 199 = .ok (.bipush 103, 2) := dk_16 103 (dk_at dksX2_takesCrate_8 12 rfl rfl)
theorem dX2_takesCrate_201 : decode cX2_takesCrate 201 = .ok (.iconst 0, 1) := dk_3 (dk_at dksX2_takesCrate_8 14 rfl rfl)
theorem dX2_takesCrate_202 : decode cX2_takesCrate 202 = .ok (.bipush 15, 2) := dk_16 15 (dk_at dksX2_takesCrate_8 15 rfl rfl)
theorem dX2_takesCrate_204 : decode cX2_takesCrate 204 = .ok (.invokevirtual 150, 3) := dk_182 0 150 (dk_at dksX2_takesCrate_8 17 rfl rfl)
theorem dX2_takesCrate_207 : decode cX2_takesCrate 207 = .ok (.iastore, 1) := dk_79 (dk_at dksX2_takesCrate_8 20 rfl rfl)
theorem dX2_takesCrate_208 : decode cX2_takesCrate 208 = .ok (.aload_n 0, 1) := dk_42 (dk_at dksX2_takesCrate_8 21 rfl rfl)
theorem dX2_takesCrate_209 : decode cX2_takesCrate 209 = .ok (.getfield 25, 3) := dk_180 0 25 (dk_at dksX2_takesCrate_9 0 rfl rfl)
theorem dX2_takesCrate_212 : decode cX2_takesCrate 212 = .ok (.iload_n 1, 1) := dk_27 (dk_at dksX2_takesCrate_9 3 rfl rfl)
theorem dX2_takesCrate_213 : decode cX2_takesCrate 213 = .ok (.bipush 8, 2) := dk_16 8 (dk_at dksX2_takesCrate_9 4 rfl rfl)
theorem dX2_takesCrate_215 : decode cX2_takesCrate 215 = .ok (.iadd, 1) := dk_96 (dk_at dksX2_takesCrate_9 6 rfl rfl)
theorem dX2_takesCrate_216 : decode cX2_takesCrate 216 = .ok (.iload_n 2, 1) := dk_28 (dk_at dksX2_takesCrate_9 7 rfl rfl)
theorem dX2_takesCrate_217 : decode cX2_takesCrate 217 = .ok (.ifCond .ge 7, 3) := dk_156 0 7 (dk_at dksX2_takesCrate_9 8 rfl rfl)
theorem dX2_takesCrate_220 : decode cX2_takesCrate 220 = .ok (.iconst 0, 1) := dk_3 (dk_at dksX2_takesCrate_9 11 rfl rfl)
theorem dX2_takesCrate_221 : decode cX2_takesCrate 221 = .ok (.goto 8, 3) := dk_167 0 8 (dk_at dksX2_takesCrate_9 12 rfl rfl)
theorem dX2_takesCrate_224 : decode cX2_takesCrate 224 = .ok (.aload_n 0, 1) := dk_42 (dk_at dksX2_takesCrate_9 15 rfl rfl)
theorem dX2_takesCrate_225 : decode cX2_takesCrate 225 = .ok (.iload_n 2, 1) := dk_28 (dk_at dksX2_takesCrate_9 16 rfl rfl)
theorem dX2_takesCrate_226 : decode cX2_takesCrate 226 = .ok (.invokevirtual 154, 3) := dk_182 0 154 (dk_at dksX2_takesCrate_9 17 rfl rfl)
theorem dX2_takesCrate_229 : decode cX2_takesCrate 229 = .ok (.iastore, 1) := dk_79 (dk_at dksX2_takesCrate_9 20 rfl rfl)
theorem dX2_takesCrate_230 : decode cX2_takesCrate 230 = .ok (.aload_n 0, 1) := dk_42 (dk_at dksX2_takesCrate_9 21 rfl rfl)
theorem dX2_takesCrate_231 : decode cX2_takesCrate 231 = .ok (.getfield 25, 3) := dk_180 0 25 (dk_at dksX2_takesCrate_10 0 rfl rfl)
theorem dX2_takesCrate_234 : decode cX2_takesCrate 234 = .ok (.iload_n 1, 1) := dk_27 (dk_at dksX2_takesCrate_10 3 rfl rfl)
theorem dX2_takesCrate_235 : decode cX2_takesCrate 235 = .ok (.bipush 7, 2) := dk_16 7 (dk_at dksX2_takesCrate_10 4 rfl rfl)
theorem dX2_takesCrate_237 : decode cX2_takesCrate 237 = .ok (.iadd, 1) := dk_96 (dk_at dksX2_takesCrate_10 6 rfl rfl)
theorem dX2_takesCrate_238 : decode cX2_takesCrate 238 = .ok (.iload_n 2, 1) := dk_28 (dk_at dksX2_takesCrate_10 7 rfl rfl)
theorem dX2_takesCrate_239 : decode cX2_takesCrate 239 = .ok (.iconst 1, 1) := dk_4 (dk_at dksX2_takesCrate_10 8 rfl rfl)
theorem dX2_takesCrate_240 : decode cX2_takesCrate 240 = .ok (.iadd, 1) := dk_96 (dk_at dksX2_takesCrate_10 9 rfl rfl)
theorem dX2_takesCrate_241 : decode cX2_takesCrate 241 = .ok (.iastore, 1) := dk_79 (dk_at dksX2_takesCrate_10 10 rfl rfl)
theorem dX2_takesCrate_242 : decode cX2_takesCrate 242 = .ok (.aload_n 0, 1) := dk_42 (dk_at dksX2_takesCrate_10 11 rfl rfl)
theorem dX2_takesCrate_243 : decode cX2_takesCrate 243 = .ok (.dup, 1) := dk_89 (dk_at dksX2_takesCrate_10 12 rfl rfl)
theorem dX2_takesCrate_244 : decode cX2_takesCrate 244 = .ok (.getfield 144, 3) := dk_180 0 144 (dk_at dksX2_takesCrate_10 13 rfl rfl)
theorem dX2_takesCrate_247 : decode cX2_takesCrate 247 = .ok (.iconst 1, 1) := dk_4 (dk_at dksX2_takesCrate_10 16 rfl rfl)
theorem dX2_takesCrate_248 : decode cX2_takesCrate 248 = .ok (.iadd, 1) := dk_96 (dk_at dksX2_takesCrate_10 17 rfl rfl)
theorem dX2_takesCrate_249 : decode cX2_takesCrate 249 = .ok (.putfield 144, 3) := dk_181 0 144 (dk_at dksX2_takesCrate_10 18 rfl rfl)
theorem dX2_takesCrate_252 : decode cX2_takesCrate 252 = .ok (.aload_n 0, 1) := dk_42 (dk_at dksX2_takesCrate_10 21 rfl rfl)
theorem dX2_takesCrate_253 : decode cX2_takesCrate 253 = .ok (.getfield 132, 3) := dk_180 0 132 (dk_at dksX2_takesCrate_11 0 rfl rfl)
theorem dX2_takesCrate_256 : decode cX2_takesCrate 256 = .ok (.ifCond .eq 48, 3) := dk_153 0 48 (dk_at dksX2_takesCrate_11 3 rfl rfl)
theorem dX2_takesCrate_259 : decode cX2_takesCrate 259 = .ok (.aload_n 0, 1) := dk_42 (dk_at dksX2_takesCrate_11 6 rfl rfl)
theorem dX2_takesCrate_260 : decode cX2_takesCrate 260 = .ok (.invokevirtual 136, 3) := dk_182 0 136 (dk_at dksX2_takesCrate_11 7 rfl rfl)
theorem dX2_takesCrate_263 : decode cX2_takesCrate 263 = .ok (.bipush 91, 2) := dk_16 91 (dk_at dksX2_takesCrate_11 10 rfl rfl)
theorem dX2_takesCrate_265 : decode cX2_takesCrate 265 = .ok (.if_icmp .ne 39, 3) := dk_160 0 39 (dk_at dksX2_takesCrate_11 12 rfl rfl)
theorem dX2_takesCrate_268 : decode cX2_takesCrate 268 = .ok (.aload_n 0, 1) := dk_42 (dk_at dksX2_takesCrate_11 15 rfl rfl)
theorem dX2_takesCrate_269 : decode cX2_takesCrate 269 = .ok (.dup, 1) := dk_89 (dk_at dksX2_takesCrate_11 16 rfl rfl)
theorem dX2_takesCrate_270 : decode cX2_takesCrate 270 = .ok (.getfield 129, 3) := dk_180 0 129 (dk_at dksX2_takesCrate_11 17 rfl rfl)
theorem dX2_takesCrate_273 : decode cX2_takesCrate 273 = .ok (.iconst 1, 1) := dk_4 (dk_at dksX2_takesCrate_11 20 rfl rfl)
theorem dX2_takesCrate_274 : decode cX2_takesCrate 274 = .ok (.iadd, 1) := dk_96 (dk_at dksX2_takesCrate_11 21 rfl rfl)
theorem dX2_takesCrate_275 : decode cX2_takesCrate 275 = .ok (.putfield 129, 3) := dk_181 0 129 (dk_at dksX2_takesCrate_12 0 rfl rfl)
theorem dX2_takesCrate_278 : decode cX2_takesCrate 278 = .ok (.aload_n 0, 1) := dk_42 (dk_at dksX2_takesCrate_12 3 rfl rfl)
theorem dX2_takesCrate_279 : decode cX2_takesCrate 279 = .ok (.getfield 28, 3) := dk_180 0 28 (dk_at dksX2_takesCrate_12 4 rfl rfl)
theorem dX2_takesCrate_282 : decode cX2_takesCrate 282 = .ok (.aload_n 0, 1) := dk_42 (dk_at dksX2_takesCrate_12 7 rfl rfl)
theorem dX2_takesCrate_283 : decode cX2_takesCrate 283 = .ok (.getfield 147, 3) := dk_180 0 147 (dk_at dksX2_takesCrate_12 8 rfl rfl)
theorem dX2_takesCrate_286 : decode cX2_takesCrate 286 = .ok (.aload_n 0, 1) := dk_42 (dk_at dksX2_takesCrate_12 11 rfl rfl)
theorem dX2_takesCrate_287 : decode cX2_takesCrate 287 = .ok (.getfield 144, 3) := dk_180 0 144 (dk_at dksX2_takesCrate_12 12 rfl rfl)
theorem dX2_takesCrate_290 : decode cX2_takesCrate 290 = .ok (.iconst 1, 1) := dk_4 (dk_at dksX2_takesCrate_12 15 rfl rfl)
theorem dX2_takesCrate_291 : decode cX2_takesCrate 291 = .ok (.isub, 1) := dk_100 (dk_at dksX2_takesCrate_12 16 rfl rfl)
theorem dX2_takesCrate_292 : decode cX2_takesCrate 292 = .ok (.iastore, 1) := dk_79 (dk_at dksX2_takesCrate_12 17 rfl rfl)
theorem dX2_takesCrate_293 : decode cX2_takesCrate 293 = .ok (.aload_n 0, 1) := dk_42 (dk_at dksX2_takesCrate_12 18 rfl rfl)
theorem dX2_takesCrate_294 : decode cX2_takesCrate 294 = .ok (.dup, 1) := dk_89 (dk_at dksX2_takesCrate_12 19 rfl rfl)
theorem dX2_takesCrate_295 : decode cX2_takesCrate 295 = .ok (.getfield 147, 3) := dk_180 0 147 (dk_at dksX2_takesCrate_12 20 rfl rfl)
theorem dX2_takesCrate_298 : decode cX2_takesCrate 298 = .ok (.iconst 1, 1) := dk_4 (dk_at dksX2_takesCrate_12 23 rfl rfl)
theorem dX2_takesCrate_299 : decode cX2_takesCrate 299 = .ok (.iadd, 1) := dk_96 (dk_at dksX2_takesCrate_13 0 rfl rfl)
theorem dX2_takesCrate_300 : decode cX2_takesCrate 300 = .ok (.putfield 147, 3) := dk_181 0 147 (dk_at dksX2_takesCrate_13 1 rfl rfl)
theorem dX2_takesCrate_303 : decode cX2_takesCrate 303 = .ok (.return_, 1) := dk_177 (dk_at dksX2_takesCrate_13 4 rfl rfl)
theorem dX2_takesCrate_304 : decode cX2_takesCrate 304 = .ok (.aload_n 0, 1) := dk_42 (dk_at dksX2_takesCrate_13 5 rfl rfl)
theorem dX2_takesCrate_305 : decode cX2_takesCrate 305 = .ok (.getfield 132, 3) := dk_180 0 132 (dk_at dksX2_takesCrate_13 6 rfl rfl)
theorem dX2_takesCrate_308 : decode cX2_takesCrate 308 = .ok (.ifCond .eq 42, 3) := dk_153 0 42 (dk_at dksX2_takesCrate_13 9 rfl rfl)
theorem dX2_takesCrate_311 : decode cX2_takesCrate 311 = .ok (.aload_n 0, 1) := dk_42 (dk_at dksX2_takesCrate_13 12 rfl rfl)
theorem dX2_takesCrate_312 : decode cX2_takesCrate 312 = .ok (.getfield 147, 3) := dk_180 0 147 (dk_at dksX2_takesCrate_13 13 rfl rfl)
theorem dX2_takesCrate_315 : decode cX2_takesCrate 315 = .ok (.ifCond .le 35, 3) := dk_158 0 35 (dk_at dksX2_takesCrate_13 16 rfl rfl)
theorem dX2_takesCrate_318 : decode cX2_takesCrate 318 = .ok (.aload_n 0, 1) := dk_42 (dk_at dksX2_takesCrate_13 19 rfl rfl)
theorem dX2_takesCrate_319 : decode cX2_takesCrate 319 = .ok (.invokevirtual 136, 3) := dk_182 0 136 (dk_at dksX2_takesCrate_13 20 rfl rfl)
theorem dX2_takesCrate_322 : decode cX2_takesCrate 322 = .ok (.bipush 93, 2) := dk_16 93 (dk_at dksX2_takesCrate_14 0 rfl rfl)
theorem dX2_takesCrate_324 : decode cX2_takesCrate 324 = .ok (.if_icmp .ne 26, 3) := dk_160 0 26 (dk_at dksX2_takesCrate_14 2 rfl rfl)
theorem dX2_takesCrate_327 : decode cX2_takesCrate 327 = .ok (.aload_n 0, 1) := dk_42 (dk_at dksX2_takesCrate_14 5 rfl rfl)
theorem dX2_takesCrate_328 : decode cX2_takesCrate 328 = .ok (.dup, 1) := dk_89 (dk_at dksX2_takesCrate_14 6 rfl rfl)
theorem dX2_takesCrate_329 : decode cX2_takesCrate 329 = .ok (.getfield 129, 3) := dk_180 0 129 (dk_at dksX2_takesCrate_14 7 rfl rfl)
theorem dX2_takesCrate_332 : decode cX2_takesCrate 332 = .ok (.iconst 1, 1) := dk_4 (dk_at dksX2_takesCrate_14 10 rfl rfl)
theorem dX2_takesCrate_333 : decode cX2_takesCrate 333 = .ok (.iadd, 1) := dk_96 (dk_at dksX2_takesCrate_14 11 rfl rfl)
theorem dX2_takesCrate_334 : decode cX2_takesCrate 334 = .ok (.putfield 129, 3) := dk_181 0 129 (dk_at dksX2_takesCrate_14 12 rfl rfl)
theorem dX2_takesCrate_337 : decode cX2_takesCrate 337 = .ok (.aload_n 0, 1) := dk_42 (dk_at dksX2_takesCrate_14 15 rfl rfl)
theorem dX2_takesCrate_338 : decode cX2_takesCrate 338 = .ok (.dup, 1) := dk_89 (dk_at dksX2_takesCrate_14 16 rfl rfl)
theorem dX2_takesCrate_339 : decode cX2_takesCrate 339 = .ok (.getfield 147, 3) := dk_180 0 147 (dk_at dksX2_takesCrate_14 17 rfl rfl)
theorem dX2_takesCrate_342 : decode cX2_takesCrate 342 = .ok (.iconst 1, 1) := dk_4 (dk_at dksX2_takesCrate_14 20 rfl rfl)
theorem dX2_takesCrate_343 : decode cX2_takesCrate 343 = .ok (.isub, 1) := dk_100 (dk_at dksX2_takesCrate_14 21 rfl rfl)
theorem dX2_takesCrate_344 : decode cX2_takesCrate 344 = .ok (.putfield 147, 3) := dk_181 0 147 (dk_at dksX2_takesCrate_15 0 rfl rfl)
theorem dX2_takesCrate_347 : decode cX2_takesCrate 347 = .ok (.goto (-43), 3) := dk_167 255 213 (dk_at dksX2_takesCrate_15 3 rfl rfl)
theorem dX2_takesCrate_350 : decode cX2_takesCrate 350 = .ok (.return_, 1) := dk_177 (dk_at dksX2_takesCrate_15 6 rfl rfl)
abbrev cX2_here : ByteArray := prog_7_method_39_code
def yX2_here : MethodName := ⟨RX2, "here", "()I"⟩
def dkwX2_here_1 : List UInt8 := [172]
abbrev dktX2_here_1 : List UInt8 := dkwX2_here_1 ++ []
def dkwX2_here_0 : List UInt8 := [42, 180, 0, 129, 42, 180, 0, 126, 162, 0, 15, 42, 180, 0, 22, 42, 180, 0, 129, 46, 167, 0, 4, 3]
abbrev dktX2_here_0 : List UInt8 := dkwX2_here_0 ++ dktX2_here_1
theorem dksX2_here_0 : cX2_here.data.toList.drop 0 = dktX2_here_0 := by decide +kernel
theorem dksX2_here_1 : cX2_here.data.toList.drop 24 = dktX2_here_1 := dk_seg dksX2_here_0 24 rfl rfl
theorem dX2_here_0 : decode cX2_here 0 = .ok (.aload_n 0, 1) := dk_42 (dk_at dksX2_here_0 0 rfl rfl)
theorem dX2_here_1 : decode cX2_here 1 = .ok (.getfield 129, 3) := dk_180 0 129 (dk_at dksX2_here_0 1 rfl rfl)
theorem dX2_here_4 : decode cX2_here 4 = .ok (.aload_n 0, 1) := dk_42 (dk_at dksX2_here_0 4 rfl rfl)
theorem dX2_here_5 : decode cX2_here 5 = .ok (.getfield 126, 3) := dk_180 0 126 (dk_at dksX2_here_0 5 rfl rfl)
theorem dX2_here_8 : decode cX2_here 8 = .ok (.if_icmp .ge 15, 3) := dk_162 0 15 (dk_at dksX2_here_0 8 rfl rfl)
theorem dX2_here_11 : decode cX2_here 11 = .ok (.aload_n 0, 1) := dk_42 (dk_at dksX2_here_0 11 rfl rfl)
theorem dX2_here_12 : decode cX2_here 12 = .ok (.getfield 22, 3) := dk_180 0 22 (dk_at dksX2_here_0 12 rfl rfl)
theorem dX2_here_15 : decode cX2_here 15 = .ok (.aload_n 0, 1) := dk_42 (dk_at dksX2_here_0 15 rfl rfl)
theorem dX2_here_16 : decode cX2_here 16 = .ok (.getfield 129, 3) := dk_180 0 129 (dk_at dksX2_here_0 16 rfl rfl)
theorem dX2_here_19 : decode cX2_here 19 = .ok (.iaload, 1) := dk_46 (dk_at dksX2_here_0 19 rfl rfl)
theorem dX2_here_20 : decode cX2_here 20 = .ok (.goto 4, 3) := dk_167 0 4 (dk_at dksX2_here_0 20 rfl rfl)
theorem dX2_here_23 : decode cX2_here 23 = .ok (.iconst 0, 1) := dk_3 (dk_at dksX2_here_0 23 rfl rfl)
theorem dX2_here_24 : decode cX2_here 24 = .ok (.ireturn, 1) := dk_172 (dk_at dksX2_here_1 0 rfl rfl)
abbrev cX2_takes : ByteArray := prog_7_method_40_code
def yX2_takes : MethodName := ⟨RX2, "takes", "(Z)V"⟩
def dkwX2_takes_1 : List UInt8 := [180, 0, 129, 42, 180, 0, 132, 153, 0, 7, 4, 167, 0, 4, 3, 96, 181, 0, 129, 177]
abbrev dktX2_takes_1 : List UInt8 := dkwX2_takes_1 ++ []
def dkwX2_takes_0 : List UInt8 := [42, 42, 180, 0, 132, 153, 0, 11, 27, 153, 0, 7, 4, 167, 0, 4, 3, 181, 0, 132, 42, 89]
abbrev dktX2_takes_0 : List UInt8 := dkwX2_takes_0 ++ dktX2_takes_1
theorem dksX2_takes_0 : cX2_takes.data.toList.drop 0 = dktX2_takes_0 := by decide +kernel
theorem dksX2_takes_1 : cX2_takes.data.toList.drop 22 = dktX2_takes_1 := dk_seg dksX2_takes_0 22 rfl rfl
theorem dX2_takes_0 : decode cX2_takes 0 = .ok (.aload_n 0, 1) := dk_42 (dk_at dksX2_takes_0 0 rfl rfl)
theorem dX2_takes_1 : decode cX2_takes 1 = .ok (.aload_n 0, 1) := dk_42 (dk_at dksX2_takes_0 1 rfl rfl)
theorem dX2_takes_2 : decode cX2_takes 2 = .ok (.getfield 132, 3) := dk_180 0 132 (dk_at dksX2_takes_0 2 rfl rfl)
theorem dX2_takes_5 : decode cX2_takes 5 = .ok (.ifCond .eq 11, 3) := dk_153 0 11 (dk_at dksX2_takes_0 5 rfl rfl)
theorem dX2_takes_8 : decode cX2_takes 8 = .ok (.iload_n 1, 1) := dk_27 (dk_at dksX2_takes_0 8 rfl rfl)
theorem dX2_takes_9 : decode cX2_takes 9 = .ok (.ifCond .eq 7, 3) := dk_153 0 7 (dk_at dksX2_takes_0 9 rfl rfl)
theorem dX2_takes_12 : decode cX2_takes 12 = .ok (.iconst 1, 1) := dk_4 (dk_at dksX2_takes_0 12 rfl rfl)
theorem dX2_takes_13 : decode cX2_takes 13 = .ok (.goto 4, 3) := dk_167 0 4 (dk_at dksX2_takes_0 13 rfl rfl)
theorem dX2_takes_16 : decode cX2_takes 16 = .ok (.iconst 0, 1) := dk_3 (dk_at dksX2_takes_0 16 rfl rfl)
theorem dX2_takes_17 : decode cX2_takes 17 = .ok (.putfield 132, 3) := dk_181 0 132 (dk_at dksX2_takes_0 17 rfl rfl)
theorem dX2_takes_20 : decode cX2_takes 20 = .ok (.aload_n 0, 1) := dk_42 (dk_at dksX2_takes_0 20 rfl rfl)
theorem dX2_takes_21 : decode cX2_takes 21 = .ok (.dup, 1) := dk_89 (dk_at dksX2_takes_0 21 rfl rfl)
theorem dX2_takes_22 : decode cX2_takes 22 = .ok (.getfield 129, 3) := dk_180 0 129 (dk_at dksX2_takes_1 0 rfl rfl)
theorem dX2_takes_25 : decode cX2_takes 25 = .ok (.aload_n 0, 1) := dk_42 (dk_at dksX2_takes_1 3 rfl rfl)
theorem dX2_takes_26 : decode cX2_takes 26 = .ok (.getfield 132, 3) := dk_180 0 132 (dk_at dksX2_takes_1 4 rfl rfl)
theorem dX2_takes_29 : decode cX2_takes 29 = .ok (.ifCond .eq 7, 3) := dk_153 0 7 (dk_at dksX2_takes_1 7 rfl rfl)
theorem dX2_takes_32 : decode cX2_takes 32 = .ok (.iconst 1, 1) := dk_4 (dk_at dksX2_takes_1 10 rfl rfl)
theorem dX2_takes_33 : decode cX2_takes 33 = .ok (.goto 4, 3) := dk_167 0 4 (dk_at dksX2_takes_1 11 rfl rfl)
theorem dX2_takes_36 : decode cX2_takes 36 = .ok (.iconst 0, 1) := dk_3 (dk_at dksX2_takes_1 14 rfl rfl)
theorem dX2_takes_37 : decode cX2_takes 37 = .ok (.iadd, 1) := dk_96 (dk_at dksX2_takes_1 15 rfl rfl)
theorem dX2_takes_38 : decode cX2_takes 38 = .ok (.putfield 129, 3) := dk_181 0 129 (dk_at dksX2_takes_1 16 rfl rfl)
theorem dX2_takes_41 : decode cX2_takes 41 = .ok (.return_, 1) := dk_177 (dk_at dksX2_takes_1 19 rfl rfl)
abbrev cX2_takesNumber : ByteArray := prog_7_method_41_code
def yX2_takesNumber : MethodName := ⟨RX2, "takesNumber", "(III)I"⟩
def dkwX2_takesNumber_4 : List UInt8 := [54, 4, 42, 89, 180, 0, 129, 4, 96, 181, 0, 129, 167, 255, 188, 21, 4, 172]
abbrev dktX2_takesNumber_4 : List UInt8 := dkwX2_takesNumber_4 ++ []
def dkwX2_takesNumber_3 : List UInt8 := [182, 0, 136, 96, 16, 48, 100, 29, 163, 0, 31, 16, 10, 21, 4, 104, 42, 182, 0, 136, 96, 16, 48, 100]
abbrev dktX2_takesNumber_3 : List UInt8 := dkwX2_takesNumber_3 ++ dktX2_takesNumber_4
def dkwX2_takesNumber_2 : List UInt8 := [158, 0, 62, 42, 182, 0, 136, 16, 48, 16, 57, 184, 0, 51, 153, 0, 48, 16, 10, 21, 4, 104, 42]
abbrev dktX2_takesNumber_2 : List UInt8 := dkwX2_takesNumber_2 ++ dktX2_takesNumber_3
def dkwX2_takesNumber_1 : List UInt8 := [54, 4, 42, 21, 4, 28, 16, 9, 184, 0, 51, 182, 0, 140, 42, 180, 0, 132, 153, 0, 67, 21, 4]
abbrev dktX2_takesNumber_1 : List UInt8 := dkwX2_takesNumber_1 ++ dktX2_takesNumber_2
def dkwX2_takesNumber_0 : List UInt8 := [42, 42, 182, 0, 136, 27, 160, 0, 7, 4, 167, 0, 4, 3, 182, 0, 140, 42, 182, 0, 136, 16, 48, 100]
abbrev dktX2_takesNumber_0 : List UInt8 := dkwX2_takesNumber_0 ++ dktX2_takesNumber_1
theorem dksX2_takesNumber_0 : cX2_takesNumber.data.toList.drop 0 = dktX2_takesNumber_0 := by decide +kernel
theorem dksX2_takesNumber_1 : cX2_takesNumber.data.toList.drop 24 = dktX2_takesNumber_1 := dk_seg dksX2_takesNumber_0 24 rfl rfl
theorem dksX2_takesNumber_2 : cX2_takesNumber.data.toList.drop 47 = dktX2_takesNumber_2 := dk_seg dksX2_takesNumber_1 23 rfl rfl
theorem dksX2_takesNumber_3 : cX2_takesNumber.data.toList.drop 70 = dktX2_takesNumber_3 := dk_seg dksX2_takesNumber_2 23 rfl rfl
theorem dksX2_takesNumber_4 : cX2_takesNumber.data.toList.drop 94 = dktX2_takesNumber_4 := dk_seg dksX2_takesNumber_3 24 rfl rfl
theorem dX2_takesNumber_0 : decode cX2_takesNumber 0 = .ok (.aload_n 0, 1) := dk_42 (dk_at dksX2_takesNumber_0 0 rfl rfl)
theorem dX2_takesNumber_1 : decode cX2_takesNumber 1 = .ok (.aload_n 0, 1) := dk_42 (dk_at dksX2_takesNumber_0 1 rfl rfl)
theorem dX2_takesNumber_2 : decode cX2_takesNumber 2 = .ok (.invokevirtual 136, 3) := dk_182 0 136 (dk_at dksX2_takesNumber_0 2 rfl rfl)
theorem dX2_takesNumber_5 : decode cX2_takesNumber 5 = .ok (.iload_n 1, 1) := dk_27 (dk_at dksX2_takesNumber_0 5 rfl rfl)
theorem dX2_takesNumber_6 : decode cX2_takesNumber 6 = .ok (.if_icmp .ne 7, 3) := dk_160 0 7 (dk_at dksX2_takesNumber_0 6 rfl rfl)
theorem dX2_takesNumber_9 : decode cX2_takesNumber 9 = .ok (.iconst 1, 1) := dk_4 (dk_at dksX2_takesNumber_0 9 rfl rfl)
theorem dX2_takesNumber_10 : decode cX2_takesNumber 10 = .ok (.goto 4, 3) := dk_167 0 4 (dk_at dksX2_takesNumber_0 10 rfl rfl)
theorem dX2_takesNumber_13 : decode cX2_takesNumber 13 = .ok (.iconst 0, 1) := dk_3 (dk_at dksX2_takesNumber_0 13 rfl rfl)
theorem dX2_takesNumber_14 : decode cX2_takesNumber 14 = .ok (.invokevirtual 140, 3) := dk_182 0 140 (dk_at dksX2_takesNumber_0 14 rfl rfl)
theorem dX2_takesNumber_17 : decode cX2_takesNumber 17 = .ok (.aload_n 0, 1) := dk_42 (dk_at dksX2_takesNumber_0 17 rfl rfl)
theorem dX2_takesNumber_18 : decode cX2_takesNumber 18 = .ok (.invokevirtual 136, 3) := dk_182 0 136 (dk_at dksX2_takesNumber_0 18 rfl rfl)
theorem dX2_takesNumber_21 : decode cX2_takesNumber 21 = .ok (.bipush 48, 2) := dk_16 48 (dk_at dksX2_takesNumber_0 21 rfl rfl)
theorem dX2_takesNumber_23 : decode cX2_takesNumber 23 = .ok (.isub, 1) := dk_100 (dk_at dksX2_takesNumber_0 23 rfl rfl)
theorem dX2_takesNumber_24 : decode cX2_takesNumber 24 = .ok (.istore 4, 2) := dk_54 4 (dk_at dksX2_takesNumber_1 0 rfl rfl)
theorem dX2_takesNumber_26 : decode cX2_takesNumber 26 = .ok (.aload_n 0, 1) := dk_42 (dk_at dksX2_takesNumber_1 2 rfl rfl)
theorem dX2_takesNumber_27 : decode cX2_takesNumber 27 = .ok (.iload 4, 2) := dk_21 4 (dk_at dksX2_takesNumber_1 3 rfl rfl)
theorem dX2_takesNumber_29 : decode cX2_takesNumber 29 = .ok (.iload_n 2, 1) := dk_28 (dk_at dksX2_takesNumber_1 5 rfl rfl)
theorem dX2_takesNumber_30 : decode cX2_takesNumber 30 = .ok (.bipush 9, 2) := dk_16 9 (dk_at dksX2_takesNumber_1 6 rfl rfl)
theorem dX2_takesNumber_32 : decode cX2_takesNumber 32 = .ok (.invokestatic 51, 3) := dk_184 0 51 (dk_at dksX2_takesNumber_1 8 rfl rfl)
theorem dX2_takesNumber_35 : decode cX2_takesNumber 35 = .ok (.invokevirtual 140, 3) := dk_182 0 140 (dk_at dksX2_takesNumber_1 11 rfl rfl)
theorem dX2_takesNumber_38 : decode cX2_takesNumber 38 = .ok (.aload_n 0, 1) := dk_42 (dk_at dksX2_takesNumber_1 14 rfl rfl)
theorem dX2_takesNumber_39 : decode cX2_takesNumber 39 = .ok (.getfield 132, 3) := dk_180 0 132 (dk_at dksX2_takesNumber_1 15 rfl rfl)
theorem dX2_takesNumber_42 : decode cX2_takesNumber 42 = .ok (.ifCond .eq 67, 3) := dk_153 0 67 (dk_at dksX2_takesNumber_1 18 rfl rfl)
theorem dX2_takesNumber_45 : decode cX2_takesNumber 45 = .ok (.iload 4, 2) := dk_21 4 (dk_at dksX2_takesNumber_1 21 rfl rfl)
theorem dX2_takesNumber_47 : decode cX2_takesNumber 47 = .ok (.ifCond .le 62, 3) := dk_158 0 62 (dk_at dksX2_takesNumber_2 0 rfl rfl)
theorem dX2_takesNumber_50 : decode cX2_takesNumber 50 = .ok (.aload_n 0, 1) := dk_42 (dk_at dksX2_takesNumber_2 3 rfl rfl)
theorem dX2_takesNumber_51 : decode cX2_takesNumber 51 = .ok (.invokevirtual 136, 3) := dk_182 0 136 (dk_at dksX2_takesNumber_2 4 rfl rfl)
theorem dX2_takesNumber_54 : decode cX2_takesNumber 54 = .ok (.bipush 48, 2) := dk_16 48 (dk_at dksX2_takesNumber_2 7 rfl rfl)
theorem dX2_takesNumber_56 : decode cX2_takesNumber 56 = .ok (.bipush 57, 2) := dk_16 57 (dk_at dksX2_takesNumber_2 9 rfl rfl)
theorem dX2_takesNumber_58 : decode cX2_takesNumber 58 = .ok (.invokestatic 51, 3) := dk_184 0 51 (dk_at dksX2_takesNumber_2 11 rfl rfl)
theorem dX2_takesNumber_61 : decode cX2_takesNumber 61 = .ok (.ifCond .eq 48, 3) := dk_153 0 48 (dk_at dksX2_takesNumber_2 14 rfl rfl)
theorem dX2_takesNumber_64 : decode cX2_takesNumber 64 = .ok (.bipush 10, 2) := dk_16 10 (dk_at dksX2_takesNumber_2 17 rfl rfl)
theorem dX2_takesNumber_66 : decode cX2_takesNumber 66 = .ok (.iload 4, 2) := dk_21 4 (dk_at dksX2_takesNumber_2 19 rfl rfl)
theorem dX2_takesNumber_68 : decode cX2_takesNumber 68 = .ok (.imul, 1) := dk_104 (dk_at dksX2_takesNumber_2 21 rfl rfl)
theorem dX2_takesNumber_69 : decode cX2_takesNumber 69 = .ok (.aload_n 0, 1) := dk_42 (dk_at dksX2_takesNumber_2 22 rfl rfl)
theorem dX2_takesNumber_70 : decode cX2_takesNumber 70 = .ok (.invokevirtual 136, 3) := dk_182 0 136 (dk_at dksX2_takesNumber_3 0 rfl rfl)
theorem dX2_takesNumber_73 : decode cX2_takesNumber 73 = .ok (.iadd, 1) := dk_96 (dk_at dksX2_takesNumber_3 3 rfl rfl)
theorem dX2_takesNumber_74 : decode cX2_takesNumber 74 = .ok (.bipush 48, 2) := dk_16 48 (dk_at dksX2_takesNumber_3 4 rfl rfl)
theorem dX2_takesNumber_76 : decode cX2_takesNumber 76 = .ok (.isub, 1) := dk_100 (dk_at dksX2_takesNumber_3 6 rfl rfl)
theorem dX2_takesNumber_77 : decode cX2_takesNumber 77 = .ok (.iload_n 3, 1) := dk_29 (dk_at dksX2_takesNumber_3 7 rfl rfl)
theorem dX2_takesNumber_78 : decode cX2_takesNumber 78 = .ok (.if_icmp .gt 31, 3) := dk_163 0 31 (dk_at dksX2_takesNumber_3 8 rfl rfl)
theorem dX2_takesNumber_81 : decode cX2_takesNumber 81 = .ok (.bipush 10, 2) := dk_16 10 (dk_at dksX2_takesNumber_3 11 rfl rfl)
theorem dX2_takesNumber_83 : decode cX2_takesNumber 83 = .ok (.iload 4, 2) := dk_21 4 (dk_at dksX2_takesNumber_3 13 rfl rfl)
theorem dX2_takesNumber_85 : decode cX2_takesNumber 85 = .ok (.imul, 1) := dk_104 (dk_at dksX2_takesNumber_3 15 rfl rfl)
theorem dX2_takesNumber_86 : decode cX2_takesNumber 86 = .ok (.aload_n 0, 1) := dk_42 (dk_at dksX2_takesNumber_3 16 rfl rfl)
theorem dX2_takesNumber_87 : decode cX2_takesNumber 87 = .ok (.invokevirtual 136, 3) := dk_182 0 136 (dk_at dksX2_takesNumber_3 17 rfl rfl)
theorem dX2_takesNumber_90 : decode cX2_takesNumber 90 = .ok (.iadd, 1) := dk_96 (dk_at dksX2_takesNumber_3 20 rfl rfl)
theorem dX2_takesNumber_91 : decode cX2_takesNumber 91 = .ok (.bipush 48, 2) := dk_16 48 (dk_at dksX2_takesNumber_3 21 rfl rfl)
theorem dX2_takesNumber_93 : decode cX2_takesNumber 93 = .ok (.isub, 1) := dk_100 (dk_at dksX2_takesNumber_3 23 rfl rfl)
theorem dX2_takesNumber_94 : decode cX2_takesNumber 94 = .ok (.istore 4, 2) := dk_54 4 (dk_at dksX2_takesNumber_4 0 rfl rfl)
theorem dX2_takesNumber_96 : decode cX2_takesNumber 96 = .ok (.aload_n 0, 1) := dk_42 (dk_at dksX2_takesNumber_4 2 rfl rfl)
theorem dX2_takesNumber_97 : decode cX2_takesNumber 97 = .ok (.dup, 1) := dk_89 (dk_at dksX2_takesNumber_4 3 rfl rfl)
theorem dX2_takesNumber_98 : decode cX2_takesNumber 98 = .ok (.getfield 129, 3) := dk_180 0 129 (dk_at dksX2_takesNumber_4 4 rfl rfl)
theorem dX2_takesNumber_101 : decode cX2_takesNumber 101 = .ok (.iconst 1, 1) := dk_4 (dk_at dksX2_takesNumber_4 7 rfl rfl)
theorem dX2_takesNumber_102 : decode cX2_takesNumber 102 = .ok (.iadd, 1) := dk_96 (dk_at dksX2_takesNumber_4 8 rfl rfl)
theorem dX2_takesNumber_103 : decode cX2_takesNumber 103 = .ok (.putfield 129, 3) := dk_181 0 129 (dk_at dksX2_takesNumber_4 9 rfl rfl)
theorem dX2_takesNumber_106 : decode cX2_takesNumber 106 = .ok (.goto (-68), 3) := dk_167 255 188 (dk_at dksX2_takesNumber_4 12 rfl rfl)
theorem dX2_takesNumber_109 : decode cX2_takesNumber 109 = .ok (.iload 4, 2) := dk_21 4 (dk_at dksX2_takesNumber_4 15 rfl rfl)
theorem dX2_takesNumber_111 : decode cX2_takesNumber 111 = .ok (.ireturn, 1) := dk_172 (dk_at dksX2_takesNumber_4 17 rfl rfl)
abbrev cX2_placeIn : ByteArray := prog_7_method_42_code
def yX2_placeIn : MethodName := ⟨RX2, "placeIn", "(I)I"⟩
def dkwX2_placeIn_1 : List UInt8 := [46, 27, 4, 96, 160, 0, 7, 4, 167, 0, 4, 3, 96, 61, 132, 3, 1, 167, 255, 219, 28, 172]
abbrev dktX2_placeIn_1 : List UInt8 := dkwX2_placeIn_1 ++ []
def dkwX2_placeIn_0 : List UInt8 := [3, 61, 3, 62, 29, 42, 180, 0, 144, 162, 0, 35, 28, 42, 180, 0, 25, 16, 9, 29, 104, 16, 7, 96]
abbrev dktX2_placeIn_0 : List UInt8 := dkwX2_placeIn_0 ++ dktX2_placeIn_1
theorem dksX2_placeIn_0 : cX2_placeIn.data.toList.drop 0 = dktX2_placeIn_0 := by decide +kernel
theorem dksX2_placeIn_1 : cX2_placeIn.data.toList.drop 24 = dktX2_placeIn_1 := dk_seg dksX2_placeIn_0 24 rfl rfl
theorem dX2_placeIn_0 : decode cX2_placeIn 0 = .ok (.iconst 0, 1) := dk_3 (dk_at dksX2_placeIn_0 0 rfl rfl)
theorem dX2_placeIn_1 : decode cX2_placeIn 1 = .ok (.istore_n 2, 1) := dk_61 (dk_at dksX2_placeIn_0 1 rfl rfl)
theorem dX2_placeIn_2 : decode cX2_placeIn 2 = .ok (.iconst 0, 1) := dk_3 (dk_at dksX2_placeIn_0 2 rfl rfl)
theorem dX2_placeIn_3 : decode cX2_placeIn 3 = .ok (.istore_n 3, 1) := dk_62 (dk_at dksX2_placeIn_0 3 rfl rfl)
theorem dX2_placeIn_4 : decode cX2_placeIn 4 = .ok (.iload_n 3, 1) := dk_29 (dk_at dksX2_placeIn_0 4 rfl rfl)
theorem dX2_placeIn_5 : decode cX2_placeIn 5 = .ok (.aload_n 0, 1) := dk_42 (dk_at dksX2_placeIn_0 5 rfl rfl)
theorem dX2_placeIn_6 : decode cX2_placeIn 6 = .ok (.getfield 144, 3) := dk_180 0 144 (dk_at dksX2_placeIn_0 6 rfl rfl)
theorem dX2_placeIn_9 : decode cX2_placeIn 9 = .ok (.if_icmp .ge 35, 3) := dk_162 0 35 (dk_at dksX2_placeIn_0 9 rfl rfl)
theorem dX2_placeIn_12 : decode cX2_placeIn 12 = .ok (.iload_n 2, 1) := dk_28 (dk_at dksX2_placeIn_0 12 rfl rfl)
theorem dX2_placeIn_13 : decode cX2_placeIn 13 = .ok (.aload_n 0, 1) := dk_42 (dk_at dksX2_placeIn_0 13 rfl rfl)
theorem dX2_placeIn_14 : decode cX2_placeIn 14 = .ok (.getfield 25, 3) := dk_180 0 25 (dk_at dksX2_placeIn_0 14 rfl rfl)
theorem dX2_placeIn_17 : decode cX2_placeIn 17 = .ok (.bipush 9, 2) := dk_16 9 (dk_at dksX2_placeIn_0 17 rfl rfl)
theorem dX2_placeIn_19 : decode cX2_placeIn 19 = .ok (.iload_n 3, 1) := dk_29 (dk_at dksX2_placeIn_0 19 rfl rfl)
theorem dX2_placeIn_20 : decode cX2_placeIn 20 = .ok (.imul, 1) := dk_104 (dk_at dksX2_placeIn_0 20 rfl rfl)
theorem dX2_placeIn_21 : decode cX2_placeIn 21 = .ok (.bipush 7, 2) := dk_16 7 (dk_at dksX2_placeIn_0 21 rfl rfl)
theorem dX2_placeIn_23 : decode cX2_placeIn 23 = .ok (.iadd, 1) := dk_96 (dk_at dksX2_placeIn_0 23 rfl rfl)
theorem dX2_placeIn_24 : decode cX2_placeIn 24 = .ok (.iaload, 1) := dk_46 (dk_at dksX2_placeIn_1 0 rfl rfl)
theorem dX2_placeIn_25 : decode cX2_placeIn 25 = .ok (.iload_n 1, 1) := dk_27 (dk_at dksX2_placeIn_1 1 rfl rfl)
theorem dX2_placeIn_26 : decode cX2_placeIn 26 = .ok (.iconst 1, 1) := dk_4 (dk_at dksX2_placeIn_1 2 rfl rfl)
theorem dX2_placeIn_27 : decode cX2_placeIn 27 = .ok (.iadd, 1) := dk_96 (dk_at dksX2_placeIn_1 3 rfl rfl)
theorem dX2_placeIn_28 : decode cX2_placeIn 28 = .ok (.if_icmp .ne 7, 3) := dk_160 0 7 (dk_at dksX2_placeIn_1 4 rfl rfl)
theorem dX2_placeIn_31 : decode cX2_placeIn 31 = .ok (.iconst 1, 1) := dk_4 (dk_at dksX2_placeIn_1 7 rfl rfl)
theorem dX2_placeIn_32 : decode cX2_placeIn 32 = .ok (.goto 4, 3) := dk_167 0 4 (dk_at dksX2_placeIn_1 8 rfl rfl)
theorem dX2_placeIn_35 : decode cX2_placeIn 35 = .ok (.iconst 0, 1) := dk_3 (dk_at dksX2_placeIn_1 11 rfl rfl)
theorem dX2_placeIn_36 : decode cX2_placeIn 36 = .ok (.iadd, 1) := dk_96 (dk_at dksX2_placeIn_1 12 rfl rfl)
theorem dX2_placeIn_37 : decode cX2_placeIn 37 = .ok (.istore_n 2, 1) := dk_61 (dk_at dksX2_placeIn_1 13 rfl rfl)
theorem dX2_placeIn_38 : decode cX2_placeIn 38 = .ok (.iinc 3 1, 3) := dk_132 3 1 (dk_at dksX2_placeIn_1 14 rfl rfl)
theorem dX2_placeIn_41 : decode cX2_placeIn 41 = .ok (.goto (-37), 3) := dk_167 255 219 (dk_at dksX2_placeIn_1 17 rfl rfl)
theorem dX2_placeIn_44 : decode cX2_placeIn 44 = .ok (.iload_n 2, 1) := dk_28 (dk_at dksX2_placeIn_1 20 rfl rfl)
theorem dX2_placeIn_45 : decode cX2_placeIn 45 = .ok (.ireturn, 1) := dk_172 (dk_at dksX2_placeIn_1 21 rfl rfl)
abbrev cX2_load : ByteArray := prog_7_method_47_code
def yX2_load : MethodName := ⟨RX2, "load", "()I"⟩
def dkwX2_load_7 : List UInt8 := [182, 0, 104, 132, 2, 1, 167, 255, 133, 42, 3, 181, 0, 126, 42, 180, 0, 7, 3, 46, 172]
abbrev dktX2_load_7 : List UInt8 := dkwX2_load_7 ++ []
def dkwX2_load_6 : List UInt8 := [4, 96, 46, 42, 180, 0, 25, 29, 5, 96, 46, 21, 4, 42, 180, 0, 25, 29, 16, 8, 96, 46]
abbrev dktX2_load_6 : List UInt8 := dkwX2_load_6 ++ dktX2_load_7
def dkwX2_load_5 : List UInt8 := [29, 16, 7, 96, 46, 96, 4, 100, 54, 4, 42, 42, 180, 0, 25, 29, 3, 96, 46, 42, 180, 0, 25, 29]
abbrev dktX2_load_5 : List UInt8 := dkwX2_load_5 ++ dktX2_load_6
def dkwX2_load_4 : List UInt8 := [167, 255, 225, 42, 180, 0, 25, 29, 16, 7, 96, 46, 154, 0, 7, 2, 167, 0, 16, 27, 42, 180, 0, 25]
abbrev dktX2_load_4 : List UInt8 := dkwX2_load_4 ++ dktX2_load_5
def dkwX2_load_3 : List UInt8 := [27, 28, 96, 6, 21, 4, 96, 42, 180, 0, 25, 29, 6, 96, 21, 4, 96, 46, 182, 0, 93, 132, 4, 1]
abbrev dktX2_load_3 : List UInt8 := dkwX2_load_3 ++ dktX2_load_4
def dkwX2_load_2 : List UInt8 := [61, 28, 42, 180, 0, 144, 162, 0, 121, 16, 9, 28, 104, 62, 3, 54, 4, 21, 4, 7, 162, 0, 31, 42]
abbrev dktX2_load_2 : List UInt8 := dkwX2_load_2 ++ dktX2_load_3
def dkwX2_load_1 : List UInt8 := [180, 0, 144, 96, 16, 12, 164, 0, 6, 16, 253, 172, 42, 182, 0, 101, 42, 180, 0, 7, 3, 46, 60, 3]
abbrev dktX2_load_1 : List UInt8 := dkwX2_load_1 ++ dktX2_load_2
def dkwX2_load_0 : List UInt8 := [42, 182, 0, 160, 153, 0, 10, 42, 182, 0, 164, 154, 0, 6, 16, 254, 172, 42, 180, 0, 7, 3, 46, 42]
abbrev dktX2_load_0 : List UInt8 := dkwX2_load_0 ++ dktX2_load_1
theorem dksX2_load_0 : cX2_load.data.toList.drop 0 = dktX2_load_0 := by decide +kernel
theorem dksX2_load_1 : cX2_load.data.toList.drop 24 = dktX2_load_1 := dk_seg dksX2_load_0 24 rfl rfl
theorem dksX2_load_2 : cX2_load.data.toList.drop 48 = dktX2_load_2 := dk_seg dksX2_load_1 24 rfl rfl
theorem dksX2_load_3 : cX2_load.data.toList.drop 72 = dktX2_load_3 := dk_seg dksX2_load_2 24 rfl rfl
theorem dksX2_load_4 : cX2_load.data.toList.drop 96 = dktX2_load_4 := dk_seg dksX2_load_3 24 rfl rfl
theorem dksX2_load_5 : cX2_load.data.toList.drop 120 = dktX2_load_5 := dk_seg dksX2_load_4 24 rfl rfl
theorem dksX2_load_6 : cX2_load.data.toList.drop 144 = dktX2_load_6 := dk_seg dksX2_load_5 24 rfl rfl
theorem dksX2_load_7 : cX2_load.data.toList.drop 166 = dktX2_load_7 := dk_seg dksX2_load_6 22 rfl rfl
theorem dX2_load_0 : decode cX2_load 0 = .ok (.aload_n 0, 1) := dk_42 (dk_at dksX2_load_0 0 rfl rfl)
theorem dX2_load_1 : decode cX2_load 1 = .ok (.invokevirtual 160, 3) := dk_182 0 160 (dk_at dksX2_load_0 1 rfl rfl)
theorem dX2_load_4 : decode cX2_load 4 = .ok (.ifCond .eq 10, 3) := dk_153 0 10 (dk_at dksX2_load_0 4 rfl rfl)
theorem dX2_load_7 : decode cX2_load 7 = .ok (.aload_n 0, 1) := dk_42 (dk_at dksX2_load_0 7 rfl rfl)
theorem dX2_load_8 : decode cX2_load 8 = .ok (.invokevirtual 164, 3) := dk_182 0 164 (dk_at dksX2_load_0 8 rfl rfl)
theorem dX2_load_11 : decode cX2_load 11 = .ok (.ifCond .ne 6, 3) := dk_154 0 6 (dk_at dksX2_load_0 11 rfl rfl)
theorem dX2_load_14 : decode cX2_load 14 = .ok (.bipush (-2), 2) := dk_16 254 (dk_at dksX2_load_0 14 rfl rfl)
theorem dX2_load_16 : decode cX2_load 16 = .ok (.ireturn, 1) := dk_172 (dk_at dksX2_load_0 16 rfl rfl)
theorem dX2_load_17 : decode cX2_load 17 = .ok (.aload_n 0, 1) := dk_42 (dk_at dksX2_load_0 17 rfl rfl)
theorem dX2_load_18 : decode cX2_load 18 = .ok (.getfield 7, 3) := dk_180 0 7 (dk_at dksX2_load_0 18 rfl rfl)
theorem dX2_load_21 : decode cX2_load 21 = .ok (.iconst 0, 1) := dk_3 (dk_at dksX2_load_0 21 rfl rfl)
theorem dX2_load_22 : decode cX2_load 22 = .ok (.iaload, 1) := dk_46 (dk_at dksX2_load_0 22 rfl rfl)
theorem dX2_load_23 : decode cX2_load 23 = .ok (.aload_n 0, 1) := dk_42 (dk_at dksX2_load_0 23 rfl rfl)
theorem dX2_load_24 : decode cX2_load 24 = .ok (.getfield 144, 3) := dk_180 0 144 (dk_at dksX2_load_1 0 rfl rfl)
theorem dX2_load_27 : decode cX2_load 27 = .ok (.iadd, 1) := dk_96 (dk_at dksX2_load_1 3 rfl rfl)
theorem dX2_load_28 : decode cX2_load 28 = .ok (.bipush 12, 2) := dk_16 12 (dk_at dksX2_load_1 4 rfl rfl)
theorem dX2_load_30 : decode cX2_load 30 = .ok (.if_icmp .le 6, 3) := dk_164 0 6 (dk_at dksX2_load_1 6 rfl rfl)
theorem dX2_load_33 : decode cX2_load 33 = .ok (.bipush (-3), 2) := dk_16 253 (dk_at dksX2_load_1 9 rfl rfl)
theorem dX2_load_35 : decode cX2_load 35 = .ok (.ireturn, 1) := dk_172 (dk_at dksX2_load_1 11 rfl rfl)
theorem dX2_load_36 : decode cX2_load 36 = .ok (.aload_n 0, 1) := dk_42 (dk_at dksX2_load_1 12 rfl rfl)
theorem dX2_load_37 : decode cX2_load 37 = .ok (.invokevirtual 101, 3) := dk_182 0 101 (dk_at dksX2_load_1 13 rfl rfl)
theorem dX2_load_40 : decode cX2_load 40 = .ok (.aload_n 0, 1) := dk_42 (dk_at dksX2_load_1 16 rfl rfl)
theorem dX2_load_41 : decode cX2_load 41 = .ok (.getfield 7, 3) := dk_180 0 7 (dk_at dksX2_load_1 17 rfl rfl)
theorem dX2_load_44 : decode cX2_load 44 = .ok (.iconst 0, 1) := dk_3 (dk_at dksX2_load_1 20 rfl rfl)
theorem dX2_load_45 : decode cX2_load 45 = .ok (.iaload, 1) := dk_46 (dk_at dksX2_load_1 21 rfl rfl)
theorem dX2_load_46 : decode cX2_load 46 = .ok (.istore_n 1, 1) := dk_60 (dk_at dksX2_load_1 22 rfl rfl)
theorem dX2_load_47 : decode cX2_load 47 = .ok (.iconst 0, 1) := dk_3 (dk_at dksX2_load_1 23 rfl rfl)
theorem dX2_load_48 : decode cX2_load 48 = .ok (.istore_n 2, 1) := dk_61 (dk_at dksX2_load_2 0 rfl rfl)
theorem dX2_load_49 : decode cX2_load 49 = .ok (.iload_n 2, 1) := dk_28 (dk_at dksX2_load_2 1 rfl rfl)
theorem dX2_load_50 : decode cX2_load 50 = .ok (.aload_n 0, 1) := dk_42 (dk_at dksX2_load_2 2 rfl rfl)
theorem dX2_load_51 : decode cX2_load 51 = .ok (.getfield 144, 3) := dk_180 0 144 (dk_at dksX2_load_2 3 rfl rfl)
theorem dX2_load_54 : decode cX2_load 54 = .ok (.if_icmp .ge 121, 3) := dk_162 0 121 (dk_at dksX2_load_2 6 rfl rfl)
theorem dX2_load_57 : decode cX2_load 57 = .ok (.bipush 9, 2) := dk_16 9 (dk_at dksX2_load_2 9 rfl rfl)
theorem dX2_load_59 : decode cX2_load 59 = .ok (.iload_n 2, 1) := dk_28 (dk_at dksX2_load_2 11 rfl rfl)
theorem dX2_load_60 : decode cX2_load 60 = .ok (.imul, 1) := dk_104 (dk_at dksX2_load_2 12 rfl rfl)
theorem dX2_load_61 : decode cX2_load 61 = .ok (.istore_n 3, 1) := dk_62 (dk_at dksX2_load_2 13 rfl rfl)
theorem dX2_load_62 : decode cX2_load 62 = .ok (.iconst 0, 1) := dk_3 (dk_at dksX2_load_2 14 rfl rfl)
theorem dX2_load_63 : decode cX2_load 63 = .ok (.istore 4, 2) := dk_54 4 (dk_at dksX2_load_2 15 rfl rfl)
theorem dX2_load_65 : decode cX2_load 65 = .ok (.iload 4, 2) := dk_21 4 (dk_at dksX2_load_2 17 rfl rfl)
theorem dX2_load_67 : decode cX2_load 67 = .ok (.iconst 4, 1) := dk_7 (dk_at dksX2_load_2 19 rfl rfl)
theorem dX2_load_68 : decode cX2_load 68 = .ok (.if_icmp .ge 31, 3) := dk_162 0 31 (dk_at dksX2_load_2 20 rfl rfl)
theorem dX2_load_71 : decode cX2_load 71 = .ok (.aload_n 0, 1) := dk_42 (dk_at dksX2_load_2 23 rfl rfl)
theorem dX2_load_72 : decode cX2_load 72 = .ok (.iload_n 1, 1) := dk_27 (dk_at dksX2_load_3 0 rfl rfl)
theorem dX2_load_73 : decode cX2_load 73 = .ok (.iload_n 2, 1) := dk_28 (dk_at dksX2_load_3 1 rfl rfl)
theorem dX2_load_74 : decode cX2_load 74 = .ok (.iadd, 1) := dk_96 (dk_at dksX2_load_3 2 rfl rfl)
theorem dX2_load_75 : decode cX2_load 75 = .ok (.iconst 3, 1) := dk_6 (dk_at dksX2_load_3 3 rfl rfl)
theorem dX2_load_76 : decode cX2_load 76 = .ok (.iload 4, 2) := dk_21 4 (dk_at dksX2_load_3 4 rfl rfl)
theorem dX2_load_78 : decode cX2_load 78 = .ok (.iadd, 1) := dk_96 (dk_at dksX2_load_3 6 rfl rfl)
theorem dX2_load_79 : decode cX2_load 79 = .ok (.aload_n 0, 1) := dk_42 (dk_at dksX2_load_3 7 rfl rfl)
theorem dX2_load_80 : decode cX2_load 80 = .ok (.getfield 25, 3) := dk_180 0 25 (dk_at dksX2_load_3 8 rfl rfl)
theorem dX2_load_83 : decode cX2_load 83 = .ok (.iload_n 3, 1) := dk_29 (dk_at dksX2_load_3 11 rfl rfl)
theorem dX2_load_84 : decode cX2_load 84 = .ok (.iconst 3, 1) := dk_6 (dk_at dksX2_load_3 12 rfl rfl)
theorem dX2_load_85 : decode cX2_load 85 = .ok (.iadd, 1) := dk_96 (dk_at dksX2_load_3 13 rfl rfl)
theorem dX2_load_86 : decode cX2_load 86 = .ok (.iload 4, 2) := dk_21 4 (dk_at dksX2_load_3 14 rfl rfl)
theorem dX2_load_88 : decode cX2_load 88 = .ok (.iadd, 1) := dk_96 (dk_at dksX2_load_3 16 rfl rfl)
theorem dX2_load_89 : decode cX2_load 89 = .ok (.iaload, 1) := dk_46 (dk_at dksX2_load_3 17 rfl rfl)
theorem dX2_load_90 : decode cX2_load 90 = .ok (.invokevirtual 93, 3) := dk_182 0 93 (dk_at dksX2_load_3 18 rfl rfl)
theorem dX2_load_93 : decode cX2_load 93 = .ok (.iinc 4 1, 3) := dk_132 4 1 (dk_at dksX2_load_3 21 rfl rfl)
theorem dX2_load_96 : decode cX2_load 96 = .ok (.goto (-31), 3) := dk_167 255 225 (dk_at dksX2_load_4 0 rfl rfl)
theorem dX2_load_99 : decode cX2_load 99 = .ok (.aload_n 0, 1) := dk_42 (dk_at dksX2_load_4 3 rfl rfl)
theorem dX2_load_100 : decode cX2_load 100 = .ok (.getfield 25, 3) := dk_180 0 25 (dk_at dksX2_load_4 4 rfl rfl)
theorem dX2_load_103 : decode cX2_load 103 = .ok (.iload_n 3, 1) := dk_29 (dk_at dksX2_load_4 7 rfl rfl)
theorem dX2_load_104 : decode cX2_load 104 = .ok (.bipush 7, 2) := dk_16 7 (dk_at dksX2_load_4 8 rfl rfl)
theorem dX2_load_106 : decode cX2_load 106 = .ok (.iadd, 1) := dk_96 (dk_at dksX2_load_4 10 rfl rfl)
theorem dX2_load_107 : decode cX2_load 107 = .ok (.iaload, 1) := dk_46 (dk_at dksX2_load_4 11 rfl rfl)
theorem dX2_load_108 : decode cX2_load 108 = .ok (.ifCond .ne 7, 3) := dk_154 0 7 (dk_at dksX2_load_4 12 rfl rfl)
theorem dX2_load_111 : decode cX2_load 111 = .ok (.iconst (-1), 1) := dk_2 (dk_at dksX2_load_4 15 rfl rfl)
theorem dX2_load_112 : decode cX2_load 112 = .ok (.goto 16, 3) := dk_167 0 16 (dk_at dksX2_load_4 16 rfl rfl)
theorem dX2_load_115 : decode cX2_load 115 = .ok (.iload_n 1, 1) := dk_27 (dk_at dksX2_load_4 19 rfl rfl)
theorem dX2_load_116 : decode cX2_load 116 = .ok (.aload_n 0, 1) := dk_42 (dk_at dksX2_load_4 20 rfl rfl)
theorem dX2_load_117 : decode cX2_load 117 = .ok (.getfield 25, 3) := dk_180 0 25 (dk_at dksX2_load_4 21 rfl rfl)
theorem dX2_load_120 : decode cX2_load 120 = .ok (.iload_n 3, 1) := dk_29 (dk_at dksX2_load_5 0 rfl rfl)
theorem dX2_load_121 : decode cX2_load 121 = .ok (.bipush 7, 2) := dk_16 7 (dk_at dksX2_load_5 1 rfl rfl)
theorem dX2_load_123 : decode cX2_load 123 = .ok (.iadd, 1) := dk_96 (dk_at dksX2_load_5 3 rfl rfl)
theorem dX2_load_124 : decode cX2_load 124 = .ok (.iaload, 1) := dk_46 (dk_at dksX2_load_5 4 rfl rfl)
theorem dX2_load_125 : decode cX2_load 125 = .ok (.iadd, 1) := dk_96 (dk_at dksX2_load_5 5 rfl rfl)
theorem dX2_load_126 : decode cX2_load 126 = .ok (.iconst 1, 1) := dk_4 (dk_at dksX2_load_5 6 rfl rfl)
theorem dX2_load_127 : decode cX2_load 127 = .ok (.isub, 1) := dk_100 (dk_at dksX2_load_5 7 rfl rfl)
theorem dX2_load_128 : decode cX2_load 128 = .ok (.istore 4, 2) := dk_54 4 (dk_at dksX2_load_5 8 rfl rfl)
theorem dX2_load_130 : decode cX2_load 130 = .ok (.aload_n 0, 1) := dk_42 (dk_at dksX2_load_5 10 rfl rfl)
theorem dX2_load_131 : decode cX2_load 131 = .ok (.aload_n 0, 1) := dk_42 (dk_at dksX2_load_5 11 rfl rfl)
theorem dX2_load_132 : decode cX2_load 132 = .ok (.getfield 25, 3) := dk_180 0 25 (dk_at dksX2_load_5 12 rfl rfl)
theorem dX2_load_135 : decode cX2_load 135 = .ok (.iload_n 3, 1) := dk_29 (dk_at dksX2_load_5 15 rfl rfl)
theorem dX2_load_136 : decode cX2_load 136 = .ok (.iconst 0, 1) := dk_3 (dk_at dksX2_load_5 16 rfl rfl)
theorem dX2_load_137 : decode cX2_load 137 = .ok (.iadd, 1) := dk_96 (dk_at dksX2_load_5 17 rfl rfl)
theorem dX2_load_138 : decode cX2_load 138 = .ok (.iaload, 1) := dk_46 (dk_at dksX2_load_5 18 rfl rfl)
theorem dX2_load_139 : decode cX2_load 139 = .ok (.aload_n 0, 1) := dk_42 (dk_at dksX2_load_5 19 rfl rfl)
theorem dX2_load_140 : decode cX2_load 140 = .ok (.getfield 25, 3) := dk_180 0 25 (dk_at dksX2_load_5 20 rfl rfl)
theorem dX2_load_143 : decode cX2_load 143 = .ok (.iload_n 3, 1) := dk_29 (dk_at dksX2_load_5 23 rfl rfl)
theorem dX2_load_144 : decode cX2_load 144 = .ok (.iconst 1, 1) := dk_4 (dk_at dksX2_load_6 0 rfl rfl)
theorem dX2_load_145 : decode cX2_load 145 = .ok (.iadd, 1) := dk_96 (dk_at dksX2_load_6 1 rfl rfl)
theorem dX2_load_146 : decode cX2_load 146 = .ok (.iaload, 1) := dk_46 (dk_at dksX2_load_6 2 rfl rfl)
theorem dX2_load_147 : decode cX2_load 147 = .ok (.aload_n 0, 1) := dk_42 (dk_at dksX2_load_6 3 rfl rfl)
theorem dX2_load_148 : decode cX2_load 148 = .ok (.getfield 25, 3) := dk_180 0 25 (dk_at dksX2_load_6 4 rfl rfl)
theorem dX2_load_151 : decode cX2_load 151 = .ok (.iload_n 3, 1) := dk_29 (dk_at dksX2_load_6 7 rfl rfl)
theorem dX2_load_152 : decode cX2_load 152 = .ok (.iconst 2, 1) := dk_5 (dk_at dksX2_load_6 8 rfl rfl)
theorem dX2_load_153 : decode cX2_load 153 = .ok (.iadd, 1) := dk_96 (dk_at dksX2_load_6 9 rfl rfl)
theorem dX2_load_154 : decode cX2_load 154 = .ok (.iaload, 1) := dk_46 (dk_at dksX2_load_6 10 rfl rfl)
theorem dX2_load_155 : decode cX2_load 155 = .ok (.iload 4, 2) := dk_21 4 (dk_at dksX2_load_6 11 rfl rfl)
theorem dX2_load_157 : decode cX2_load 157 = .ok (.aload_n 0, 1) := dk_42 (dk_at dksX2_load_6 13 rfl rfl)
theorem dX2_load_158 : decode cX2_load 158 = .ok (.getfield 25, 3) := dk_180 0 25 (dk_at dksX2_load_6 14 rfl rfl)
theorem dX2_load_161 : decode cX2_load 161 = .ok (.iload_n 3, 1) := dk_29 (dk_at dksX2_load_6 17 rfl rfl)
theorem dX2_load_162 : decode cX2_load 162 = .ok (.bipush 8, 2) := dk_16 8 (dk_at dksX2_load_6 18 rfl rfl)
theorem dX2_load_164 : decode cX2_load 164 = .ok (.iadd, 1) := dk_96 (dk_at dksX2_load_6 20 rfl rfl)
theorem dX2_load_165 : decode cX2_load 165 = .ok (.iaload, 1) := dk_46 (dk_at dksX2_load_6 21 rfl rfl)
theorem dX2_load_166 : decode cX2_load 166 = .ok (.invokevirtual 104, 3) := dk_182 0 104 (dk_at dksX2_load_7 0 rfl rfl)
theorem dX2_load_169 : decode cX2_load 169 = .ok (.iinc 2 1, 3) := dk_132 2 1 (dk_at dksX2_load_7 3 rfl rfl)
theorem dX2_load_172 : decode cX2_load 172 = .ok (.goto (-123), 3) := dk_167 255 133 (dk_at dksX2_load_7 6 rfl rfl)
theorem dX2_load_175 : decode cX2_load 175 = .ok (.aload_n 0, 1) := dk_42 (dk_at dksX2_load_7 9 rfl rfl)
theorem dX2_load_176 : decode cX2_load 176 = .ok (.iconst 0, 1) := dk_3 (dk_at dksX2_load_7 10 rfl rfl)
theorem dX2_load_177 : decode cX2_load 177 = .ok (.putfield 126, 3) := dk_181 0 126 (dk_at dksX2_load_7 11 rfl rfl)
theorem dX2_load_180 : decode cX2_load 180 = .ok (.aload_n 0, 1) := dk_42 (dk_at dksX2_load_7 14 rfl rfl)
theorem dX2_load_181 : decode cX2_load 181 = .ok (.getfield 7, 3) := dk_180 0 7 (dk_at dksX2_load_7 15 rfl rfl)
theorem dX2_load_184 : decode cX2_load 184 = .ok (.iconst 0, 1) := dk_3 (dk_at dksX2_load_7 18 rfl rfl)
theorem dX2_load_185 : decode cX2_load 185 = .ok (.iaload, 1) := dk_46 (dk_at dksX2_load_7 19 rfl rfl)
theorem dX2_load_186 : decode cX2_load 186 = .ok (.ireturn, 1) := dk_172 (dk_at dksX2_load_7 20 rfl rfl)
abbrev cX2_doFit : ByteArray := prog_7_method_46_code
def yX2_doFit : MethodName := ⟨RX2, "doFit", "()Z"⟩
def dkwX2_doFit_5 : List UInt8 := [3, 60, 132, 2, 1, 167, 255, 138, 27, 172]
abbrev dktX2_doFit_5 : List UInt8 := dkwX2_doFit_5 ++ []
def dkwX2_doFit_4 : List UInt8 := [167, 0, 4, 3, 100, 62, 132, 4, 1, 167, 255, 206, 27, 153, 0, 11, 29, 155, 0, 7, 4, 167, 0, 4]
abbrev dktX2_doFit_4 : List UInt8 := dkwX2_doFit_4 ++ dktX2_doFit_5
def dkwX2_doFit_3 : List UInt8 := [16, 7, 96, 46, 28, 4, 96, 160, 0, 18, 42, 180, 0, 25, 16, 9, 21, 4, 104, 3, 96, 46]
abbrev dktX2_doFit_3 : List UInt8 := dkwX2_doFit_3 ++ dktX2_doFit_4
def dkwX2_doFit_2 : List UInt8 := [60, 3, 54, 4, 21, 4, 42, 180, 0, 144, 162, 0, 47, 29, 42, 180, 0, 25, 16, 9, 21, 4, 104]
abbrev dktX2_doFit_2 : List UInt8 := dkwX2_doFit_2 ++ dktX2_doFit_3
def dkwX2_doFit_1 : List UInt8 := [27, 153, 0, 22, 29, 42, 180, 0, 25, 16, 9, 28, 104, 3, 96, 46, 162, 0, 7, 4, 167, 0, 4, 3]
abbrev dktX2_doFit_1 : List UInt8 := dkwX2_doFit_1 ++ dktX2_doFit_2
def dkwX2_doFit_0 : List UInt8 := [4, 60, 3, 61, 28, 42, 180, 0, 144, 162, 0, 116, 42, 180, 0, 25, 16, 9, 28, 104, 4, 96, 46, 62]
abbrev dktX2_doFit_0 : List UInt8 := dkwX2_doFit_0 ++ dktX2_doFit_1
theorem dksX2_doFit_0 : cX2_doFit.data.toList.drop 0 = dktX2_doFit_0 := by decide +kernel
theorem dksX2_doFit_1 : cX2_doFit.data.toList.drop 24 = dktX2_doFit_1 := dk_seg dksX2_doFit_0 24 rfl rfl
theorem dksX2_doFit_2 : cX2_doFit.data.toList.drop 48 = dktX2_doFit_2 := dk_seg dksX2_doFit_1 24 rfl rfl
theorem dksX2_doFit_3 : cX2_doFit.data.toList.drop 71 = dktX2_doFit_3 := dk_seg dksX2_doFit_2 23 rfl rfl
theorem dksX2_doFit_4 : cX2_doFit.data.toList.drop 93 = dktX2_doFit_4 := dk_seg dksX2_doFit_3 22 rfl rfl
theorem dksX2_doFit_5 : cX2_doFit.data.toList.drop 117 = dktX2_doFit_5 := dk_seg dksX2_doFit_4 24 rfl rfl
theorem dX2_doFit_0 : decode cX2_doFit 0 = .ok (.iconst 1, 1) := dk_4 (dk_at dksX2_doFit_0 0 rfl rfl)
theorem dX2_doFit_1 : decode cX2_doFit 1 = .ok (.istore_n 1, 1) := dk_60 (dk_at dksX2_doFit_0 1 rfl rfl)
theorem dX2_doFit_2 : decode cX2_doFit 2 = .ok (.iconst 0, 1) := dk_3 (dk_at dksX2_doFit_0 2 rfl rfl)
theorem dX2_doFit_3 : decode cX2_doFit 3 = .ok (.istore_n 2, 1) := dk_61 (dk_at dksX2_doFit_0 3 rfl rfl)
theorem dX2_doFit_4 : decode cX2_doFit 4 = .ok (.iload_n 2, 1) := dk_28 (dk_at dksX2_doFit_0 4 rfl rfl)
theorem dX2_doFit_5 : decode cX2_doFit 5 = .ok (.aload_n 0, 1) := dk_42 (dk_at dksX2_doFit_0 5 rfl rfl)
theorem dX2_doFit_6 : decode cX2_doFit 6 = .ok (.getfield 144, 3) := dk_180 0 144 (dk_at dksX2_doFit_0 6 rfl rfl)
theorem dX2_doFit_9 : decode cX2_doFit 9 = .ok (.if_icmp .ge 116, 3) := dk_162 0 116 (dk_at dksX2_doFit_0 9 rfl rfl)
theorem dX2_doFit_12 : decode cX2_doFit 12 = .ok (.aload_n 0, 1) := dk_42 (dk_at dksX2_doFit_0 12 rfl rfl)
theorem dX2_doFit_13 : decode cX2_doFit 13 = .ok (.getfield 25, 3) := dk_180 0 25 (dk_at dksX2_doFit_0 13 rfl rfl)
theorem dX2_doFit_16 : decode cX2_doFit 16 = .ok (.bipush 9, 2) := dk_16 9 (dk_at dksX2_doFit_0 16 rfl rfl)
theorem dX2_doFit_18 : decode cX2_doFit 18 = .ok (.iload_n 2, 1) := dk_28 (dk_at dksX2_doFit_0 18 rfl rfl)
theorem dX2_doFit_19 : decode cX2_doFit 19 = .ok (.imul, 1) := dk_104 (dk_at dksX2_doFit_0 19 rfl rfl)
theorem dX2_doFit_20 : decode cX2_doFit 20 = .ok (.iconst 1, 1) := dk_4 (dk_at dksX2_doFit_0 20 rfl rfl)
theorem dX2_doFit_21 : decode cX2_doFit 21 = .ok (.iadd, 1) := dk_96 (dk_at dksX2_doFit_0 21 rfl rfl)
theorem dX2_doFit_22 : decode cX2_doFit 22 = .ok (.iaload, 1) := dk_46 (dk_at dksX2_doFit_0 22 rfl rfl)
theorem dX2_doFit_23 : decode cX2_doFit 23 = .ok (.istore_n 3, 1) := dk_62 (dk_at dksX2_doFit_0 23 rfl rfl)
theorem dX2_doFit_24 : decode cX2_doFit 24 = .ok (.iload_n 1, 1) := dk_27 (dk_at dksX2_doFit_1 0 rfl rfl)
theorem dX2_doFit_25 : decode cX2_doFit 25 = .ok (.ifCond .eq 22, 3) := dk_153 0 22 (dk_at dksX2_doFit_1 1 rfl rfl)
theorem dX2_doFit_28 : decode cX2_doFit 28 = .ok (.iload_n 3, 1) := dk_29 (dk_at dksX2_doFit_1 4 rfl rfl)
theorem dX2_doFit_29 : decode cX2_doFit 29 = .ok (.aload_n 0, 1) := dk_42 (dk_at dksX2_doFit_1 5 rfl rfl)
theorem dX2_doFit_30 : decode cX2_doFit 30 = .ok (.getfield 25, 3) := dk_180 0 25 (dk_at dksX2_doFit_1 6 rfl rfl)
theorem dX2_doFit_33 : decode cX2_doFit 33 = .ok (.bipush 9, 2) := dk_16 9 (dk_at dksX2_doFit_1 9 rfl rfl)
theorem dX2_doFit_35 : decode cX2_doFit 35 = .ok (.iload_n 2, 1) := dk_28 (dk_at dksX2_doFit_1 11 rfl rfl)
theorem dX2_doFit_36 : decode cX2_doFit 36 = .ok (.imul, 1) := dk_104 (dk_at dksX2_doFit_1 12 rfl rfl)
theorem dX2_doFit_37 : decode cX2_doFit 37 = .ok (.iconst 0, 1) := dk_3 (dk_at dksX2_doFit_1 13 rfl rfl)
theorem dX2_doFit_38 : decode cX2_doFit 38 = .ok (.iadd, 1) := dk_96 (dk_at dksX2_doFit_1 14 rfl rfl)
theorem dX2_doFit_39 : decode cX2_doFit 39 = .ok (.iaload, 1) := dk_46 (dk_at dksX2_doFit_1 15 rfl rfl)
theorem dX2_doFit_40 : decode cX2_doFit 40 = .ok (.if_icmp .ge 7, 3) := dk_162 0 7 (dk_at dksX2_doFit_1 16 rfl rfl)
theorem dX2_doFit_43 : decode cX2_doFit 43 = .ok (.iconst 1, 1) := dk_4 (dk_at dksX2_doFit_1 19 rfl rfl)
theorem dX2_doFit_44 : decode cX2_doFit 44 = .ok (.goto 4, 3) := dk_167 0 4 (dk_at dksX2_doFit_1 20 rfl rfl)
theorem dX2_doFit_47 : decode cX2_doFit 47 = .ok (.iconst 0, 1) := dk_3 (dk_at dksX2_doFit_1 23 rfl rfl)
theorem dX2_doFit_48 : decode cX2_doFit 48 = .ok (.istore_n 1, 1) := dk_60 (dk_at dksX2_doFit_2 0 rfl rfl)
theorem dX2_doFit_49 : decode cX2_doFit 49 = .ok (.iconst 0, 1) := dk_3 (dk_at dksX2_doFit_2 1 rfl rfl)
theorem dX2_doFit_50 : decode cX2_doFit 50 = .ok (.istore 4, 2) := dk_54 4 (dk_at dksX2_doFit_2 2 rfl rfl)
theorem dX2_doFit_52 : decode cX2_doFit 52 = .ok (.iload 4, 2) := dk_21 4 (dk_at dksX2_doFit_2 4 rfl rfl)
theorem dX2_doFit_54 : decode cX2_doFit 54 = .ok (.aload_n 0, 1) := dk_42 (dk_at dksX2_doFit_2 6 rfl rfl)
theorem dX2_doFit_55 : decode cX2_doFit 55 = .ok (.getfield 144, 3) := dk_180 0 144 (dk_at dksX2_doFit_2 7 rfl rfl)
theorem dX2_doFit_58 : decode cX2_doFit 58 = .ok (.if_icmp .ge 47, 3) := dk_162 0 47 (dk_at dksX2_doFit_2 10 rfl rfl)
theorem dX2_doFit_61 : decode cX2_doFit 61 = .ok (.iload_n 3, 1) := dk_29 (dk_at dksX2_doFit_2 13 rfl rfl)
theorem dX2_doFit_62 : decode cX2_doFit 62 = .ok (.aload_n 0, 1) := dk_42 (dk_at dksX2_doFit_2 14 rfl rfl)
theorem dX2_doFit_63 : decode cX2_doFit 63 = .ok (.getfield 25, 3) := dk_180 0 25 (dk_at dksX2_doFit_2 15 rfl rfl)
theorem dX2_doFit_66 : decode cX2_doFit 66 = .ok (.bipush 9, 2) := dk_16 9 (dk_at dksX2_doFit_2 18 rfl rfl)
theorem dX2_doFit_68 : decode cX2_doFit 68 = .ok (.iload 4, 2) := dk_21 4 (dk_at dksX2_doFit_2 20 rfl rfl)
theorem dX2_doFit_70 : decode cX2_doFit 70 = .ok (.imul, 1) := dk_104 (dk_at dksX2_doFit_2 22 rfl rfl)
theorem dX2_doFit_71 : decode cX2_doFit 71 = .ok (.bipush 7, 2) := dk_16 7 (dk_at dksX2_doFit_3 0 rfl rfl)
theorem dX2_doFit_73 : decode cX2_doFit 73 = .ok (.iadd, 1) := dk_96 (dk_at dksX2_doFit_3 2 rfl rfl)
theorem dX2_doFit_74 : decode cX2_doFit 74 = .ok (.iaload, 1) := dk_46 (dk_at dksX2_doFit_3 3 rfl rfl)
theorem dX2_doFit_75 : decode cX2_doFit 75 = .ok (.iload_n 2, 1) := dk_28 (dk_at dksX2_doFit_3 4 rfl rfl)
theorem dX2_doFit_76 : decode cX2_doFit 76 = .ok (.iconst 1, 1) := dk_4 (dk_at dksX2_doFit_3 5 rfl rfl)
theorem dX2_doFit_77 : decode cX2_doFit 77 = .ok (.iadd, 1) := dk_96 (dk_at dksX2_doFit_3 6 rfl rfl)
theorem dX2_doFit_78 : decode cX2_doFit 78 = .ok (.if_icmp .ne 18, 3) := dk_160 0 18 (dk_at dksX2_doFit_3 7 rfl rfl)
theorem dX2_doFit_81 : decode cX2_doFit 81 = .ok (.aload_n 0, 1) := dk_42 (dk_at dksX2_doFit_3 10 rfl rfl)
theorem dX2_doFit_82 : decode cX2_doFit 82 = .ok (.getfield 25, 3) := dk_180 0 25 (dk_at dksX2_doFit_3 11 rfl rfl)
theorem dX2_doFit_85 : decode cX2_doFit 85 = .ok (.bipush 9, 2) := dk_16 9 (dk_at dksX2_doFit_3 14 rfl rfl)
theorem dX2_doFit_87 : decode cX2_doFit 87 = .ok (.iload 4, 2) := dk_21 4 (dk_at dksX2_doFit_3 16 rfl rfl)
theorem dX2_doFit_89 : decode cX2_doFit 89 = .ok (.imul, 1) := dk_104 (dk_at dksX2_doFit_3 18 rfl rfl)
theorem dX2_doFit_90 : decode cX2_doFit 90 = .ok (.iconst 0, 1) := dk_3 (dk_at dksX2_doFit_3 19 rfl rfl)
theorem dX2_doFit_91 : decode cX2_doFit 91 = .ok (.iadd, 1) := dk_96 (dk_at dksX2_doFit_3 20 rfl rfl)
theorem dX2_doFit_92 : decode cX2_doFit 92 = .ok (.iaload, 1) := dk_46 (dk_at dksX2_doFit_3 21 rfl rfl)
theorem dX2_doFit_93 : decode cX2_doFit 93 = .ok (.goto 4, 3) := dk_167 0 4 (dk_at dksX2_doFit_4 0 rfl rfl)
theorem dX2_doFit_96 : decode cX2_doFit 96 = .ok (.iconst 0, 1) := dk_3 (dk_at dksX2_doFit_4 3 rfl rfl)
theorem dX2_doFit_97 : decode cX2_doFit 97 = .ok (.isub, 1) := dk_100 (dk_at dksX2_doFit_4 4 rfl rfl)
theorem dX2_doFit_98 : decode cX2_doFit 98 = .ok (.istore_n 3, 1) := dk_62 (dk_at dksX2_doFit_4 5 rfl rfl)
theorem dX2_doFit_99 : decode cX2_doFit 99 = .ok (.iinc 4 1, 3) := dk_132 4 1 (dk_at dksX2_doFit_4 6 rfl rfl)
theorem dX2_doFit_102 : decode cX2_doFit 102 = .ok (.goto (-50), 3) := dk_167 255 206 (dk_at dksX2_doFit_4 9 rfl rfl)
theorem dX2_doFit_105 : decode cX2_doFit 105 = .ok (.iload_n 1, 1) := dk_27 (dk_at dksX2_doFit_4 12 rfl rfl)
theorem dX2_doFit_106 : decode cX2_doFit 106 = .ok (.ifCond .eq 11, 3) := dk_153 0 11 (dk_at dksX2_doFit_4 13 rfl rfl)
theorem dX2_doFit_109 : decode cX2_doFit 109 = .ok (.iload_n 3, 1) := dk_29 (dk_at dksX2_doFit_4 16 rfl rfl)
theorem dX2_doFit_110 : decode cX2_doFit 110 = .ok (.ifCond .lt 7, 3) := dk_155 0 7 (dk_at dksX2_doFit_4 17 rfl rfl)
theorem dX2_doFit_113 : decode cX2_doFit 113 = .ok (.iconst 1, 1) := dk_4 (dk_at dksX2_doFit_4 20 rfl rfl)
theorem dX2_doFit_114 : decode cX2_doFit 114 = .ok (.goto 4, 3) := dk_167 0 4 (dk_at dksX2_doFit_4 21 rfl rfl)
theorem dX2_doFit_117 : decode cX2_doFit 117 = .ok (.iconst 0, 1) := dk_3 (dk_at dksX2_doFit_5 0 rfl rfl)
theorem dX2_doFit_118 : decode cX2_doFit 118 = .ok (.istore_n 1, 1) := dk_60 (dk_at dksX2_doFit_5 1 rfl rfl)
theorem dX2_doFit_119 : decode cX2_doFit 119 = .ok (.iinc 2 1, 3) := dk_132 2 1 (dk_at dksX2_doFit_5 2 rfl rfl)
theorem dX2_doFit_122 : decode cX2_doFit 122 = .ok (.goto (-118), 3) := dk_167 255 138 (dk_at dksX2_doFit_5 5 rfl rfl)
theorem dX2_doFit_125 : decode cX2_doFit 125 = .ok (.iload_n 1, 1) := dk_27 (dk_at dksX2_doFit_5 8 rfl rfl)
theorem dX2_doFit_126 : decode cX2_doFit 126 = .ok (.ireturn, 1) := dk_172 (dk_at dksX2_doFit_5 9 rfl rfl)
abbrev cX2_sign : ByteArray := prog_7_method_52_code
def yX2_sign : MethodName := ⟨RX2, "sign", "(II)I"⟩
def dkwX2_sign_1 : List UInt8 := [162, 0, 12, 42, 180, 0, 31, 28, 46, 167, 0, 5, 16, 252, 172]
abbrev dktX2_sign_1 : List UInt8 := dkwX2_sign_1 ++ []
def dkwX2_sign_0 : List UInt8 := [42, 27, 182, 0, 108, 153, 0, 7, 28, 156, 0, 5, 2, 172, 42, 27, 182, 0, 187, 28, 42, 180, 0, 167]
abbrev dktX2_sign_0 : List UInt8 := dkwX2_sign_0 ++ dktX2_sign_1
theorem dksX2_sign_0 : cX2_sign.data.toList.drop 0 = dktX2_sign_0 := by decide +kernel
theorem dksX2_sign_1 : cX2_sign.data.toList.drop 24 = dktX2_sign_1 := dk_seg dksX2_sign_0 24 rfl rfl
theorem dX2_sign_0 : decode cX2_sign 0 = .ok (.aload_n 0, 1) := dk_42 (dk_at dksX2_sign_0 0 rfl rfl)
theorem dX2_sign_1 : decode cX2_sign 1 = .ok (.iload_n 1, 1) := dk_27 (dk_at dksX2_sign_0 1 rfl rfl)
theorem dX2_sign_2 : decode cX2_sign 2 = .ok (.invokevirtual 108, 3) := dk_182 0 108 (dk_at dksX2_sign_0 2 rfl rfl)
theorem dX2_sign_5 : decode cX2_sign 5 = .ok (.ifCond .eq 7, 3) := dk_153 0 7 (dk_at dksX2_sign_0 5 rfl rfl)
theorem dX2_sign_8 : decode cX2_sign 8 = .ok (.iload_n 2, 1) := dk_28 (dk_at dksX2_sign_0 8 rfl rfl)
theorem dX2_sign_9 : decode cX2_sign 9 = .ok (.ifCond .ge 5, 3) := dk_156 0 5 (dk_at dksX2_sign_0 9 rfl rfl)
theorem dX2_sign_12 : decode cX2_sign 12 = .ok (.iconst (-1), 1) := dk_2 (dk_at dksX2_sign_0 12 rfl rfl)
theorem dX2_sign_13 : decode cX2_sign 13 = .ok (.ireturn, 1) := dk_172 (dk_at dksX2_sign_0 13 rfl rfl)
theorem dX2_sign_14 : decode cX2_sign 14 = .ok (.aload_n 0, 1) := dk_42 (dk_at dksX2_sign_0 14 rfl rfl)
theorem dX2_sign_15 : decode cX2_sign 15 = .ok (.iload_n 1, 1) := dk_27 (dk_at dksX2_sign_0 15 rfl rfl)
theorem dX2_sign_16 : decode cX2_sign 16 = .ok (.invokevirtual 187, 3) := dk_182 0 187 (dk_at dksX2_sign_0 16 rfl rfl)
theorem dX2_sign_19 : decode cX2_sign 19 = .ok (.iload_n 2, 1) := dk_28 (dk_at dksX2_sign_0 19 rfl rfl)
theorem dX2_sign_20 : decode cX2_sign 20 = .ok (.aload_n 0, 1) := dk_42 (dk_at dksX2_sign_0 20 rfl rfl)
theorem dX2_sign_21 : decode cX2_sign 21 = .ok (.getfield 167, 3) := dk_180 0 167 (dk_at dksX2_sign_0 21 rfl rfl)
theorem dX2_sign_24 : decode cX2_sign 24 = .ok (.if_icmp .ge 12, 3) := dk_162 0 12 (dk_at dksX2_sign_1 0 rfl rfl)
theorem dX2_sign_27 : decode cX2_sign 27 = .ok (.aload_n 0, 1) := dk_42 (dk_at dksX2_sign_1 3 rfl rfl)
theorem dX2_sign_28 : decode cX2_sign 28 = .ok (.getfield 31, 3) := dk_180 0 31 (dk_at dksX2_sign_1 4 rfl rfl)
theorem dX2_sign_31 : decode cX2_sign 31 = .ok (.iload_n 2, 1) := dk_28 (dk_at dksX2_sign_1 7 rfl rfl)
theorem dX2_sign_32 : decode cX2_sign 32 = .ok (.iaload, 1) := dk_46 (dk_at dksX2_sign_1 8 rfl rfl)
theorem dX2_sign_33 : decode cX2_sign 33 = .ok (.goto 5, 3) := dk_167 0 5 (dk_at dksX2_sign_1 9 rfl rfl)
theorem dX2_sign_36 : decode cX2_sign 36 = .ok (.bipush (-4), 2) := dk_16 252 (dk_at dksX2_sign_1 12 rfl rfl)
theorem dX2_sign_38 : decode cX2_sign 38 = .ok (.ireturn, 1) := dk_172 (dk_at dksX2_sign_1 14 rfl rfl)
abbrev cX2_writesNest : ByteArray := prog_7_method_51_code
def yX2_writesNest : MethodName := ⟨RX2, "writesNest", "(I)V"⟩
def dkwX2_writesNest_5 : List UInt8 := [177]
abbrev dktX2_writesNest_5 : List UInt8 := dkwX2_writesNest_5 ++ []
def dkwX2_writesNest_4 : List UInt8 := [153, 0, 21, 42, 180, 0, 34, 28, 21, 4, 79, 42, 180, 0, 37, 28, 3, 79, 132, 2, 1, 167, 255, 172]
abbrev dktX2_writesNest_4 : List UInt8 := dkwX2_writesNest_4 ++ dktX2_writesNest_5
def dkwX2_writesNest_3 : List UInt8 := [21, 4, 156, 0, 15, 42, 16, 93, 182, 0, 170, 132, 2, 255, 167, 0, 30, 42, 21, 4, 182, 0, 181]
abbrev dktX2_writesNest_3 : List UInt8 := dkwX2_writesNest_3 ++ dktX2_writesNest_4
def dkwX2_writesNest_2 : List UInt8 := [180, 0, 37, 28, 4, 100, 46, 182, 0, 184, 54, 4, 42, 180, 0, 37, 28, 4, 100, 92, 46, 4, 96, 79]
abbrev dktX2_writesNest_2 : List UInt8 := dkwX2_writesNest_2 ++ dktX2_writesNest_3
def dkwX2_writesNest_1 : List UInt8 := [180, 0, 37, 3, 3, 79, 4, 61, 28, 158, 0, 86, 42, 180, 0, 34, 28, 4, 100, 46, 62, 42, 29, 42]
abbrev dktX2_writesNest_1 : List UInt8 := dkwX2_writesNest_1 ++ dktX2_writesNest_2
def dkwX2_writesNest_0 : List UInt8 := [42, 3, 181, 0, 167, 3, 61, 42, 27, 182, 0, 181, 153, 0, 19, 42, 180, 0, 34, 3, 27, 79, 42]
abbrev dktX2_writesNest_0 : List UInt8 := dkwX2_writesNest_0 ++ dktX2_writesNest_1
theorem dksX2_writesNest_0 : cX2_writesNest.data.toList.drop 0 = dktX2_writesNest_0 := by decide +kernel
theorem dksX2_writesNest_1 : cX2_writesNest.data.toList.drop 23 = dktX2_writesNest_1 := dk_seg dksX2_writesNest_0 23 rfl rfl
theorem dksX2_writesNest_2 : cX2_writesNest.data.toList.drop 47 = dktX2_writesNest_2 := dk_seg dksX2_writesNest_1 24 rfl rfl
theorem dksX2_writesNest_3 : cX2_writesNest.data.toList.drop 71 = dktX2_writesNest_3 := dk_seg dksX2_writesNest_2 24 rfl rfl
theorem dksX2_writesNest_4 : cX2_writesNest.data.toList.drop 94 = dktX2_writesNest_4 := dk_seg dksX2_writesNest_3 23 rfl rfl
theorem dksX2_writesNest_5 : cX2_writesNest.data.toList.drop 118 = dktX2_writesNest_5 := dk_seg dksX2_writesNest_4 24 rfl rfl
theorem dX2_writesNest_0 : decode cX2_writesNest 0 = .ok (.aload_n 0, 1) := dk_42 (dk_at dksX2_writesNest_0 0 rfl rfl)
theorem dX2_writesNest_1 : decode cX2_writesNest 1 = .ok (.iconst 0, 1) := dk_3 (dk_at dksX2_writesNest_0 1 rfl rfl)
theorem dX2_writesNest_2 : decode cX2_writesNest 2 = .ok (.putfield 167, 3) := dk_181 0 167 (dk_at dksX2_writesNest_0 2 rfl rfl)
theorem dX2_writesNest_5 : decode cX2_writesNest 5 = .ok (.iconst 0, 1) := dk_3 (dk_at dksX2_writesNest_0 5 rfl rfl)
theorem dX2_writesNest_6 : decode cX2_writesNest 6 = .ok (.istore_n 2, 1) := dk_61 (dk_at dksX2_writesNest_0 6 rfl rfl)
theorem dX2_writesNest_7 : decode cX2_writesNest 7 = .ok (.aload_n 0, 1) := dk_42 (dk_at dksX2_writesNest_0 7 rfl rfl)
theorem dX2_writesNest_8 : decode cX2_writesNest 8 = .ok (.iload_n 1, 1) := dk_27 (dk_at dksX2_writesNest_0 8 rfl rfl)
theorem dX2_writesNest_9 : decode cX2_writesNest 9 = .ok (.invokevirtual 181, 3) := dk_182 0 181 (dk_at dksX2_writesNest_0 9 rfl rfl)
theorem dX2_writesNest_12 : decode cX2_writesNest 12 = .ok (.ifCond .eq 19, 3) := dk_153 0 19 (dk_at dksX2_writesNest_0 12 rfl rfl)
theorem dX2_writesNest_15 : decode cX2_writesNest 15 = .ok (.aload_n 0, 1) := dk_42 (dk_at dksX2_writesNest_0 15 rfl rfl)
theorem dX2_writesNest_16 : decode cX2_writesNest 16 = .ok (.getfield 34, 3) := dk_180 0 34 (dk_at dksX2_writesNest_0 16 rfl rfl)
theorem dX2_writesNest_19 : decode cX2_writesNest 19 = .ok (.iconst 0, 1) := dk_3 (dk_at dksX2_writesNest_0 19 rfl rfl)
theorem dX2_writesNest_20 : decode cX2_writesNest 20 = .ok (.iload_n 1, 1) := dk_27 (dk_at dksX2_writesNest_0 20 rfl rfl)
theorem dX2_writesNest_21 : decode cX2_writesNest 21 = .ok (.iastore, 1) := dk_79 (dk_at dksX2_writesNest_0 21 rfl rfl)
theorem dX2_writesNest_22 : decode cX2_writesNest 22 = .ok (.aload_n 0, 1) := dk_42 (dk_at dksX2_writesNest_0 22 rfl rfl)
theorem dX2_writesNest_23 : decode cX2_writesNest 23 = .ok (.getfield 37, 3) := dk_180 0 37 (dk_at dksX2_writesNest_1 0 rfl rfl)
theorem dX2_writesNest_26 : decode cX2_writesNest 26 = .ok (.iconst 0, 1) := dk_3 (dk_at dksX2_writesNest_1 3 rfl rfl)
theorem dX2_writesNest_27 : decode cX2_writesNest 27 = .ok (.iconst 0, 1) := dk_3 (dk_at dksX2_writesNest_1 4 rfl rfl)
theorem dX2_writesNest_28 : decode cX2_writesNest 28 = .ok (.iastore, 1) := dk_79 (dk_at dksX2_writesNest_1 5 rfl rfl)
theorem dX2_writesNest_29 : decode cX2_writesNest 29 = .ok (.iconst 1, 1) := dk_4 (dk_at dksX2_writesNest_1 6 rfl rfl)
theorem dX2_writesNest_30 : decode cX2_writesNest 30 = .ok (.istore_n 2, 1) := dk_61 (dk_at dksX2_writesNest_1 7 rfl rfl)
theorem dX2_writesNest_31 : decode cX2_writesNest 31 = .ok (.iload_n 2, 1) := dk_28 (dk_at dksX2_writesNest_1 8 rfl rfl)
theorem dX2_writesNest_32 : decode cX2_writesNest 32 = .ok (.ifCond .le 86, 3) := dk_158 0 86 (dk_at dksX2_writesNest_1 9 rfl rfl)
theorem dX2_writesNest_35 : decode cX2_writesNest 35 = .ok (.aload_n 0, 1) := dk_42 (dk_at dksX2_writesNest_1 12 rfl rfl)
theorem dX2_writesNest_36 : decode cX2_writesNest 36 = .ok (.getfield 34, 3) := dk_180 0 34 (dk_at dksX2_writesNest_1 13 rfl rfl)
theorem dX2_writesNest_39 : decode cX2_writesNest 39 = .ok (.iload_n 2, 1) := dk_28 (dk_at dksX2_writesNest_1 16 rfl rfl)
theorem dX2_writesNest_40 : decode cX2_writesNest 40 = .ok (.iconst 1, 1) := dk_4 (dk_at dksX2_writesNest_1 17 rfl rfl)
theorem dX2_writesNest_41 : decode cX2_writesNest 41 = .ok (.isub, 1) := dk_100 (dk_at dksX2_writesNest_1 18 rfl rfl)
theorem dX2_writesNest_42 : decode cX2_writesNest 42 = .ok (.iaload, 1) := dk_46 (dk_at dksX2_writesNest_1 19 rfl rfl)
theorem dX2_writesNest_43 : decode cX2_writesNest 43 = .ok (.istore_n 3, 1) := dk_62 (dk_at dksX2_writesNest_1 20 rfl rfl)
theorem dX2_writesNest_44 : decode cX2_writesNest 44 = .ok (.aload_n 0, 1) := dk_42 (dk_at dksX2_writesNest_1 21 rfl rfl)
theorem dX2_writesNest_45 : decode cX2_writesNest 45 = .ok (.iload_n 3, 1) := dk_29 (dk_at dksX2_writesNest_1 22 rfl rfl)
theorem dX2_writesNest_46 : decode cX2_writesNest 46 = .ok (.aload_n 0, 1) := dk_42 (dk_at dksX2_writesNest_1 23 rfl rfl)
theorem dX2_writesNest_47 : decode cX2_writesNest 47 = .ok (.getfield 37, 3) := dk_180 0 37 (dk_at dksX2_writesNest_2 0 rfl rfl)
theorem dX2_writesNest_50 : decode cX2_writesNest 50 = .ok (.iload_n 2, 1) := dk_28 (dk_at dksX2_writesNest_2 3 rfl rfl)
theorem dX2_writesNest_51 : decode cX2_writesNest 51 = .ok (.iconst 1, 1) := dk_4 (dk_at dksX2_writesNest_2 4 rfl rfl)
theorem dX2_writesNest_52 : decode cX2_writesNest 52 = .ok (.isub, 1) := dk_100 (dk_at dksX2_writesNest_2 5 rfl rfl)
theorem dX2_writesNest_53 : decode cX2_writesNest 53 = .ok (.iaload, 1) := dk_46 (dk_at dksX2_writesNest_2 6 rfl rfl)
theorem dX2_writesNest_54 : decode cX2_writesNest 54 = .ok (.invokevirtual 184, 3) := dk_182 0 184 (dk_at dksX2_writesNest_2 7 rfl rfl)
theorem dX2_writesNest_57 : decode cX2_writesNest 57 = .ok (.istore 4, 2) := dk_54 4 (dk_at dksX2_writesNest_2 10 rfl rfl)
theorem dX2_writesNest_59 : decode cX2_writesNest 59 = .ok (.aload_n 0, 1) := dk_42 (dk_at dksX2_writesNest_2 12 rfl rfl)
theorem dX2_writesNest_60 : decode cX2_writesNest 60 = .ok (.getfield 37, 3) := dk_180 0 37 (dk_at dksX2_writesNest_2 13 rfl rfl)
theorem dX2_writesNest_63 : decode cX2_writesNest 63 = .ok (.iload_n 2, 1) := dk_28 (dk_at dksX2_writesNest_2 16 rfl rfl)
theorem dX2_writesNest_64 : decode cX2_writesNest 64 = .ok (.iconst 1, 1) := dk_4 (dk_at dksX2_writesNest_2 17 rfl rfl)
theorem dX2_writesNest_65 : decode cX2_writesNest 65 = .ok (.isub, 1) := dk_100 (dk_at dksX2_writesNest_2 18 rfl rfl)
theorem dX2_writesNest_66 : decode cX2_writesNest 66 = .ok (.dup2, 1) := dk_92 (dk_at dksX2_writesNest_2 19 rfl rfl)
theorem dX2_writesNest_67 : decode cX2_writesNest 67 = .ok (.iaload, 1) := dk_46 (dk_at dksX2_writesNest_2 20 rfl rfl)
theorem dX2_writesNest_68 : decode cX2_writesNest 68 = .ok (.iconst 1, 1) := dk_4 (dk_at dksX2_writesNest_2 21 rfl rfl)
theorem dX2_writesNest_69 : decode cX2_writesNest 69 = .ok (.iadd, 1) := dk_96 (dk_at dksX2_writesNest_2 22 rfl rfl)
theorem dX2_writesNest_70 : decode cX2_writesNest 70 = .ok (.iastore, 1) := dk_79 (dk_at dksX2_writesNest_2 23 rfl rfl)
theorem dX2_writesNest_71 : decode cX2_writesNest 71 = .ok (.iload 4, 2) := dk_21 4 (dk_at dksX2_writesNest_3 0 rfl rfl)
theorem dX2_writesNest_73 : decode cX2_writesNest 73 = .ok (.ifCond .ge 15, 3) := dk_156 0 15 (dk_at dksX2_writesNest_3 2 rfl rfl)
theorem dX2_writesNest_76 : decode cX2_writesNest 76 = .ok (.aload_n 0, 1) := dk_42 (dk_at dksX2_writesNest_3 5 rfl rfl)
theorem dX2_writesNest_77 : decode cX2_writesNest 77 = .ok (.bipush 93, 2) := dk_16 93 (dk_at dksX2_writesNest_3 6 rfl rfl)
theorem dX2_writesNest_79 : decode cX2_writesNest 79 = .ok (.invokevirtual 170, 3) := dk_182 0 170 (dk_at dksX2_writesNest_3 8 rfl rfl)
theorem dX2_writesNest_82 : decode cX2_writesNest 82 = .ok (.iinc 2 (-1), 3) := dk_132 2 255 (dk_at dksX2_writesNest_3 11 rfl rfl)
theorem dX2_writesNest_85 : decode cX2_writesNest 85 = .ok (.goto 30, 3) := dk_167 0 30 (dk_at dksX2_writesNest_3 14 rfl rfl)
theorem dX2_writesNest_88 : decode cX2_writesNest 88 = .ok (.aload_n 0, 1) := dk_42 (dk_at dksX2_writesNest_3 17 rfl rfl)
theorem dX2_writesNest_89 : decode cX2_writesNest 89 = .ok (.iload 4, 2) := dk_21 4 (dk_at dksX2_writesNest_3 18 rfl rfl)
theorem dX2_writesNest_91 : decode cX2_writesNest 91 = .ok (.invokevirtual 181, 3) := dk_182 0 181 (dk_at dksX2_writesNest_3 20 rfl rfl)
theorem dX2_writesNest_94 : decode cX2_writesNest 94 = .ok (.ifCond .eq 21, 3) := dk_153 0 21 (dk_at dksX2_writesNest_4 0 rfl rfl)
theorem dX2_writesNest_97 : decode cX2_writesNest 97 = .ok (.aload_n 0, 1) := dk_42 (dk_at dksX2_writesNest_4 3 rfl rfl)
theorem dX2_writesNest_98 : decode cX2_writesNest 98 = .ok (.getfield 34, 3) := dk_180 0 34 (dk_at dksX2_writesNest_4 4 rfl rfl)
theorem dX2_writesNest_101 : decode cX2_writesNest 101 = .ok (.iload_n 2, 1) := dk_28 (dk_at dksX2_writesNest_4 7 rfl rfl)
theorem dX2_writesNest_102 : decode cX2_writesNest 102 = .ok (.iload 4, 2) := dk_21 4 (dk_at dksX2_writesNest_4 8 rfl rfl)
theorem dX2_writesNest_104 : decode cX2_writesNest 104 = .ok (.iastore, 1) := dk_79 (dk_at dksX2_writesNest_4 10 rfl rfl)
theorem dX2_writesNest_105 : decode cX2_writesNest 105 = .ok (.aload_n 0, 1) := dk_42 (dk_at dksX2_writesNest_4 11 rfl rfl)
theorem dX2_writesNest_106 : decode cX2_writesNest 106 = .ok (.getfield 37, 3) := dk_180 0 37 (dk_at dksX2_writesNest_4 12 rfl rfl)
theorem dX2_writesNest_109 : decode cX2_writesNest 109 = .ok (.iload_n 2, 1) := dk_28 (dk_at dksX2_writesNest_4 15 rfl rfl)
theorem dX2_writesNest_110 : decode cX2_writesNest 110 = .ok (.iconst 0, 1) := dk_3 (dk_at dksX2_writesNest_4 16 rfl rfl)
theorem dX2_writesNest_111 : decode cX2_writesNest 111 = .ok (.iastore, 1) := dk_79 (dk_at dksX2_writesNest_4 17 rfl rfl)
theorem dX2_writesNest_112 : decode cX2_writesNest 112 = .ok (.iinc 2 1, 3) := dk_132 2 1 (dk_at dksX2_writesNest_4 18 rfl rfl)
theorem dX2_writesNest_115 : decode cX2_writesNest 115 = .ok (.goto (-84), 3) := dk_167 255 172 (dk_at dksX2_writesNest_4 21 rfl rfl)
theorem dX2_writesNest_118 : decode cX2_writesNest 118 = .ok (.return_, 1) := dk_177 (dk_at dksX2_writesNest_5 0 rfl rfl)
abbrev cX2_writesHead : ByteArray := prog_7_method_50_code
def yX2_writesHead : MethodName := ⟨RX2, "writesHead", "(I)Z"⟩
def dkwX2_writesHead_4 : List UInt8 := [167, 0, 4, 3, 172]
abbrev dktX2_writesHead_4 : List UInt8 := dkwX2_writesHead_4 ++ []
def dkwX2_writesHead_3 : List UInt8 := [27, 182, 0, 67, 158, 0, 9, 42, 16, 91, 182, 0, 170, 42, 27, 182, 0, 67, 158, 0, 7, 4]
abbrev dktX2_writesHead_3 : List UInt8 := dkwX2_writesHead_3 ++ dktX2_writesHead_4
def dkwX2_writesHead_2 : List UInt8 := [16, 114, 42, 27, 4, 182, 0, 55, 182, 0, 177, 42, 16, 103, 42, 27, 5, 182, 0, 55, 182, 0, 177, 42]
abbrev dktX2_writesHead_2 : List UInt8 := dkwX2_writesHead_2 ++ dktX2_writesHead_3
def dkwX2_writesHead_1 : List UInt8 := [100, 182, 0, 170, 132, 2, 1, 167, 255, 227, 42, 16, 115, 42, 27, 3, 182, 0, 55, 182, 0, 177, 42]
abbrev dktX2_writesHead_1 : List UInt8 := dkwX2_writesHead_1 ++ dktX2_writesHead_2
def dkwX2_writesHead_0 : List UInt8 := [3, 61, 28, 42, 27, 182, 0, 174, 162, 0, 26, 42, 16, 65, 42, 27, 6, 28, 96, 182, 0, 55, 96, 4]
abbrev dktX2_writesHead_0 : List UInt8 := dkwX2_writesHead_0 ++ dktX2_writesHead_1
theorem dksX2_writesHead_0 : cX2_writesHead.data.toList.drop 0 = dktX2_writesHead_0 := by decide +kernel
theorem dksX2_writesHead_1 : cX2_writesHead.data.toList.drop 24 = dktX2_writesHead_1 := dk_seg dksX2_writesHead_0 24 rfl rfl
theorem dksX2_writesHead_2 : cX2_writesHead.data.toList.drop 47 = dktX2_writesHead_2 := dk_seg dksX2_writesHead_1 23 rfl rfl
theorem dksX2_writesHead_3 : cX2_writesHead.data.toList.drop 71 = dktX2_writesHead_3 := dk_seg dksX2_writesHead_2 24 rfl rfl
theorem dksX2_writesHead_4 : cX2_writesHead.data.toList.drop 93 = dktX2_writesHead_4 := dk_seg dksX2_writesHead_3 22 rfl rfl
theorem dX2_writesHead_0 : decode cX2_writesHead 0 = .ok (.iconst 0, 1) := dk_3 (dk_at dksX2_writesHead_0 0 rfl rfl)
theorem dX2_writesHead_1 : decode cX2_writesHead 1 = .ok (.istore_n 2, 1) := dk_61 (dk_at dksX2_writesHead_0 1 rfl rfl)
theorem dX2_writesHead_2 : decode cX2_writesHead 2 = .ok (.iload_n 2, 1) := dk_28 (dk_at dksX2_writesHead_0 2 rfl rfl)
theorem dX2_writesHead_3 : decode cX2_writesHead 3 = .ok (.aload_n 0, 1) := dk_42 (dk_at dksX2_writesHead_0 3 rfl rfl)
theorem dX2_writesHead_4 : decode cX2_writesHead 4 = .ok (.iload_n 1, 1) := dk_27 (dk_at dksX2_writesHead_0 4 rfl rfl)
theorem dX2_writesHead_5 : decode cX2_writesHead 5 = .ok (.invokevirtual 174, 3) := dk_182 0 174 (dk_at dksX2_writesHead_0 5 rfl rfl)
theorem dX2_writesHead_8 : decode cX2_writesHead 8 = .ok (.if_icmp .ge 26, 3) := dk_162 0 26 (dk_at dksX2_writesHead_0 8 rfl rfl)
theorem dX2_writesHead_11 : decode cX2_writesHead 11 = .ok (.aload_n 0, 1) := dk_42 (dk_at dksX2_writesHead_0 11 rfl rfl)
theorem dX2_writesHead_12 : decode cX2_writesHead 12 = .ok (.bipush 65, 2) := dk_16 65 (dk_at dksX2_writesHead_0 12 rfl rfl)
theorem dX2_writesHead_14 : decode cX2_writesHead 14 = .ok (.aload_n 0, 1) := dk_42 (dk_at dksX2_writesHead_0 14 rfl rfl)
theorem dX2_writesHead_15 : decode cX2_writesHead 15 = .ok (.iload_n 1, 1) := dk_27 (dk_at dksX2_writesHead_0 15 rfl rfl)
theorem dX2_writesHead_16 : decode cX2_writesHead 16 = .ok (.iconst 3, 1) := dk_6 (dk_at dksX2_writesHead_0 16 rfl rfl)
theorem dX2_writesHead_17 : decode cX2_writesHead 17 = .ok (.iload_n 2, 1) := dk_28 (dk_at dksX2_writesHead_0 17 rfl rfl)
theorem dX2_writesHead_18 : decode cX2_writesHead 18 = .ok (.iadd, 1) := dk_96 (dk_at dksX2_writesHead_0 18 rfl rfl)
theorem dX2_writesHead_19 : decode cX2_writesHead 19 = .ok (.invokevirtual 55, 3) := dk_182 0 55 (dk_at dksX2_writesHead_0 19 rfl rfl)
theorem dX2_writesHead_22 : decode cX2_writesHead 22 = .ok (.iadd, 1) := dk_96 (dk_at dksX2_writesHead_0 22 rfl rfl)
theorem dX2_writesHead_23 : decode cX2_writesHead 23 = .ok (.iconst 1, 1) := dk_4 (dk_at dksX2_writesHead_0 23 rfl rfl)
theorem dX2_writesHead_24 : decode cX2_writesHead 24 = .ok (.isub, 1) := dk_100 (dk_at dksX2_writesHead_1 0 rfl rfl)
theorem dX2_writesHead_25 : decode cX2_writesHead 25 = .ok (.invokevirtual 170, 3) := dk_182 0 170 (dk_at dksX2_writesHead_1 1 rfl rfl)
theorem dX2_writesHead_28 : decode cX2_writesHead 28 = .ok (.iinc 2 1, 3) := dk_132 2 1 (dk_at dksX2_writesHead_1 4 rfl rfl)
theorem dX2_writesHead_31 : decode cX2_writesHead 31 = .ok (.goto (-29), 3) := dk_167 255 227 (dk_at dksX2_writesHead_1 7 rfl rfl)
theorem dX2_writesHead_34 : decode cX2_writesHead 34 = .ok (.aload_n 0, 1) := dk_42 (dk_at dksX2_writesHead_1 10 rfl rfl)
theorem dX2_writesHead_35 : decode cX2_writesHead 35 = .ok (.bipush 115, 2) := dk_16 115 (dk_at dksX2_writesHead_1 11 rfl rfl)
theorem dX2_writesHead_37 : decode cX2_writesHead 37 = .ok (.aload_n 0, 1) := dk_42 (dk_at dksX2_writesHead_1 13 rfl rfl)
theorem dX2_writesHead_38 : decode cX2_writesHead 38 = .ok (.iload_n 1, 1) := dk_27 (dk_at dksX2_writesHead_1 14 rfl rfl)
theorem dX2_writesHead_39 : decode cX2_writesHead 39 = .ok (.iconst 0, 1) := dk_3 (dk_at dksX2_writesHead_1 15 rfl rfl)
theorem dX2_writesHead_40 : decode cX2_writesHead 40 = .ok (.invokevirtual 55, 3) := dk_182 0 55 (dk_at dksX2_writesHead_1 16 rfl rfl)
theorem dX2_writesHead_43 : decode cX2_writesHead 43 = .ok (.invokevirtual 177, 3) := dk_182 0 177 (dk_at dksX2_writesHead_1 19 rfl rfl)
theorem dX2_writesHead_46 : decode cX2_writesHead 46 = .ok (.aload_n 0, 1) := dk_42 (dk_at dksX2_writesHead_1 22 rfl rfl)
theorem dX2_writesHead_47 : decode cX2_writesHead 47 = .ok (.bipush 114, 2) := dk_16 114 (dk_at dksX2_writesHead_2 0 rfl rfl)
theorem dX2_writesHead_49 : decode cX2_writesHead 49 = .ok (.aload_n 0, 1) := dk_42 (dk_at dksX2_writesHead_2 2 rfl rfl)
theorem dX2_writesHead_50 : decode cX2_writesHead 50 = .ok (.iload_n 1, 1) := dk_27 (dk_at dksX2_writesHead_2 3 rfl rfl)
theorem dX2_writesHead_51 : decode cX2_writesHead 51 = .ok (.iconst 1, 1) := dk_4 (dk_at dksX2_writesHead_2 4 rfl rfl)
theorem dX2_writesHead_52 : decode cX2_writesHead 52 = .ok (.invokevirtual 55, 3) := dk_182 0 55 (dk_at dksX2_writesHead_2 5 rfl rfl)
theorem dX2_writesHead_55 : decode cX2_writesHead 55 = .ok (.invokevirtual 177, 3) := dk_182 0 177 (dk_at dksX2_writesHead_2 8 rfl rfl)
theorem dX2_writesHead_58 : decode cX2_writesHead 58 = .ok (.aload_n 0, 1) := dk_42 (dk_at dksX2_writesHead_2 11 rfl rfl)
theorem dX2_writesHead_59 : decode cX2_writesHead 59 = .ok (.bipush 103, 2) := dk_16 103 (dk_at dksX2_writesHead_2 12 rfl rfl)
theorem dX2_writesHead_61 : decode cX2_writesHead 61 = .ok (.aload_n 0, 1) := dk_42 (dk_at dksX2_writesHead_2 14 rfl rfl)
theorem dX2_writesHead_62 : decode cX2_writesHead 62 = .ok (.iload_n 1, 1) := dk_27 (dk_at dksX2_writesHead_2 15 rfl rfl)
theorem dX2_writesHead_63 : decode cX2_writesHead 63 = .ok (.iconst 2, 1) := dk_5 (dk_at dksX2_writesHead_2 16 rfl rfl)
theorem dX2_writesHead_64 : decode cX2_writesHead 64 = .ok (.invokevirtual 55, 3) := dk_182 0 55 (dk_at dksX2_writesHead_2 17 rfl rfl)
theorem dX2_writesHead_67 : decode cX2_writesHead 67 = .ok (.invokevirtual 177, 3) := dk_182 0 177 (dk_at dksX2_writesHead_2 20 rfl rfl)
theorem dX2_writesHead_70 : decode cX2_writesHead 70 = .ok (.aload_n 0, 1) := dk_42 (dk_at dksX2_writesHead_2 23 rfl rfl)
theorem dX2_writesHead_71 : decode cX2_writesHead 71 = .ok (.iload_n 1, 1) := dk_27 (dk_at dksX2_writesHead_3 0 rfl rfl)
theorem dX2_writesHead_72 : decode cX2_writesHead 72 = .ok (.invokevirtual 67, 3) := dk_182 0 67 (dk_at dksX2_writesHead_3 1 rfl rfl)
theorem dX2_writesHead_75 : decode cX2_writesHead 75 = .ok (.ifCond .le 9, 3) := dk_158 0 9 (dk_at dksX2_writesHead_3 4 rfl rfl)
theorem dX2_writesHead_78 : decode cX2_writesHead 78 = .ok (.aload_n 0, 1) := dk_42 (dk_at dksX2_writesHead_3 7 rfl rfl)
theorem dX2_writesHead_79 : decode cX2_writesHead 79 = .ok (.bipush 91, 2) := dk_16 91 (dk_at dksX2_writesHead_3 8 rfl rfl)
theorem dX2_writesHead_81 : decode cX2_writesHead 81 = .ok (.invokevirtual 170, 3) := dk_182 0 170 (dk_at dksX2_writesHead_3 10 rfl rfl)
theorem dX2_writesHead_84 : decode cX2_writesHead 84 = .ok (.aload_n 0, 1) := dk_42 (dk_at dksX2_writesHead_3 13 rfl rfl)
theorem dX2_writesHead_85 : decode cX2_writesHead 85 = .ok (.iload_n 1, 1) := dk_27 (dk_at dksX2_writesHead_3 14 rfl rfl)
theorem dX2_writesHead_86 : decode cX2_writesHead 86 = .ok (.invokevirtual 67, 3) := dk_182 0 67 (dk_at dksX2_writesHead_3 15 rfl rfl)
theorem dX2_writesHead_89 : decode cX2_writesHead 89 = .ok (.ifCond .le 7, 3) := dk_158 0 7 (dk_at dksX2_writesHead_3 18 rfl rfl)
theorem dX2_writesHead_92 : decode cX2_writesHead 92 = .ok (.iconst 1, 1) := dk_4 (dk_at dksX2_writesHead_3 21 rfl rfl)
theorem dX2_writesHead_93 : decode cX2_writesHead 93 = .ok (.goto 4, 3) := dk_167 0 4 (dk_at dksX2_writesHead_4 0 rfl rfl)
theorem dX2_writesHead_96 : decode cX2_writesHead 96 = .ok (.iconst 0, 1) := dk_3 (dk_at dksX2_writesHead_4 3 rfl rfl)
theorem dX2_writesHead_97 : decode cX2_writesHead 97 = .ok (.ireturn, 1) := dk_172 (dk_at dksX2_writesHead_4 4 rfl rfl)
abbrev cX2_letters : ByteArray := prog_7_method_17_code
def yX2_letters : MethodName := ⟨RX2, "letters", "(I)I"⟩
def dkwX2_letters_1 : List UInt8 := [167, 0, 4, 3, 96, 61, 132, 3, 1, 167, 255, 229, 28, 172]
abbrev dktX2_letters_1 : List UInt8 := dkwX2_letters_1 ++ []
def dkwX2_letters_0 : List UInt8 := [3, 61, 3, 62, 29, 7, 162, 0, 28, 28, 42, 27, 6, 29, 96, 182, 0, 55, 158, 0, 7, 4]
abbrev dktX2_letters_0 : List UInt8 := dkwX2_letters_0 ++ dktX2_letters_1
theorem dksX2_letters_0 : cX2_letters.data.toList.drop 0 = dktX2_letters_0 := by decide +kernel
theorem dksX2_letters_1 : cX2_letters.data.toList.drop 22 = dktX2_letters_1 := dk_seg dksX2_letters_0 22 rfl rfl
theorem dX2_letters_0 : decode cX2_letters 0 = .ok (.iconst 0, 1) := dk_3 (dk_at dksX2_letters_0 0 rfl rfl)
theorem dX2_letters_1 : decode cX2_letters 1 = .ok (.istore_n 2, 1) := dk_61 (dk_at dksX2_letters_0 1 rfl rfl)
theorem dX2_letters_2 : decode cX2_letters 2 = .ok (.iconst 0, 1) := dk_3 (dk_at dksX2_letters_0 2 rfl rfl)
theorem dX2_letters_3 : decode cX2_letters 3 = .ok (.istore_n 3, 1) := dk_62 (dk_at dksX2_letters_0 3 rfl rfl)
theorem dX2_letters_4 : decode cX2_letters 4 = .ok (.iload_n 3, 1) := dk_29 (dk_at dksX2_letters_0 4 rfl rfl)
theorem dX2_letters_5 : decode cX2_letters 5 = .ok (.iconst 4, 1) := dk_7 (dk_at dksX2_letters_0 5 rfl rfl)
theorem dX2_letters_6 : decode cX2_letters 6 = .ok (.if_icmp .ge 28, 3) := dk_162 0 28 (dk_at dksX2_letters_0 6 rfl rfl)
theorem dX2_letters_9 : decode cX2_letters 9 = .ok (.iload_n 2, 1) := dk_28 (dk_at dksX2_letters_0 9 rfl rfl)
theorem dX2_letters_10 : decode cX2_letters 10 = .ok (.aload_n 0, 1) := dk_42 (dk_at dksX2_letters_0 10 rfl rfl)
theorem dX2_letters_11 : decode cX2_letters 11 = .ok (.iload_n 1, 1) := dk_27 (dk_at dksX2_letters_0 11 rfl rfl)
theorem dX2_letters_12 : decode cX2_letters 12 = .ok (.iconst 3, 1) := dk_6 (dk_at dksX2_letters_0 12 rfl rfl)
theorem dX2_letters_13 : decode cX2_letters 13 = .ok (.iload_n 3, 1) := dk_29 (dk_at dksX2_letters_0 13 rfl rfl)
theorem dX2_letters_14 : decode cX2_letters 14 = .ok (.iadd, 1) := dk_96 (dk_at dksX2_letters_0 14 rfl rfl)
theorem dX2_letters_15 : decode cX2_letters 15 = .ok (.invokevirtual 55, 3) := dk_182 0 55 (dk_at dksX2_letters_0 15 rfl rfl)
theorem dX2_letters_18 : decode cX2_letters 18 = .ok (.ifCond .le 7, 3) := dk_158 0 7 (dk_at dksX2_letters_0 18 rfl rfl)
theorem dX2_letters_21 : decode cX2_letters 21 = .ok (.iconst 1, 1) := dk_4 (dk_at dksX2_letters_0 21 rfl rfl)
theorem dX2_letters_22 : decode cX2_letters 22 = .ok (.goto 4, 3) := dk_167 0 4 (dk_at dksX2_letters_1 0 rfl rfl)
theorem dX2_letters_25 : decode cX2_letters 25 = .ok (.iconst 0, 1) := dk_3 (dk_at dksX2_letters_1 3 rfl rfl)
theorem dX2_letters_26 : decode cX2_letters 26 = .ok (.iadd, 1) := dk_96 (dk_at dksX2_letters_1 4 rfl rfl)
theorem dX2_letters_27 : decode cX2_letters 27 = .ok (.istore_n 2, 1) := dk_61 (dk_at dksX2_letters_1 5 rfl rfl)
theorem dX2_letters_28 : decode cX2_letters 28 = .ok (.iinc 3 1, 3) := dk_132 3 1 (dk_at dksX2_letters_1 6 rfl rfl)
theorem dX2_letters_31 : decode cX2_letters 31 = .ok (.goto (-27), 3) := dk_167 255 229 (dk_at dksX2_letters_1 9 rfl rfl)
theorem dX2_letters_34 : decode cX2_letters 34 = .ok (.iload_n 2, 1) := dk_28 (dk_at dksX2_letters_1 12 rfl rfl)
theorem dX2_letters_35 : decode cX2_letters 35 = .ok (.ireturn, 1) := dk_172 (dk_at dksX2_letters_1 13 rfl rfl)
abbrev cX2_writes : ByteArray := prog_7_method_48_code
def yX2_writes : MethodName := ⟨RX2, "writes", "(I)V"⟩
def dkwX2_writes_0 : List UInt8 := [42, 180, 0, 31, 42, 180, 0, 167, 27, 79, 42, 89, 180, 0, 167, 4, 96, 181, 0, 167, 177]
abbrev dktX2_writes_0 : List UInt8 := dkwX2_writes_0 ++ []
theorem dksX2_writes_0 : cX2_writes.data.toList.drop 0 = dktX2_writes_0 := by decide +kernel
theorem dX2_writes_0 : decode cX2_writes 0 = .ok (.aload_n 0, 1) := dk_42 (dk_at dksX2_writes_0 0 rfl rfl)
theorem dX2_writes_1 : decode cX2_writes 1 = .ok (.getfield 31, 3) := dk_180 0 31 (dk_at dksX2_writes_0 1 rfl rfl)
theorem dX2_writes_4 : decode cX2_writes 4 = .ok (.aload_n 0, 1) := dk_42 (dk_at dksX2_writes_0 4 rfl rfl)
theorem dX2_writes_5 : decode cX2_writes 5 = .ok (.getfield 167, 3) := dk_180 0 167 (dk_at dksX2_writes_0 5 rfl rfl)
theorem dX2_writes_8 : decode cX2_writes 8 = .ok (.iload_n 1, 1) := dk_27 (dk_at dksX2_writes_0 8 rfl rfl)
theorem dX2_writes_9 : decode cX2_writes 9 = .ok (.iastore, 1) := dk_79 (dk_at dksX2_writes_0 9 rfl rfl)
theorem dX2_writes_10 : decode cX2_writes 10 = .ok (.aload_n 0, 1) := dk_42 (dk_at dksX2_writes_0 10 rfl rfl)
theorem dX2_writes_11 : decode cX2_writes 11 = .ok (.dup, 1) := dk_89 (dk_at dksX2_writes_0 11 rfl rfl)
theorem dX2_writes_12 : decode cX2_writes 12 = .ok (.getfield 167, 3) := dk_180 0 167 (dk_at dksX2_writes_0 12 rfl rfl)
theorem dX2_writes_15 : decode cX2_writes 15 = .ok (.iconst 1, 1) := dk_4 (dk_at dksX2_writes_0 15 rfl rfl)
theorem dX2_writes_16 : decode cX2_writes 16 = .ok (.iadd, 1) := dk_96 (dk_at dksX2_writes_0 16 rfl rfl)
theorem dX2_writes_17 : decode cX2_writes 17 = .ok (.putfield 167, 3) := dk_181 0 167 (dk_at dksX2_writes_0 17 rfl rfl)
theorem dX2_writes_20 : decode cX2_writes 20 = .ok (.return_, 1) := dk_177 (dk_at dksX2_writes_0 20 rfl rfl)
abbrev cX2_writesNumber : ByteArray := prog_7_method_49_code
def yX2_writesNumber : MethodName := ⟨RX2, "writesNumber", "(II)V"⟩
def dkwX2_writesNumber_1 : List UInt8 := [16, 48, 28, 16, 10, 112, 96, 182, 0, 170, 177]
abbrev dktX2_writesNumber_1 : List UInt8 := dkwX2_writesNumber_1 ++ []
def dkwX2_writesNumber_0 : List UInt8 := [42, 27, 182, 0, 170, 28, 16, 9, 164, 0, 14, 42, 16, 48, 28, 16, 10, 108, 96, 182, 0, 170, 42]
abbrev dktX2_writesNumber_0 : List UInt8 := dkwX2_writesNumber_0 ++ dktX2_writesNumber_1
theorem dksX2_writesNumber_0 : cX2_writesNumber.data.toList.drop 0 = dktX2_writesNumber_0 := by decide +kernel
theorem dksX2_writesNumber_1 : cX2_writesNumber.data.toList.drop 23 = dktX2_writesNumber_1 := dk_seg dksX2_writesNumber_0 23 rfl rfl
theorem dX2_writesNumber_0 : decode cX2_writesNumber 0 = .ok (.aload_n 0, 1) := dk_42 (dk_at dksX2_writesNumber_0 0 rfl rfl)
theorem dX2_writesNumber_1 : decode cX2_writesNumber 1 = .ok (.iload_n 1, 1) := dk_27 (dk_at dksX2_writesNumber_0 1 rfl rfl)
theorem dX2_writesNumber_2 : decode cX2_writesNumber 2 = .ok (.invokevirtual 170, 3) := dk_182 0 170 (dk_at dksX2_writesNumber_0 2 rfl rfl)
theorem dX2_writesNumber_5 : decode cX2_writesNumber 5 = .ok (.iload_n 2, 1) := dk_28 (dk_at dksX2_writesNumber_0 5 rfl rfl)
theorem dX2_writesNumber_6 : decode cX2_writesNumber 6 = .ok (.bipush 9, 2) := dk_16 9 (dk_at dksX2_writesNumber_0 6 rfl rfl)
theorem dX2_writesNumber_8 : decode cX2_writesNumber 8 = .ok (.if_icmp .le 14, 3) := dk_164 0 14 (dk_at dksX2_writesNumber_0 8 rfl rfl)
theorem dX2_writesNumber_11 : decode cX2_writesNumber 11 = .ok (.aload_n 0, 1) := dk_42 (dk_at dksX2_writesNumber_0 11 rfl rfl)
theorem dX2_writesNumber_12 : decode cX2_writesNumber 12 = .ok (.bipush 48, 2) := dk_16 48 (dk_at dksX2_writesNumber_0 12 rfl rfl)
theorem dX2_writesNumber_14 : decode cX2_writesNumber 14 = .ok (.iload_n 2, 1) := dk_28 (dk_at dksX2_writesNumber_0 14 rfl rfl)
theorem dX2_writesNumber_15 : decode cX2_writesNumber 15 = .ok (.bipush 10, 2) := dk_16 10 (dk_at dksX2_writesNumber_0 15 rfl rfl)
theorem dX2_writesNumber_17 : decode cX2_writesNumber 17 = .ok (.idiv, 1) := dk_108 (dk_at dksX2_writesNumber_0 17 rfl rfl)
theorem dX2_writesNumber_18 : decode cX2_writesNumber 18 = .ok (.iadd, 1) := dk_96 (dk_at dksX2_writesNumber_0 18 rfl rfl)
theorem dX2_writesNumber_19 : decode cX2_writesNumber 19 = .ok (.invokevirtual 170, 3) := dk_182 0 170 (dk_at dksX2_writesNumber_0 19 rfl rfl)
theorem dX2_writesNumber_22 : decode cX2_writesNumber 22 = .ok (.aload_n 0, 1) := dk_42 (dk_at dksX2_writesNumber_0 22 rfl rfl)
theorem dX2_writesNumber_23 : decode cX2_writesNumber 23 = .ok (.bipush 48, 2) := dk_16 48 (dk_at dksX2_writesNumber_1 0 rfl rfl)
theorem dX2_writesNumber_25 : decode cX2_writesNumber 25 = .ok (.iload_n 2, 1) := dk_28 (dk_at dksX2_writesNumber_1 2 rfl rfl)
theorem dX2_writesNumber_26 : decode cX2_writesNumber 26 = .ok (.bipush 10, 2) := dk_16 10 (dk_at dksX2_writesNumber_1 3 rfl rfl)
theorem dX2_writesNumber_28 : decode cX2_writesNumber 28 = .ok (.irem, 1) := dk_112 (dk_at dksX2_writesNumber_1 5 rfl rfl)
theorem dX2_writesNumber_29 : decode cX2_writesNumber 29 = .ok (.iadd, 1) := dk_96 (dk_at dksX2_writesNumber_1 6 rfl rfl)
theorem dX2_writesNumber_30 : decode cX2_writesNumber 30 = .ok (.invokevirtual 170, 3) := dk_182 0 170 (dk_at dksX2_writesNumber_1 7 rfl rfl)
theorem dX2_writesNumber_33 : decode cX2_writesNumber 33 = .ok (.return_, 1) := dk_177 (dk_at dksX2_writesNumber_1 10 rfl rfl)
abbrev cX2_piled : ByteArray := prog_7_method_11_code
def yX2_piled : MethodName := ⟨RX2, "piled", "(II)I"⟩
def dkwX2_piled_2 : List UInt8 := [132, 4, 1, 167, 255, 213, 29, 172]
abbrev dktX2_piled_2 : List UInt8 := dkwX2_piled_2 ++ []
def dkwX2_piled_1 : List UInt8 := [160, 0, 20, 42, 21, 4, 16, 8, 182, 0, 55, 28, 160, 0, 8, 21, 4, 167, 0, 4, 29, 62]
abbrev dktX2_piled_1 : List UInt8 := dkwX2_piled_1 ++ dktX2_piled_2
def dkwX2_piled_0 : List UInt8 := [16, 252, 62, 3, 54, 4, 21, 4, 42, 180, 0, 7, 3, 46, 162, 0, 38, 42, 21, 4, 182, 0, 59, 27]
abbrev dktX2_piled_0 : List UInt8 := dkwX2_piled_0 ++ dktX2_piled_1
theorem dksX2_piled_0 : cX2_piled.data.toList.drop 0 = dktX2_piled_0 := by decide +kernel
theorem dksX2_piled_1 : cX2_piled.data.toList.drop 24 = dktX2_piled_1 := dk_seg dksX2_piled_0 24 rfl rfl
theorem dksX2_piled_2 : cX2_piled.data.toList.drop 46 = dktX2_piled_2 := dk_seg dksX2_piled_1 22 rfl rfl
theorem dX2_piled_0 : decode cX2_piled 0 = .ok (.bipush (-4), 2) := dk_16 252 (dk_at dksX2_piled_0 0 rfl rfl)
theorem dX2_piled_2 : decode cX2_piled 2 = .ok (.istore_n 3, 1) := dk_62 (dk_at dksX2_piled_0 2 rfl rfl)
theorem dX2_piled_3 : decode cX2_piled 3 = .ok (.iconst 0, 1) := dk_3 (dk_at dksX2_piled_0 3 rfl rfl)
theorem dX2_piled_4 : decode cX2_piled 4 = .ok (.istore 4, 2) := dk_54 4 (dk_at dksX2_piled_0 4 rfl rfl)
theorem dX2_piled_6 : decode cX2_piled 6 = .ok (.iload 4, 2) := dk_21 4 (dk_at dksX2_piled_0 6 rfl rfl)
theorem dX2_piled_8 : decode cX2_piled 8 = .ok (.aload_n 0, 1) := dk_42 (dk_at dksX2_piled_0 8 rfl rfl)
theorem dX2_piled_9 : decode cX2_piled 9 = .ok (.getfield 7, 3) := dk_180 0 7 (dk_at dksX2_piled_0 9 rfl rfl)
theorem dX2_piled_12 : decode cX2_piled 12 = .ok (.iconst 0, 1) := dk_3 (dk_at dksX2_piled_0 12 rfl rfl)
theorem dX2_piled_13 : decode cX2_piled 13 = .ok (.iaload, 1) := dk_46 (dk_at dksX2_piled_0 13 rfl rfl)
theorem dX2_piled_14 : decode cX2_piled 14 = .ok (.if_icmp .ge 38, 3) := dk_162 0 38 (dk_at dksX2_piled_0 14 rfl rfl)
theorem dX2_piled_17 : decode cX2_piled 17 = .ok (.aload_n 0, 1) := dk_42 (dk_at dksX2_piled_0 17 rfl rfl)
theorem dX2_piled_18 : decode cX2_piled 18 = .ok (.iload 4, 2) := dk_21 4 (dk_at dksX2_piled_0 18 rfl rfl)
theorem dX2_piled_20 : decode cX2_piled 20 = .ok (.invokevirtual 59, 3) := dk_182 0 59 (dk_at dksX2_piled_0 20 rfl rfl)
theorem dX2_piled_23 : decode cX2_piled 23 = .ok (.iload_n 1, 1) := dk_27 (dk_at dksX2_piled_0 23 rfl rfl)
theorem dX2_piled_24 : decode cX2_piled 24 = .ok (.if_icmp .ne 20, 3) := dk_160 0 20 (dk_at dksX2_piled_1 0 rfl rfl)
theorem dX2_piled_27 : decode cX2_piled 27 = .ok (.aload_n 0, 1) := dk_42 (dk_at dksX2_piled_1 3 rfl rfl)
theorem dX2_piled_28 : decode cX2_piled 28 = .ok (.iload 4, 2) := dk_21 4 (dk_at dksX2_piled_1 4 rfl rfl)
theorem dX2_piled_30 : decode cX2_piled 30 = .ok (.bipush 8, 2) := dk_16 8 (dk_at dksX2_piled_1 6 rfl rfl)
theorem dX2_piled_32 : decode cX2_piled 32 = .ok (.invokevirtual 55, 3) := dk_182 0 55 (dk_at dksX2_piled_1 8 rfl rfl)
theorem dX2_piled_35 : decode cX2_piled 35 = .ok (.iload_n 2, 1) := dk_28 (dk_at dksX2_piled_1 11 rfl rfl)
theorem dX2_piled_36 : decode cX2_piled 36 = .ok (.if_icmp .ne 8, 3) := dk_160 0 8 (dk_at dksX2_piled_1 12 rfl rfl)
theorem dX2_piled_39 : decode cX2_piled 39 = .ok (.iload 4, 2) := dk_21 4 (dk_at dksX2_piled_1 15 rfl rfl)
theorem dX2_piled_41 : decode cX2_piled 41 = .ok (.goto 4, 3) := dk_167 0 4 (dk_at dksX2_piled_1 17 rfl rfl)
theorem dX2_piled_44 : decode cX2_piled 44 = .ok (.iload_n 3, 1) := dk_29 (dk_at dksX2_piled_1 20 rfl rfl)
theorem dX2_piled_45 : decode cX2_piled 45 = .ok (.istore_n 3, 1) := dk_62 (dk_at dksX2_piled_1 21 rfl rfl)
theorem dX2_piled_46 : decode cX2_piled 46 = .ok (.iinc 4 1, 3) := dk_132 4 1 (dk_at dksX2_piled_2 0 rfl rfl)
theorem dX2_piled_49 : decode cX2_piled 49 = .ok (.goto (-43), 3) := dk_167 255 213 (dk_at dksX2_piled_2 3 rfl rfl)
theorem dX2_piled_52 : decode cX2_piled 52 = .ok (.iload_n 3, 1) := dk_29 (dk_at dksX2_piled_2 6 rfl rfl)
theorem dX2_piled_53 : decode cX2_piled 53 = .ok (.ireturn, 1) := dk_172 (dk_at dksX2_piled_2 7 rfl rfl)
abbrev cX2_crate : ByteArray := prog_7_method_54_code
def yX2_crate : MethodName := ⟨RX2, "crate", "(II)I"⟩
def dkwX2_crate_6 : List UInt8 := [182, 0, 202, 172, 42, 27, 182, 0, 117, 172, 2, 172]
abbrev dktX2_crate_6 : List UInt8 := dkwX2_crate_6 ++ []
def dkwX2_crate_5 : List UInt8 := [42, 27, 182, 0, 196, 153, 0, 7, 4, 167, 0, 4, 3, 172, 42, 27, 182, 0, 199, 172, 42, 27]
abbrev dktX2_crate_5 : List UInt8 := dkwX2_crate_5 ++ dktX2_crate_6
def dkwX2_crate_4 : List UInt8 := [182, 0, 190, 172, 42, 27, 182, 0, 90, 172, 42, 27, 16, 8, 182, 0, 55, 172, 42, 27, 182, 0, 193, 172]
abbrev dktX2_crate_4 : List UInt8 := dkwX2_crate_4 ++ dktX2_crate_5
def dkwX2_crate_3 : List UInt8 := [167, 0, 8, 42, 27, 182, 0, 59, 172, 42, 27, 182, 0, 80, 172, 42, 27, 182, 0, 67, 172, 42, 27]
abbrev dktX2_crate_3 : List UInt8 := dkwX2_crate_3 ++ dktX2_crate_4
def dkwX2_crate_2 : List UInt8 := [42, 27, 28, 182, 0, 55, 172, 42, 27, 182, 0, 174, 172, 42, 27, 182, 0, 59, 156, 0, 8, 16, 252]
abbrev dktX2_crate_2 : List UInt8 := dkwX2_crate_2 ++ dktX2_crate_3
def dkwX2_crate_1 : List UInt8 := [170, 0, 0, 0, 175, 0, 0, 0, 0, 0, 0, 0, 14, 0, 0, 0, 73, 0, 0, 0, 73, 0, 0, 0, 73, 0, 0, 0, 80, 0, 0, 0, 86, 0, 0, 0, 105, 0, 0, 0, 111, 0, 0, 0, 117, 0, 0, 0, 123, 0, 0, 0, 129, 0, 0, 0, 137, 0, 0, 0, 143, 0, 0, 0, 157, 0, 0, 0, 163, 0, 0, 0, 169]
abbrev dktX2_crate_1 : List UInt8 := dkwX2_crate_1 ++ dktX2_crate_2
def dkwX2_crate_0 : List UInt8 := [42, 27, 182, 0, 108, 154, 0, 5, 2, 172, 28]
abbrev dktX2_crate_0 : List UInt8 := dkwX2_crate_0 ++ dktX2_crate_1
theorem dksX2_crate_0 : cX2_crate.data.toList.drop 0 = dktX2_crate_0 := by decide +kernel
theorem dksX2_crate_1 : cX2_crate.data.toList.drop 11 = dktX2_crate_1 := dk_seg dksX2_crate_0 11 rfl rfl
theorem dksX2_crate_2 : cX2_crate.data.toList.drop 84 = dktX2_crate_2 := dk_seg dksX2_crate_1 73 rfl rfl
theorem dksX2_crate_3 : cX2_crate.data.toList.drop 107 = dktX2_crate_3 := dk_seg dksX2_crate_2 23 rfl rfl
theorem dksX2_crate_4 : cX2_crate.data.toList.drop 130 = dktX2_crate_4 := dk_seg dksX2_crate_3 23 rfl rfl
theorem dksX2_crate_5 : cX2_crate.data.toList.drop 154 = dktX2_crate_5 := dk_seg dksX2_crate_4 24 rfl rfl
theorem dksX2_crate_6 : cX2_crate.data.toList.drop 176 = dktX2_crate_6 := dk_seg dksX2_crate_5 22 rfl rfl
theorem dX2_crate_0 : decode cX2_crate 0 = .ok (.aload_n 0, 1) := dk_42 (dk_at dksX2_crate_0 0 rfl rfl)
theorem dX2_crate_1 : decode cX2_crate 1 = .ok (.iload_n 1, 1) := dk_27 (dk_at dksX2_crate_0 1 rfl rfl)
theorem dX2_crate_2 : decode cX2_crate 2 = .ok (.invokevirtual 108, 3) := dk_182 0 108 (dk_at dksX2_crate_0 2 rfl rfl)
theorem dX2_crate_5 : decode cX2_crate 5 = .ok (.ifCond .ne 5, 3) := dk_154 0 5 (dk_at dksX2_crate_0 5 rfl rfl)
theorem dX2_crate_8 : decode cX2_crate 8 = .ok (.iconst (-1), 1) := dk_2 (dk_at dksX2_crate_0 8 rfl rfl)
theorem dX2_crate_9 : decode cX2_crate 9 = .ok (.ireturn, 1) := dk_172 (dk_at dksX2_crate_0 9 rfl rfl)
theorem dX2_crate_10 : decode cX2_crate 10 = .ok (.iload_n 2, 1) := dk_28 (dk_at dksX2_crate_0 10 rfl rfl)
theorem dX2_crate_11 : decode cX2_crate 11 = .ok (.tableswitch 175 0 14 #[73, 73, 73, 80, 86, 105, 111, 117, 123, 129, 137, 143, 157, 163, 169], 73) := by decide +kernel
theorem dX2_crate_84 : decode cX2_crate 84 = .ok (.aload_n 0, 1) := dk_42 (dk_at dksX2_crate_2 0 rfl rfl)
theorem dX2_crate_85 : decode cX2_crate 85 = .ok (.iload_n 1, 1) := dk_27 (dk_at dksX2_crate_2 1 rfl rfl)
theorem dX2_crate_86 : decode cX2_crate 86 = .ok (.iload_n 2, 1) := dk_28 (dk_at dksX2_crate_2 2 rfl rfl)
theorem dX2_crate_87 : decode cX2_crate 87 = .ok (.invokevirtual 55, 3) := dk_182 0 55 (dk_at dksX2_crate_2 3 rfl rfl)
theorem dX2_crate_90 : decode cX2_crate 90 = .ok (.ireturn, 1) := dk_172 (dk_at dksX2_crate_2 6 rfl rfl)
theorem dX2_crate_91 : decode cX2_crate 91 = .ok (.aload_n 0, 1) := dk_42 (dk_at dksX2_crate_2 7 rfl rfl)
theorem dX2_crate_92 : decode cX2_crate 92 = .ok (.iload_n 1, 1) := dk_27 (dk_at dksX2_crate_2 8 rfl rfl)
theorem dX2_crate_93 : decode cX2_crate 93 = .ok (.invokevirtual 174, 3) := dk_182 0 174 (dk_at dksX2_crate_2 9 rfl rfl)
theorem dX2_crate_96 : decode cX2_crate 96 = .ok (.ireturn, 1) := dk_172 (dk_at dksX2_crate_2 12 rfl rfl)
theorem dX2_crate_97 : decode cX2_crate 97 = .ok (.aload_n 0, 1) := dk_42 (dk_at dksX2_crate_2 13 rfl rfl)
theorem dX2_crate_98 : decode cX2_crate 98 = .ok (.iload_n 1, 1) := dk_27 (dk_at dksX2_crate_2 14 rfl rfl)
theorem dX2_crate_99 : decode cX2_crate 99 = .ok (.invokevirtual 59, 3) := dk_182 0 59 (dk_at dksX2_crate_2 15 rfl rfl)
theorem dX2_crate_102 : decode cX2_crate 102 = .ok (.ifCond .ge 8, 3) := dk_156 0 8 (dk_at dksX2_crate_2 18 rfl rfl)
theorem dX2_crate_105 : decode cX2_crate 105 = .ok (.bipush (-4), 2) := dk_16 252 (dk_at dksX2_crate_2 21 rfl rfl)
theorem dX2_crate_107 : decode cX2_crate 107 = .ok (.goto 8, 3) := dk_167 0 8 (dk_at dksX2_crate_3 0 rfl rfl)
theorem dX2_crate_110 : decode cX2_crate 110 = .ok (.aload_n 0, 1) := dk_42 (dk_at dksX2_crate_3 3 rfl rfl)
theorem dX2_crate_111 : decode cX2_crate 111 = .ok (.iload_n 1, 1) := dk_27 (dk_at dksX2_crate_3 4 rfl rfl)
theorem dX2_crate_112 : decode cX2_crate 112 = .ok (.invokevirtual 59, 3) := dk_182 0 59 (dk_at dksX2_crate_3 5 rfl rfl)
theorem dX2_crate_115 : decode cX2_crate 115 = .ok (.ireturn, 1) := dk_172 (dk_at dksX2_crate_3 8 rfl rfl)
theorem dX2_crate_116 : decode cX2_crate 116 = .ok (.aload_n 0, 1) := dk_42 (dk_at dksX2_crate_3 9 rfl rfl)
theorem dX2_crate_117 : decode cX2_crate 117 = .ok (.iload_n 1, 1) := dk_27 (dk_at dksX2_crate_3 10 rfl rfl)
theorem dX2_crate_118 : decode cX2_crate 118 = .ok (.invokevirtual 80, 3) := dk_182 0 80 (dk_at dksX2_crate_3 11 rfl rfl)
theorem dX2_crate_121 : decode cX2_crate 121 = .ok (.ireturn, 1) := dk_172 (dk_at dksX2_crate_3 14 rfl rfl)
theorem dX2_crate_122 : decode cX2_crate 122 = .ok (.aload_n 0, 1) := dk_42 (dk_at dksX2_crate_3 15 rfl rfl)
theorem dX2_crate_123 : decode cX2_crate 123 = .ok (.iload_n 1, 1) := dk_27 (dk_at dksX2_crate_3 16 rfl rfl)
theorem dX2_crate_124 : decode cX2_crate 124 = .ok (.invokevirtual 67, 3) := dk_182 0 67 (dk_at dksX2_crate_3 17 rfl rfl)
theorem dX2_crate_127 : decode cX2_crate 127 = .ok (.ireturn, 1) := dk_172 (dk_at dksX2_crate_3 20 rfl rfl)
theorem dX2_crate_128 : decode cX2_crate 128 = .ok (.aload_n 0, 1) := dk_42 (dk_at dksX2_crate_3 21 rfl rfl)
theorem dX2_crate_129 : decode cX2_crate 129 = .ok (.iload_n 1, 1) := dk_27 (dk_at dksX2_crate_3 22 rfl rfl)
theorem dX2_crate_130 : decode cX2_crate 130 = .ok (.invokevirtual 190, 3) := dk_182 0 190 (dk_at dksX2_crate_4 0 rfl rfl)
theorem dX2_crate_133 : decode cX2_crate 133 = .ok (.ireturn, 1) := dk_172 (dk_at dksX2_crate_4 3 rfl rfl)
theorem dX2_crate_134 : decode cX2_crate 134 = .ok (.aload_n 0, 1) := dk_42 (dk_at dksX2_crate_4 4 rfl rfl)
theorem dX2_crate_135 : decode cX2_crate 135 = .ok (.iload_n 1, 1) := dk_27 (dk_at dksX2_crate_4 5 rfl rfl)
theorem dX2_crate_136 : decode cX2_crate 136 = .ok (.invokevirtual 90, 3) := dk_182 0 90 (dk_at dksX2_crate_4 6 rfl rfl)
theorem dX2_crate_139 : decode cX2_crate 139 = .ok (.ireturn, 1) := dk_172 (dk_at dksX2_crate_4 9 rfl rfl)
theorem dX2_crate_140 : decode cX2_crate 140 = .ok (.aload_n 0, 1) := dk_42 (dk_at dksX2_crate_4 10 rfl rfl)
theorem dX2_crate_141 : decode cX2_crate 141 = .ok (.iload_n 1, 1) := dk_27 (dk_at dksX2_crate_4 11 rfl rfl)
theorem dX2_crate_142 : decode cX2_crate 142 = .ok (.bipush 8, 2) := dk_16 8 (dk_at dksX2_crate_4 12 rfl rfl)
theorem dX2_crate_144 : decode cX2_crate 144 = .ok (.invokevirtual 55, 3) := dk_182 0 55 (dk_at dksX2_crate_4 14 rfl rfl)
theorem dX2_crate_147 : decode cX2_crate 147 = .ok (.ireturn, 1) := dk_172 (dk_at dksX2_crate_4 17 rfl rfl)
theorem dX2_crate_148 : decode cX2_crate 148 = .ok (.aload_n 0, 1) := dk_42 (dk_at dksX2_crate_4 18 rfl rfl)
theorem dX2_crate_149 : decode cX2_crate 149 = .ok (.iload_n 1, 1) := dk_27 (dk_at dksX2_crate_4 19 rfl rfl)
theorem dX2_crate_150 : decode cX2_crate 150 = .ok (.invokevirtual 193, 3) := dk_182 0 193 (dk_at dksX2_crate_4 20 rfl rfl)
theorem dX2_crate_153 : decode cX2_crate 153 = .ok (.ireturn, 1) := dk_172 (dk_at dksX2_crate_4 23 rfl rfl)
theorem dX2_crate_154 : decode cX2_crate 154 = .ok (.aload_n 0, 1) := dk_42 (dk_at dksX2_crate_5 0 rfl rfl)
theorem dX2_crate_155 : decode cX2_crate 155 = .ok (.iload_n 1, 1) := dk_27 (dk_at dksX2_crate_5 1 rfl rfl)
theorem dX2_crate_156 : decode cX2_crate 156 = .ok (.invokevirtual 196, 3) := dk_182 0 196 (dk_at dksX2_crate_5 2 rfl rfl)
theorem dX2_crate_159 : decode cX2_crate 159 = .ok (.ifCond .eq 7, 3) := dk_153 0 7 (dk_at dksX2_crate_5 5 rfl rfl)
theorem dX2_crate_162 : decode cX2_crate 162 = .ok (.iconst 1, 1) := dk_4 (dk_at dksX2_crate_5 8 rfl rfl)
theorem dX2_crate_163 : decode cX2_crate 163 = .ok (.goto 4, 3) := dk_167 0 4 (dk_at dksX2_crate_5 9 rfl rfl)
theorem dX2_crate_166 : decode cX2_crate 166 = .ok (.iconst 0, 1) := dk_3 (dk_at dksX2_crate_5 12 rfl rfl)
theorem dX2_crate_167 : decode cX2_crate 167 = .ok (.ireturn, 1) := dk_172 (dk_at dksX2_crate_5 13 rfl rfl)
theorem dX2_crate_168 : decode cX2_crate 168 = .ok (.aload_n 0, 1) := dk_42 (dk_at dksX2_crate_5 14 rfl rfl)
theorem dX2_crate_169 : decode cX2_crate 169 = .ok (.iload_n 1, 1) := dk_27 (dk_at dksX2_crate_5 15 rfl rfl)
theorem dX2_crate_170 : decode cX2_crate 170 = .ok (.invokevirtual 199, 3) := dk_182 0 199 (dk_at dksX2_crate_5 16 rfl rfl)
theorem dX2_crate_173 : decode cX2_crate 173 = .ok (.ireturn, 1) := dk_172 (dk_at dksX2_crate_5 19 rfl rfl)
theorem dX2_crate_174 : decode cX2_crate 174 = .ok (.aload_n 0, 1) := dk_42 (dk_at dksX2_crate_5 20 rfl rfl)
theorem dX2_crate_175 : decode cX2_crate 175 = .ok (.iload_n 1, 1) := dk_27 (dk_at dksX2_crate_5 21 rfl rfl)
theorem dX2_crate_176 : decode cX2_crate 176 = .ok (.invokevirtual 202, 3) := dk_182 0 202 (dk_at dksX2_crate_6 0 rfl rfl)
theorem dX2_crate_179 : decode cX2_crate 179 = .ok (.ireturn, 1) := dk_172 (dk_at dksX2_crate_6 3 rfl rfl)
theorem dX2_crate_180 : decode cX2_crate 180 = .ok (.aload_n 0, 1) := dk_42 (dk_at dksX2_crate_6 4 rfl rfl)
theorem dX2_crate_181 : decode cX2_crate 181 = .ok (.iload_n 1, 1) := dk_27 (dk_at dksX2_crate_6 5 rfl rfl)
theorem dX2_crate_182 : decode cX2_crate 182 = .ok (.invokevirtual 117, 3) := dk_182 0 117 (dk_at dksX2_crate_6 6 rfl rfl)
theorem dX2_crate_185 : decode cX2_crate 185 = .ok (.ireturn, 1) := dk_172 (dk_at dksX2_crate_6 9 rfl rfl)
theorem dX2_crate_186 : decode cX2_crate 186 = .ok (.iconst (-1), 1) := dk_2 (dk_at dksX2_crate_6 10 rfl rfl)
theorem dX2_crate_187 : decode cX2_crate 187 = .ok (.ireturn, 1) := dk_172 (dk_at dksX2_crate_6 11 rfl rfl)
abbrev cX2_loadOf : ByteArray := prog_7_method_15_code
def yX2_loadOf : MethodName := ⟨RX2, "loadOf", "(I)I"⟩
def dkwX2_loadOf_1 : List UInt8 := [182, 0, 63, 153, 0, 7, 4, 167, 0, 4, 3, 96, 61, 132, 3, 1, 167, 255, 221, 28, 172]
abbrev dktX2_loadOf_1 : List UInt8 := dkwX2_loadOf_1 ++ []
def dkwX2_loadOf_0 : List UInt8 := [3, 61, 3, 62, 29, 42, 180, 0, 7, 3, 46, 162, 0, 31, 28, 29, 27, 159, 0, 16, 42, 27, 29]
abbrev dktX2_loadOf_0 : List UInt8 := dkwX2_loadOf_0 ++ dktX2_loadOf_1
theorem dksX2_loadOf_0 : cX2_loadOf.data.toList.drop 0 = dktX2_loadOf_0 := by decide +kernel
theorem dksX2_loadOf_1 : cX2_loadOf.data.toList.drop 23 = dktX2_loadOf_1 := dk_seg dksX2_loadOf_0 23 rfl rfl
theorem dX2_loadOf_0 : decode cX2_loadOf 0 = .ok (.iconst 0, 1) := dk_3 (dk_at dksX2_loadOf_0 0 rfl rfl)
theorem dX2_loadOf_1 : decode cX2_loadOf 1 = .ok (.istore_n 2, 1) := dk_61 (dk_at dksX2_loadOf_0 1 rfl rfl)
theorem dX2_loadOf_2 : decode cX2_loadOf 2 = .ok (.iconst 0, 1) := dk_3 (dk_at dksX2_loadOf_0 2 rfl rfl)
theorem dX2_loadOf_3 : decode cX2_loadOf 3 = .ok (.istore_n 3, 1) := dk_62 (dk_at dksX2_loadOf_0 3 rfl rfl)
theorem dX2_loadOf_4 : decode cX2_loadOf 4 = .ok (.iload_n 3, 1) := dk_29 (dk_at dksX2_loadOf_0 4 rfl rfl)
theorem dX2_loadOf_5 : decode cX2_loadOf 5 = .ok (.aload_n 0, 1) := dk_42 (dk_at dksX2_loadOf_0 5 rfl rfl)
theorem dX2_loadOf_6 : decode cX2_loadOf 6 = .ok (.getfield 7, 3) := dk_180 0 7 (dk_at dksX2_loadOf_0 6 rfl rfl)
theorem dX2_loadOf_9 : decode cX2_loadOf 9 = .ok (.iconst 0, 1) := dk_3 (dk_at dksX2_loadOf_0 9 rfl rfl)
theorem dX2_loadOf_10 : decode cX2_loadOf 10 = .ok (.iaload, 1) := dk_46 (dk_at dksX2_loadOf_0 10 rfl rfl)
theorem dX2_loadOf_11 : decode cX2_loadOf 11 = .ok (.if_icmp .ge 31, 3) := dk_162 0 31 (dk_at dksX2_loadOf_0 11 rfl rfl)
theorem dX2_loadOf_14 : decode cX2_loadOf 14 = .ok (.iload_n 2, 1) := dk_28 (dk_at dksX2_loadOf_0 14 rfl rfl)
theorem dX2_loadOf_15 : decode cX2_loadOf 15 = .ok (.iload_n 3, 1) := dk_29 (dk_at dksX2_loadOf_0 15 rfl rfl)
theorem dX2_loadOf_16 : decode cX2_loadOf 16 = .ok (.iload_n 1, 1) := dk_27 (dk_at dksX2_loadOf_0 16 rfl rfl)
theorem dX2_loadOf_17 : decode cX2_loadOf 17 = .ok (.if_icmp .eq 16, 3) := dk_159 0 16 (dk_at dksX2_loadOf_0 17 rfl rfl)
theorem dX2_loadOf_20 : decode cX2_loadOf 20 = .ok (.aload_n 0, 1) := dk_42 (dk_at dksX2_loadOf_0 20 rfl rfl)
theorem dX2_loadOf_21 : decode cX2_loadOf 21 = .ok (.iload_n 1, 1) := dk_27 (dk_at dksX2_loadOf_0 21 rfl rfl)
theorem dX2_loadOf_22 : decode cX2_loadOf 22 = .ok (.iload_n 3, 1) := dk_29 (dk_at dksX2_loadOf_0 22 rfl rfl)
theorem dX2_loadOf_23 : decode cX2_loadOf 23 = .ok (.invokevirtual 63, 3) := dk_182 0 63 (dk_at dksX2_loadOf_1 0 rfl rfl)
theorem dX2_loadOf_26 : decode cX2_loadOf 26 = .ok (.ifCond .eq 7, 3) := dk_153 0 7 (dk_at dksX2_loadOf_1 3 rfl rfl)
theorem dX2_loadOf_29 : decode cX2_loadOf 29 = .ok (.iconst 1, 1) := dk_4 (dk_at dksX2_loadOf_1 6 rfl rfl)
theorem dX2_loadOf_30 : decode cX2_loadOf 30 = .ok (.goto 4, 3) := dk_167 0 4 (dk_at dksX2_loadOf_1 7 rfl rfl)
theorem dX2_loadOf_33 : decode cX2_loadOf 33 = .ok (.iconst 0, 1) := dk_3 (dk_at dksX2_loadOf_1 10 rfl rfl)
theorem dX2_loadOf_34 : decode cX2_loadOf 34 = .ok (.iadd, 1) := dk_96 (dk_at dksX2_loadOf_1 11 rfl rfl)
theorem dX2_loadOf_35 : decode cX2_loadOf 35 = .ok (.istore_n 2, 1) := dk_61 (dk_at dksX2_loadOf_1 12 rfl rfl)
theorem dX2_loadOf_36 : decode cX2_loadOf 36 = .ok (.iinc 3 1, 3) := dk_132 3 1 (dk_at dksX2_loadOf_1 13 rfl rfl)
theorem dX2_loadOf_39 : decode cX2_loadOf 39 = .ok (.goto (-35), 3) := dk_167 255 221 (dk_at dksX2_loadOf_1 16 rfl rfl)
theorem dX2_loadOf_42 : decode cX2_loadOf 42 = .ok (.iload_n 2, 1) := dk_28 (dk_at dksX2_loadOf_1 19 rfl rfl)
theorem dX2_loadOf_43 : decode cX2_loadOf 43 = .ok (.ireturn, 1) := dk_172 (dk_at dksX2_loadOf_1 20 rfl rfl)
abbrev cX2_effortTo : ByteArray := prog_7_method_24_code
def yX2_effortTo : MethodName := ⟨RX2, "effortTo", "(I)I"⟩
def dkwX2_effortTo_1 : List UInt8 := [16, 8, 182, 0, 55, 100, 96, 61, 42, 29, 182, 0, 59, 62, 167, 255, 222, 28, 172]
abbrev dktX2_effortTo_1 : List UInt8 := dkwX2_effortTo_1 ++ []
def dkwX2_effortTo_0 : List UInt8 := [3, 61, 27, 62, 42, 29, 182, 0, 59, 155, 0, 32, 28, 42, 42, 29, 182, 0, 59, 182, 0, 67, 42, 29]
abbrev dktX2_effortTo_0 : List UInt8 := dkwX2_effortTo_0 ++ dktX2_effortTo_1
theorem dksX2_effortTo_0 : cX2_effortTo.data.toList.drop 0 = dktX2_effortTo_0 := by decide +kernel
theorem dksX2_effortTo_1 : cX2_effortTo.data.toList.drop 24 = dktX2_effortTo_1 := dk_seg dksX2_effortTo_0 24 rfl rfl
theorem dX2_effortTo_0 : decode cX2_effortTo 0 = .ok (.iconst 0, 1) := dk_3 (dk_at dksX2_effortTo_0 0 rfl rfl)
theorem dX2_effortTo_1 : decode cX2_effortTo 1 = .ok (.istore_n 2, 1) := dk_61 (dk_at dksX2_effortTo_0 1 rfl rfl)
theorem dX2_effortTo_2 : decode cX2_effortTo 2 = .ok (.iload_n 1, 1) := dk_27 (dk_at dksX2_effortTo_0 2 rfl rfl)
theorem dX2_effortTo_3 : decode cX2_effortTo 3 = .ok (.istore_n 3, 1) := dk_62 (dk_at dksX2_effortTo_0 3 rfl rfl)
theorem dX2_effortTo_4 : decode cX2_effortTo 4 = .ok (.aload_n 0, 1) := dk_42 (dk_at dksX2_effortTo_0 4 rfl rfl)
theorem dX2_effortTo_5 : decode cX2_effortTo 5 = .ok (.iload_n 3, 1) := dk_29 (dk_at dksX2_effortTo_0 5 rfl rfl)
theorem dX2_effortTo_6 : decode cX2_effortTo 6 = .ok (.invokevirtual 59, 3) := dk_182 0 59 (dk_at dksX2_effortTo_0 6 rfl rfl)
theorem dX2_effortTo_9 : decode cX2_effortTo 9 = .ok (.ifCond .lt 32, 3) := dk_155 0 32 (dk_at dksX2_effortTo_0 9 rfl rfl)
theorem dX2_effortTo_12 : decode cX2_effortTo 12 = .ok (.iload_n 2, 1) := dk_28 (dk_at dksX2_effortTo_0 12 rfl rfl)
theorem dX2_effortTo_13 : decode cX2_effortTo 13 = .ok (.aload_n 0, 1) := dk_42 (dk_at dksX2_effortTo_0 13 rfl rfl)
theorem dX2_effortTo_14 : decode cX2_effortTo 14 = .ok (.aload_n 0, 1) := dk_42 (dk_at dksX2_effortTo_0 14 rfl rfl)
theorem dX2_effortTo_15 : decode cX2_effortTo 15 = .ok (.iload_n 3, 1) := dk_29 (dk_at dksX2_effortTo_0 15 rfl rfl)
theorem dX2_effortTo_16 : decode cX2_effortTo 16 = .ok (.invokevirtual 59, 3) := dk_182 0 59 (dk_at dksX2_effortTo_0 16 rfl rfl)
theorem dX2_effortTo_19 : decode cX2_effortTo 19 = .ok (.invokevirtual 67, 3) := dk_182 0 67 (dk_at dksX2_effortTo_0 19 rfl rfl)
theorem dX2_effortTo_22 : decode cX2_effortTo 22 = .ok (.aload_n 0, 1) := dk_42 (dk_at dksX2_effortTo_0 22 rfl rfl)
theorem dX2_effortTo_23 : decode cX2_effortTo 23 = .ok (.iload_n 3, 1) := dk_29 (dk_at dksX2_effortTo_0 23 rfl rfl)
theorem dX2_effortTo_24 : decode cX2_effortTo 24 = .ok (.bipush 8, 2) := dk_16 8 (dk_at dksX2_effortTo_1 0 rfl rfl)
theorem dX2_effortTo_26 : decode cX2_effortTo 26 = .ok (.invokevirtual 55, 3) := dk_182 0 55 (dk_at dksX2_effortTo_1 2 rfl rfl)
theorem dX2_effortTo_29 : decode cX2_effortTo 29 = .ok (.isub, 1) := dk_100 (dk_at dksX2_effortTo_1 5 rfl rfl)
theorem dX2_effortTo_30 : decode cX2_effortTo 30 = .ok (.iadd, 1) := dk_96 (dk_at dksX2_effortTo_1 6 rfl rfl)
theorem dX2_effortTo_31 : decode cX2_effortTo 31 = .ok (.istore_n 2, 1) := dk_61 (dk_at dksX2_effortTo_1 7 rfl rfl)
theorem dX2_effortTo_32 : decode cX2_effortTo 32 = .ok (.aload_n 0, 1) := dk_42 (dk_at dksX2_effortTo_1 8 rfl rfl)
theorem dX2_effortTo_33 : decode cX2_effortTo 33 = .ok (.iload_n 3, 1) := dk_29 (dk_at dksX2_effortTo_1 9 rfl rfl)
theorem dX2_effortTo_34 : decode cX2_effortTo 34 = .ok (.invokevirtual 59, 3) := dk_182 0 59 (dk_at dksX2_effortTo_1 10 rfl rfl)
theorem dX2_effortTo_37 : decode cX2_effortTo 37 = .ok (.istore_n 3, 1) := dk_62 (dk_at dksX2_effortTo_1 13 rfl rfl)
theorem dX2_effortTo_38 : decode cX2_effortTo 38 = .ok (.goto (-34), 3) := dk_167 255 222 (dk_at dksX2_effortTo_1 14 rfl rfl)
theorem dX2_effortTo_41 : decode cX2_effortTo 41 = .ok (.iload_n 2, 1) := dk_28 (dk_at dksX2_effortTo_1 17 rfl rfl)
theorem dX2_effortTo_42 : decode cX2_effortTo 42 = .ok (.ireturn, 1) := dk_172 (dk_at dksX2_effortTo_1 18 rfl rfl)
abbrev cX2_isTold : ByteArray := prog_7_method_23_code
def yX2_isTold : MethodName := ⟨RX2, "isTold", "(I)Z"⟩
def dkwX2_isTold_3 : List UInt8 := [21, 4, 154, 0, 7, 4, 167, 0, 4, 3, 61, 132, 3, 1, 167, 255, 175, 28, 172]
abbrev dktX2_isTold_3 : List UInt8 := dkwX2_isTold_3 ++ []
def dkwX2_isTold_2 : List UInt8 := [42, 27, 182, 0, 83, 160, 0, 7, 4, 167, 0, 4, 3, 54, 4, 28, 153, 0, 17, 29, 27, 159, 0, 8]
abbrev dktX2_isTold_2 : List UInt8 := dkwX2_isTold_2 ++ dktX2_isTold_3
def dkwX2_isTold_1 : List UInt8 := [182, 0, 55, 160, 0, 33, 42, 29, 182, 0, 80, 42, 27, 182, 0, 80, 160, 0, 20, 42, 29, 182, 0, 83]
abbrev dktX2_isTold_1 : List UInt8 := dkwX2_isTold_1 ++ dktX2_isTold_2
def dkwX2_isTold_0 : List UInt8 := [4, 61, 3, 62, 29, 42, 180, 0, 7, 3, 46, 162, 0, 77, 42, 29, 3, 182, 0, 55, 42, 27, 3]
abbrev dktX2_isTold_0 : List UInt8 := dkwX2_isTold_0 ++ dktX2_isTold_1
theorem dksX2_isTold_0 : cX2_isTold.data.toList.drop 0 = dktX2_isTold_0 := by decide +kernel
theorem dksX2_isTold_1 : cX2_isTold.data.toList.drop 23 = dktX2_isTold_1 := dk_seg dksX2_isTold_0 23 rfl rfl
theorem dksX2_isTold_2 : cX2_isTold.data.toList.drop 47 = dktX2_isTold_2 := dk_seg dksX2_isTold_1 24 rfl rfl
theorem dksX2_isTold_3 : cX2_isTold.data.toList.drop 71 = dktX2_isTold_3 := dk_seg dksX2_isTold_2 24 rfl rfl
theorem dX2_isTold_0 : decode cX2_isTold 0 = .ok (.iconst 1, 1) := dk_4 (dk_at dksX2_isTold_0 0 rfl rfl)
theorem dX2_isTold_1 : decode cX2_isTold 1 = .ok (.istore_n 2, 1) := dk_61 (dk_at dksX2_isTold_0 1 rfl rfl)
theorem dX2_isTold_2 : decode cX2_isTold 2 = .ok (.iconst 0, 1) := dk_3 (dk_at dksX2_isTold_0 2 rfl rfl)
theorem dX2_isTold_3 : decode cX2_isTold 3 = .ok (.istore_n 3, 1) := dk_62 (dk_at dksX2_isTold_0 3 rfl rfl)
theorem dX2_isTold_4 : decode cX2_isTold 4 = .ok (.iload_n 3, 1) := dk_29 (dk_at dksX2_isTold_0 4 rfl rfl)
theorem dX2_isTold_5 : decode cX2_isTold 5 = .ok (.aload_n 0, 1) := dk_42 (dk_at dksX2_isTold_0 5 rfl rfl)
theorem dX2_isTold_6 : decode cX2_isTold 6 = .ok (.getfield 7, 3) := dk_180 0 7 (dk_at dksX2_isTold_0 6 rfl rfl)
theorem dX2_isTold_9 : decode cX2_isTold 9 = .ok (.iconst 0, 1) := dk_3 (dk_at dksX2_isTold_0 9 rfl rfl)
theorem dX2_isTold_10 : decode cX2_isTold 10 = .ok (.iaload, 1) := dk_46 (dk_at dksX2_isTold_0 10 rfl rfl)
theorem dX2_isTold_11 : decode cX2_isTold 11 = .ok (.if_icmp .ge 77, 3) := dk_162 0 77 (dk_at dksX2_isTold_0 11 rfl rfl)
theorem dX2_isTold_14 : decode cX2_isTold 14 = .ok (.aload_n 0, 1) := dk_42 (dk_at dksX2_isTold_0 14 rfl rfl)
theorem dX2_isTold_15 : decode cX2_isTold 15 = .ok (.iload_n 3, 1) := dk_29 (dk_at dksX2_isTold_0 15 rfl rfl)
theorem dX2_isTold_16 : decode cX2_isTold 16 = .ok (.iconst 0, 1) := dk_3 (dk_at dksX2_isTold_0 16 rfl rfl)
theorem dX2_isTold_17 : decode cX2_isTold 17 = .ok (.invokevirtual 55, 3) := dk_182 0 55 (dk_at dksX2_isTold_0 17 rfl rfl)
theorem dX2_isTold_20 : decode cX2_isTold 20 = .ok (.aload_n 0, 1) := dk_42 (dk_at dksX2_isTold_0 20 rfl rfl)
theorem dX2_isTold_21 : decode cX2_isTold 21 = .ok (.iload_n 1, 1) := dk_27 (dk_at dksX2_isTold_0 21 rfl rfl)
theorem dX2_isTold_22 : decode cX2_isTold 22 = .ok (.iconst 0, 1) := dk_3 (dk_at dksX2_isTold_0 22 rfl rfl)
theorem dX2_isTold_23 : decode cX2_isTold 23 = .ok (.invokevirtual 55, 3) := dk_182 0 55 (dk_at dksX2_isTold_1 0 rfl rfl)
theorem dX2_isTold_26 : decode cX2_isTold 26 = .ok (.if_icmp .ne 33, 3) := dk_160 0 33 (dk_at dksX2_isTold_1 3 rfl rfl)
theorem dX2_isTold_29 : decode cX2_isTold 29 = .ok (.aload_n 0, 1) := dk_42 (dk_at dksX2_isTold_1 6 rfl rfl)
theorem dX2_isTold_30 : decode cX2_isTold 30 = .ok (.iload_n 3, 1) := dk_29 (dk_at dksX2_isTold_1 7 rfl rfl)
theorem dX2_isTold_31 : decode cX2_isTold 31 = .ok (.invokevirtual 80, 3) := dk_182 0 80 (dk_at dksX2_isTold_1 8 rfl rfl)
theorem dX2_isTold_34 : decode cX2_isTold 34 = .ok (.aload_n 0, 1) := dk_42 (dk_at dksX2_isTold_1 11 rfl rfl)
theorem dX2_isTold_35 : decode cX2_isTold 35 = .ok (.iload_n 1, 1) := dk_27 (dk_at dksX2_isTold_1 12 rfl rfl)
theorem dX2_isTold_36 : decode cX2_isTold 36 = .ok (.invokevirtual 80, 3) := dk_182 0 80 (dk_at dksX2_isTold_1 13 rfl rfl)
theorem dX2_isTold_39 : decode cX2_isTold 39 = .ok (.if_icmp .ne 20, 3) := dk_160 0 20 (dk_at dksX2_isTold_1 16 rfl rfl)
theorem dX2_isTold_42 : decode cX2_isTold 42 = .ok (.aload_n 0, 1) := dk_42 (dk_at dksX2_isTold_1 19 rfl rfl)
theorem dX2_isTold_43 : decode cX2_isTold 43 = .ok (.iload_n 3, 1) := dk_29 (dk_at dksX2_isTold_1 20 rfl rfl)
theorem dX2_isTold_44 : decode cX2_isTold 44 = .ok (.invokevirtual 83, 3) := dk_182 0 83 (dk_at dksX2_isTold_1 21 rfl rfl)
theorem dX2_isTold_47 : decode cX2_isTold 47 = .ok (.aload_n 0, 1) := dk_42 (dk_at dksX2_isTold_2 0 rfl rfl)
theorem dX2_isTold_48 : decode cX2_isTold 48 = .ok (.iload_n 1, 1) := dk_27 (dk_at dksX2_isTold_2 1 rfl rfl)
theorem dX2_isTold_49 : decode cX2_isTold 49 = .ok (.invokevirtual 83, 3) := dk_182 0 83 (dk_at dksX2_isTold_2 2 rfl rfl)
theorem dX2_isTold_52 : decode cX2_isTold 52 = .ok (.if_icmp .ne 7, 3) := dk_160 0 7 (dk_at dksX2_isTold_2 5 rfl rfl)
theorem dX2_isTold_55 : decode cX2_isTold 55 = .ok (.iconst 1, 1) := dk_4 (dk_at dksX2_isTold_2 8 rfl rfl)
theorem dX2_isTold_56 : decode cX2_isTold 56 = .ok (.goto 4, 3) := dk_167 0 4 (dk_at dksX2_isTold_2 9 rfl rfl)
theorem dX2_isTold_59 : decode cX2_isTold 59 = .ok (.iconst 0, 1) := dk_3 (dk_at dksX2_isTold_2 12 rfl rfl)
theorem dX2_isTold_60 : decode cX2_isTold 60 = .ok (.istore 4, 2) := dk_54 4 (dk_at dksX2_isTold_2 13 rfl rfl)
theorem dX2_isTold_62 : decode cX2_isTold 62 = .ok (.iload_n 2, 1) := dk_28 (dk_at dksX2_isTold_2 15 rfl rfl)
theorem dX2_isTold_63 : decode cX2_isTold 63 = .ok (.ifCond .eq 17, 3) := dk_153 0 17 (dk_at dksX2_isTold_2 16 rfl rfl)
theorem dX2_isTold_66 : decode cX2_isTold 66 = .ok (.iload_n 3, 1) := dk_29 (dk_at dksX2_isTold_2 19 rfl rfl)
theorem dX2_isTold_67 : decode cX2_isTold 67 = .ok (.iload_n 1, 1) := dk_27 (dk_at dksX2_isTold_2 20 rfl rfl)
theorem dX2_isTold_68 : decode cX2_isTold 68 = .ok (.if_icmp .eq 8, 3) := dk_159 0 8 (dk_at dksX2_isTold_2 21 rfl rfl)
theorem dX2_isTold_71 : decode cX2_isTold 71 = .ok (.iload 4, 2) := dk_21 4 (dk_at dksX2_isTold_3 0 rfl rfl)
theorem dX2_isTold_73 : decode cX2_isTold 73 = .ok (.ifCond .ne 7, 3) := dk_154 0 7 (dk_at dksX2_isTold_3 2 rfl rfl)
theorem dX2_isTold_76 : decode cX2_isTold 76 = .ok (.iconst 1, 1) := dk_4 (dk_at dksX2_isTold_3 5 rfl rfl)
theorem dX2_isTold_77 : decode cX2_isTold 77 = .ok (.goto 4, 3) := dk_167 0 4 (dk_at dksX2_isTold_3 6 rfl rfl)
theorem dX2_isTold_80 : decode cX2_isTold 80 = .ok (.iconst 0, 1) := dk_3 (dk_at dksX2_isTold_3 9 rfl rfl)
theorem dX2_isTold_81 : decode cX2_isTold 81 = .ok (.istore_n 2, 1) := dk_61 (dk_at dksX2_isTold_3 10 rfl rfl)
theorem dX2_isTold_82 : decode cX2_isTold 82 = .ok (.iinc 3 1, 3) := dk_132 3 1 (dk_at dksX2_isTold_3 11 rfl rfl)
theorem dX2_isTold_85 : decode cX2_isTold 85 = .ok (.goto (-81), 3) := dk_167 255 175 (dk_at dksX2_isTold_3 14 rfl rfl)
theorem dX2_isTold_88 : decode cX2_isTold 88 = .ok (.iload_n 2, 1) := dk_28 (dk_at dksX2_isTold_3 17 rfl rfl)
theorem dX2_isTold_89 : decode cX2_isTold 89 = .ok (.ireturn, 1) := dk_172 (dk_at dksX2_isTold_3 18 rfl rfl)
abbrev cX2_signsOf : ByteArray := prog_7_method_21_code
def yX2_signsOf : MethodName := ⟨RX2, "signsOf", "(I)I"⟩
def dkwX2_signsOf_1 : List UInt8 := [167, 255, 236, 28, 172]
abbrev dktX2_signsOf_1 : List UInt8 := dkwX2_signsOf_1 ++ []
def dkwX2_signsOf_0 : List UInt8 := [3, 61, 3, 62, 29, 7, 162, 0, 21, 16, 32, 28, 104, 42, 27, 29, 182, 0, 77, 96, 61, 132, 3, 1]
abbrev dktX2_signsOf_0 : List UInt8 := dkwX2_signsOf_0 ++ dktX2_signsOf_1
theorem dksX2_signsOf_0 : cX2_signsOf.data.toList.drop 0 = dktX2_signsOf_0 := by decide +kernel
theorem dksX2_signsOf_1 : cX2_signsOf.data.toList.drop 24 = dktX2_signsOf_1 := dk_seg dksX2_signsOf_0 24 rfl rfl
theorem dX2_signsOf_0 : decode cX2_signsOf 0 = .ok (.iconst 0, 1) := dk_3 (dk_at dksX2_signsOf_0 0 rfl rfl)
theorem dX2_signsOf_1 : decode cX2_signsOf 1 = .ok (.istore_n 2, 1) := dk_61 (dk_at dksX2_signsOf_0 1 rfl rfl)
theorem dX2_signsOf_2 : decode cX2_signsOf 2 = .ok (.iconst 0, 1) := dk_3 (dk_at dksX2_signsOf_0 2 rfl rfl)
theorem dX2_signsOf_3 : decode cX2_signsOf 3 = .ok (.istore_n 3, 1) := dk_62 (dk_at dksX2_signsOf_0 3 rfl rfl)
theorem dX2_signsOf_4 : decode cX2_signsOf 4 = .ok (.iload_n 3, 1) := dk_29 (dk_at dksX2_signsOf_0 4 rfl rfl)
theorem dX2_signsOf_5 : decode cX2_signsOf 5 = .ok (.iconst 4, 1) := dk_7 (dk_at dksX2_signsOf_0 5 rfl rfl)
theorem dX2_signsOf_6 : decode cX2_signsOf 6 = .ok (.if_icmp .ge 21, 3) := dk_162 0 21 (dk_at dksX2_signsOf_0 6 rfl rfl)
theorem dX2_signsOf_9 : decode cX2_signsOf 9 = .ok (.bipush 32, 2) := dk_16 32 (dk_at dksX2_signsOf_0 9 rfl rfl)
theorem dX2_signsOf_11 : decode cX2_signsOf 11 = .ok (.iload_n 2, 1) := dk_28 (dk_at dksX2_signsOf_0 11 rfl rfl)
theorem dX2_signsOf_12 : decode cX2_signsOf 12 = .ok (.imul, 1) := dk_104 (dk_at dksX2_signsOf_0 12 rfl rfl)
theorem dX2_signsOf_13 : decode cX2_signsOf 13 = .ok (.aload_n 0, 1) := dk_42 (dk_at dksX2_signsOf_0 13 rfl rfl)
theorem dX2_signsOf_14 : decode cX2_signsOf 14 = .ok (.iload_n 1, 1) := dk_27 (dk_at dksX2_signsOf_0 14 rfl rfl)
theorem dX2_signsOf_15 : decode cX2_signsOf 15 = .ok (.iload_n 3, 1) := dk_29 (dk_at dksX2_signsOf_0 15 rfl rfl)
theorem dX2_signsOf_16 : decode cX2_signsOf 16 = .ok (.invokevirtual 77, 3) := dk_182 0 77 (dk_at dksX2_signsOf_0 16 rfl rfl)
theorem dX2_signsOf_19 : decode cX2_signsOf 19 = .ok (.iadd, 1) := dk_96 (dk_at dksX2_signsOf_0 19 rfl rfl)
theorem dX2_signsOf_20 : decode cX2_signsOf 20 = .ok (.istore_n 2, 1) := dk_61 (dk_at dksX2_signsOf_0 20 rfl rfl)
theorem dX2_signsOf_21 : decode cX2_signsOf 21 = .ok (.iinc 3 1, 3) := dk_132 3 1 (dk_at dksX2_signsOf_0 21 rfl rfl)
theorem dX2_signsOf_24 : decode cX2_signsOf 24 = .ok (.goto (-20), 3) := dk_167 255 236 (dk_at dksX2_signsOf_1 0 rfl rfl)
theorem dX2_signsOf_27 : decode cX2_signsOf 27 = .ok (.iload_n 2, 1) := dk_28 (dk_at dksX2_signsOf_1 3 rfl rfl)
theorem dX2_signsOf_28 : decode cX2_signsOf 28 = .ok (.ireturn, 1) := dk_172 (dk_at dksX2_signsOf_1 4 rfl rfl)
abbrev cX2_signOf : ByteArray := prog_7_method_20_code
def yX2_signOf : MethodName := ⟨RX2, "signOf", "(II)I"⟩
def dkwX2_signOf_0 : List UInt8 := [42, 27, 28, 42, 27, 28, 182, 0, 70, 182, 0, 73, 172]
abbrev dktX2_signOf_0 : List UInt8 := dkwX2_signOf_0 ++ []
theorem dksX2_signOf_0 : cX2_signOf.data.toList.drop 0 = dktX2_signOf_0 := by decide +kernel
theorem dX2_signOf_0 : decode cX2_signOf 0 = .ok (.aload_n 0, 1) := dk_42 (dk_at dksX2_signOf_0 0 rfl rfl)
theorem dX2_signOf_1 : decode cX2_signOf 1 = .ok (.iload_n 1, 1) := dk_27 (dk_at dksX2_signOf_0 1 rfl rfl)
theorem dX2_signOf_2 : decode cX2_signOf 2 = .ok (.iload_n 2, 1) := dk_28 (dk_at dksX2_signOf_0 2 rfl rfl)
theorem dX2_signOf_3 : decode cX2_signOf 3 = .ok (.aload_n 0, 1) := dk_42 (dk_at dksX2_signOf_0 3 rfl rfl)
theorem dX2_signOf_4 : decode cX2_signOf 4 = .ok (.iload_n 1, 1) := dk_27 (dk_at dksX2_signOf_0 4 rfl rfl)
theorem dX2_signOf_5 : decode cX2_signOf 5 = .ok (.iload_n 2, 1) := dk_28 (dk_at dksX2_signOf_0 5 rfl rfl)
theorem dX2_signOf_6 : decode cX2_signOf 6 = .ok (.invokevirtual 70, 3) := dk_182 0 70 (dk_at dksX2_signOf_0 6 rfl rfl)
theorem dX2_signOf_9 : decode cX2_signOf 9 = .ok (.invokevirtual 73, 3) := dk_182 0 73 (dk_at dksX2_signOf_0 9 rfl rfl)
theorem dX2_signOf_12 : decode cX2_signOf 12 = .ok (.ireturn, 1) := dk_172 (dk_at dksX2_signOf_0 12 rfl rfl)
abbrev cX2_isOpen : ByteArray := prog_7_method_18_code
def yX2_isOpen : MethodName := ⟨RX2, "isOpen", "(II)Z"⟩
def dkwX2_isOpen_2 : List UInt8 := [54, 4, 167, 255, 218, 29, 172]
abbrev dktX2_isOpen_2 : List UInt8 := dkwX2_isOpen_2 ++ []
def dkwX2_isOpen_1 : List UInt8 := [182, 0, 55, 28, 122, 4, 126, 4, 160, 0, 7, 4, 167, 0, 4, 3, 62, 42, 21, 4, 182, 0, 59]
abbrev dktX2_isOpen_1 : List UInt8 := dkwX2_isOpen_1 ++ dktX2_isOpen_2
def dkwX2_isOpen_0 : List UInt8 := [4, 62, 42, 27, 182, 0, 59, 54, 4, 21, 4, 155, 0, 39, 29, 153, 0, 22, 42, 21, 4, 5]
abbrev dktX2_isOpen_0 : List UInt8 := dkwX2_isOpen_0 ++ dktX2_isOpen_1
theorem dksX2_isOpen_0 : cX2_isOpen.data.toList.drop 0 = dktX2_isOpen_0 := by decide +kernel
theorem dksX2_isOpen_1 : cX2_isOpen.data.toList.drop 22 = dktX2_isOpen_1 := dk_seg dksX2_isOpen_0 22 rfl rfl
theorem dksX2_isOpen_2 : cX2_isOpen.data.toList.drop 45 = dktX2_isOpen_2 := dk_seg dksX2_isOpen_1 23 rfl rfl
theorem dX2_isOpen_0 : decode cX2_isOpen 0 = .ok (.iconst 1, 1) := dk_4 (dk_at dksX2_isOpen_0 0 rfl rfl)
theorem dX2_isOpen_1 : decode cX2_isOpen 1 = .ok (.istore_n 3, 1) := dk_62 (dk_at dksX2_isOpen_0 1 rfl rfl)
theorem dX2_isOpen_2 : decode cX2_isOpen 2 = .ok (.aload_n 0, 1) := dk_42 (dk_at dksX2_isOpen_0 2 rfl rfl)
theorem dX2_isOpen_3 : decode cX2_isOpen 3 = .ok (.iload_n 1, 1) := dk_27 (dk_at dksX2_isOpen_0 3 rfl rfl)
theorem dX2_isOpen_4 : decode cX2_isOpen 4 = .ok (.invokevirtual 59, 3) := dk_182 0 59 (dk_at dksX2_isOpen_0 4 rfl rfl)
theorem dX2_isOpen_7 : decode cX2_isOpen 7 = .ok (.istore 4, 2) := dk_54 4 (dk_at dksX2_isOpen_0 7 rfl rfl)
theorem dX2_isOpen_9 : decode cX2_isOpen 9 = .ok (.iload 4, 2) := dk_21 4 (dk_at dksX2_isOpen_0 9 rfl rfl)
theorem dX2_isOpen_11 : decode cX2_isOpen 11 = .ok (.ifCond .lt 39, 3) := dk_155 0 39 (dk_at dksX2_isOpen_0 11 rfl rfl)
theorem dX2_isOpen_14 : decode cX2_isOpen 14 = .ok (.iload_n 3, 1) := dk_29 (dk_at dksX2_isOpen_0 14 rfl rfl)
theorem dX2_isOpen_15 : decode cX2_isOpen 15 = .ok (.ifCond .eq 22, 3) := dk_153 0 22 (dk_at dksX2_isOpen_0 15 rfl rfl)
theorem dX2_isOpen_18 : decode cX2_isOpen 18 = .ok (.aload_n 0, 1) := dk_42 (dk_at dksX2_isOpen_0 18 rfl rfl)
theorem dX2_isOpen_19 : decode cX2_isOpen 19 = .ok (.iload 4, 2) := dk_21 4 (dk_at dksX2_isOpen_0 19 rfl rfl)
theorem dX2_isOpen_21 : decode cX2_isOpen 21 = .ok (.iconst 2, 1) := dk_5 (dk_at dksX2_isOpen_0 21 rfl rfl)
theorem dX2_isOpen_22 : decode cX2_isOpen 22 = .ok (.invokevirtual 55, 3) := dk_182 0 55 (dk_at dksX2_isOpen_1 0 rfl rfl)
theorem dX2_isOpen_25 : decode cX2_isOpen 25 = .ok (.iload_n 2, 1) := dk_28 (dk_at dksX2_isOpen_1 3 rfl rfl)
theorem dX2_isOpen_26 : decode cX2_isOpen 26 = .ok (.ishr, 1) := dk_122 (dk_at dksX2_isOpen_1 4 rfl rfl)
theorem dX2_isOpen_27 : decode cX2_isOpen 27 = .ok (.iconst 1, 1) := dk_4 (dk_at dksX2_isOpen_1 5 rfl rfl)
theorem dX2_isOpen_28 : decode cX2_isOpen 28 = .ok (.iand, 1) := dk_126 (dk_at dksX2_isOpen_1 6 rfl rfl)
theorem dX2_isOpen_29 : decode cX2_isOpen 29 = .ok (.iconst 1, 1) := dk_4 (dk_at dksX2_isOpen_1 7 rfl rfl)
theorem dX2_isOpen_30 : decode cX2_isOpen 30 = .ok (.if_icmp .ne 7, 3) := dk_160 0 7 (dk_at dksX2_isOpen_1 8 rfl rfl)
theorem dX2_isOpen_33 : decode cX2_isOpen 33 = .ok (.iconst 1, 1) := dk_4 (dk_at dksX2_isOpen_1 11 rfl rfl)
theorem dX2_isOpen_34 : decode cX2_isOpen 34 = .ok (.goto 4, 3) := dk_167 0 4 (dk_at dksX2_isOpen_1 12 rfl rfl)
theorem dX2_isOpen_37 : decode cX2_isOpen 37 = .ok (.iconst 0, 1) := dk_3 (dk_at dksX2_isOpen_1 15 rfl rfl)
theorem dX2_isOpen_38 : decode cX2_isOpen 38 = .ok (.istore_n 3, 1) := dk_62 (dk_at dksX2_isOpen_1 16 rfl rfl)
theorem dX2_isOpen_39 : decode cX2_isOpen 39 = .ok (.aload_n 0, 1) := dk_42 (dk_at dksX2_isOpen_1 17 rfl rfl)
theorem dX2_isOpen_40 : decode cX2_isOpen 40 = .ok (.iload 4, 2) := dk_21 4 (dk_at dksX2_isOpen_1 18 rfl rfl)
theorem dX2_isOpen_42 : decode cX2_isOpen 42 = .ok (.invokevirtual 59, 3) := dk_182 0 59 (dk_at dksX2_isOpen_1 20 rfl rfl)
theorem dX2_isOpen_45 : decode cX2_isOpen 45 = .ok (.istore 4, 2) := dk_54 4 (dk_at dksX2_isOpen_2 0 rfl rfl)
theorem dX2_isOpen_47 : decode cX2_isOpen 47 = .ok (.goto (-38), 3) := dk_167 255 218 (dk_at dksX2_isOpen_2 2 rfl rfl)
theorem dX2_isOpen_50 : decode cX2_isOpen 50 = .ok (.iload_n 3, 1) := dk_29 (dk_at dksX2_isOpen_2 5 rfl rfl)
theorem dX2_isOpen_51 : decode cX2_isOpen 51 = .ok (.ireturn, 1) := dk_172 (dk_at dksX2_isOpen_2 6 rfl rfl)
abbrev cX2_signBy : ByteArray := prog_7_method_19_code
def yX2_signBy : MethodName := ⟨RX2, "signBy", "(IIZ)I"⟩
def dkwX2_signBy_1 : List UInt8 := [21, 4, 4, 100, 167, 0, 5, 16, 27, 172]
abbrev dktX2_signBy_1 : List UInt8 := dkwX2_signBy_1 ++ []
def dkwX2_signBy_0 : List UInt8 := [42, 27, 6, 28, 96, 182, 0, 55, 54, 4, 29, 154, 0, 8, 16, 26, 167, 0, 17, 21, 4, 158, 0, 10]
abbrev dktX2_signBy_0 : List UInt8 := dkwX2_signBy_0 ++ dktX2_signBy_1
theorem dksX2_signBy_0 : cX2_signBy.data.toList.drop 0 = dktX2_signBy_0 := by decide +kernel
theorem dksX2_signBy_1 : cX2_signBy.data.toList.drop 24 = dktX2_signBy_1 := dk_seg dksX2_signBy_0 24 rfl rfl
theorem dX2_signBy_0 : decode cX2_signBy 0 = .ok (.aload_n 0, 1) := dk_42 (dk_at dksX2_signBy_0 0 rfl rfl)
theorem dX2_signBy_1 : decode cX2_signBy 1 = .ok (.iload_n 1, 1) := dk_27 (dk_at dksX2_signBy_0 1 rfl rfl)
theorem dX2_signBy_2 : decode cX2_signBy 2 = .ok (.iconst 3, 1) := dk_6 (dk_at dksX2_signBy_0 2 rfl rfl)
theorem dX2_signBy_3 : decode cX2_signBy 3 = .ok (.iload_n 2, 1) := dk_28 (dk_at dksX2_signBy_0 3 rfl rfl)
theorem dX2_signBy_4 : decode cX2_signBy 4 = .ok (.iadd, 1) := dk_96 (dk_at dksX2_signBy_0 4 rfl rfl)
theorem dX2_signBy_5 : decode cX2_signBy 5 = .ok (.invokevirtual 55, 3) := dk_182 0 55 (dk_at dksX2_signBy_0 5 rfl rfl)
theorem dX2_signBy_8 : decode cX2_signBy 8 = .ok (.istore 4, 2) := dk_54 4 (dk_at dksX2_signBy_0 8 rfl rfl)
theorem dX2_signBy_10 : decode cX2_signBy 10 = .ok (.iload_n 3, 1) := dk_29 (dk_at dksX2_signBy_0 10 rfl rfl)
theorem dX2_signBy_11 : decode cX2_signBy 11 = .ok (.ifCond .ne 8, 3) := dk_154 0 8 (dk_at dksX2_signBy_0 11 rfl rfl)
theorem dX2_signBy_14 : decode cX2_signBy 14 = .ok (.bipush 26, 2) := dk_16 26 (dk_at dksX2_signBy_0 14 rfl rfl)
theorem dX2_signBy_16 : decode cX2_signBy 16 = .ok (.goto 17, 3) := dk_167 0 17 (dk_at dksX2_signBy_0 16 rfl rfl)
theorem dX2_signBy_19 : decode cX2_signBy 19 = .ok (.iload 4, 2) := dk_21 4 (dk_at dksX2_signBy_0 19 rfl rfl)
theorem dX2_signBy_21 : decode cX2_signBy 21 = .ok (.ifCond .le 10, 3) := dk_158 0 10 (dk_at dksX2_signBy_0 21 rfl rfl)
theorem dX2_signBy_24 : decode cX2_signBy 24 = .ok (.iload 4, 2) := dk_21 4 (dk_at dksX2_signBy_1 0 rfl rfl)
theorem dX2_signBy_26 : decode cX2_signBy 26 = .ok (.iconst 1, 1) := dk_4 (dk_at dksX2_signBy_1 2 rfl rfl)
theorem dX2_signBy_27 : decode cX2_signBy 27 = .ok (.isub, 1) := dk_100 (dk_at dksX2_signBy_1 3 rfl rfl)
theorem dX2_signBy_28 : decode cX2_signBy 28 = .ok (.goto 5, 3) := dk_167 0 5 (dk_at dksX2_signBy_1 4 rfl rfl)
theorem dX2_signBy_31 : decode cX2_signBy 31 = .ok (.bipush 27, 2) := dk_16 27 (dk_at dksX2_signBy_1 7 rfl rfl)
theorem dX2_signBy_33 : decode cX2_signBy 33 = .ok (.ireturn, 1) := dk_172 (dk_at dksX2_signBy_1 9 rfl rfl)
abbrev cX2_lettersSeen : ByteArray := prog_7_method_22_code
def yX2_lettersSeen : MethodName := ⟨RX2, "lettersSeen", "(I)I"⟩
def dkwX2_lettersSeen_1 : List UInt8 := [167, 0, 4, 3, 96, 61, 132, 3, 1, 167, 255, 229, 28, 172]
abbrev dktX2_lettersSeen_1 : List UInt8 := dkwX2_lettersSeen_1 ++ []
def dkwX2_lettersSeen_0 : List UInt8 := [3, 61, 3, 62, 29, 7, 162, 0, 28, 28, 42, 27, 29, 182, 0, 77, 16, 26, 162, 0, 7, 4]
abbrev dktX2_lettersSeen_0 : List UInt8 := dkwX2_lettersSeen_0 ++ dktX2_lettersSeen_1
theorem dksX2_lettersSeen_0 : cX2_lettersSeen.data.toList.drop 0 = dktX2_lettersSeen_0 := by decide +kernel
theorem dksX2_lettersSeen_1 : cX2_lettersSeen.data.toList.drop 22 = dktX2_lettersSeen_1 := dk_seg dksX2_lettersSeen_0 22 rfl rfl
theorem dX2_lettersSeen_0 : decode cX2_lettersSeen 0 = .ok (.iconst 0, 1) := dk_3 (dk_at dksX2_lettersSeen_0 0 rfl rfl)
theorem dX2_lettersSeen_1 : decode cX2_lettersSeen 1 = .ok (.istore_n 2, 1) := dk_61 (dk_at dksX2_lettersSeen_0 1 rfl rfl)
theorem dX2_lettersSeen_2 : decode cX2_lettersSeen 2 = .ok (.iconst 0, 1) := dk_3 (dk_at dksX2_lettersSeen_0 2 rfl rfl)
theorem dX2_lettersSeen_3 : decode cX2_lettersSeen 3 = .ok (.istore_n 3, 1) := dk_62 (dk_at dksX2_lettersSeen_0 3 rfl rfl)
theorem dX2_lettersSeen_4 : decode cX2_lettersSeen 4 = .ok (.iload_n 3, 1) := dk_29 (dk_at dksX2_lettersSeen_0 4 rfl rfl)
theorem dX2_lettersSeen_5 : decode cX2_lettersSeen 5 = .ok (.iconst 4, 1) := dk_7 (dk_at dksX2_lettersSeen_0 5 rfl rfl)
theorem dX2_lettersSeen_6 : decode cX2_lettersSeen 6 = .ok (.if_icmp .ge 28, 3) := dk_162 0 28 (dk_at dksX2_lettersSeen_0 6 rfl rfl)
theorem dX2_lettersSeen_9 : decode cX2_lettersSeen 9 = .ok (.iload_n 2, 1) := dk_28 (dk_at dksX2_lettersSeen_0 9 rfl rfl)
theorem dX2_lettersSeen_10 : decode cX2_lettersSeen 10 = .ok (.aload_n 0, 1) := dk_42 (dk_at dksX2_lettersSeen_0 10 rfl rfl)
theorem dX2_lettersSeen_11 : decode cX2_lettersSeen 11 = .ok (.iload_n 1, 1) := dk_27 (dk_at dksX2_lettersSeen_0 11 rfl rfl)
theorem dX2_lettersSeen_12 : decode cX2_lettersSeen 12 = .ok (.iload_n 3, 1) := dk_29 (dk_at dksX2_lettersSeen_0 12 rfl rfl)
theorem dX2_lettersSeen_13 : decode cX2_lettersSeen 13 = .ok (.invokevirtual 77, 3) := dk_182 0 77 (dk_at dksX2_lettersSeen_0 13 rfl rfl)
theorem dX2_lettersSeen_16 : decode cX2_lettersSeen 16 = .ok (.bipush 26, 2) := dk_16 26 (dk_at dksX2_lettersSeen_0 16 rfl rfl)
theorem dX2_lettersSeen_18 : decode cX2_lettersSeen 18 = .ok (.if_icmp .ge 7, 3) := dk_162 0 7 (dk_at dksX2_lettersSeen_0 18 rfl rfl)
theorem dX2_lettersSeen_21 : decode cX2_lettersSeen 21 = .ok (.iconst 1, 1) := dk_4 (dk_at dksX2_lettersSeen_0 21 rfl rfl)
theorem dX2_lettersSeen_22 : decode cX2_lettersSeen 22 = .ok (.goto 4, 3) := dk_167 0 4 (dk_at dksX2_lettersSeen_1 0 rfl rfl)
theorem dX2_lettersSeen_25 : decode cX2_lettersSeen 25 = .ok (.iconst 0, 1) := dk_3 (dk_at dksX2_lettersSeen_1 3 rfl rfl)
theorem dX2_lettersSeen_26 : decode cX2_lettersSeen 26 = .ok (.iadd, 1) := dk_96 (dk_at dksX2_lettersSeen_1 4 rfl rfl)
theorem dX2_lettersSeen_27 : decode cX2_lettersSeen 27 = .ok (.istore_n 2, 1) := dk_61 (dk_at dksX2_lettersSeen_1 5 rfl rfl)
theorem dX2_lettersSeen_28 : decode cX2_lettersSeen 28 = .ok (.iinc 3 1, 3) := dk_132 3 1 (dk_at dksX2_lettersSeen_1 6 rfl rfl)
theorem dX2_lettersSeen_31 : decode cX2_lettersSeen 31 = .ok (.goto (-27), 3) := dk_167 255 229 (dk_at dksX2_lettersSeen_1 9 rfl rfl)
theorem dX2_lettersSeen_34 : decode cX2_lettersSeen 34 = .ok (.iload_n 2, 1) := dk_28 (dk_at dksX2_lettersSeen_1 12 rfl rfl)
theorem dX2_lettersSeen_35 : decode cX2_lettersSeen 35 = .ok (.ireturn, 1) := dk_172 (dk_at dksX2_lettersSeen_1 13 rfl rfl)
abbrev cX2_bestFor : ByteArray := prog_7_method_53_code
def yX2_bestFor : MethodName := ⟨RX2, "bestFor", "(I)I"⟩
def dkwX2_bestFor_4 : List UInt8 := [153, 0, 8, 21, 5, 167, 0, 4, 29, 62, 132, 4, 1, 167, 255, 159, 28, 172]
abbrev dktX2_bestFor_4 : List UInt8 := dkwX2_bestFor_4 ++ []
def dkwX2_bestFor_3 : List UInt8 := [162, 0, 7, 4, 167, 0, 4, 3, 54, 6, 21, 6, 153, 0, 8, 21, 4, 167, 0, 4, 28, 61, 21, 6]
abbrev dktX2_bestFor_3 : List UInt8 := dkwX2_bestFor_3 ++ dktX2_bestFor_4
def dkwX2_bestFor_2 : List UInt8 := [182, 0, 59, 21, 4, 159, 0, 24, 21, 5, 155, 0, 19, 28, 16, 252, 159, 0, 9, 21, 5, 29]
abbrev dktX2_bestFor_2 : List UInt8 := dkwX2_bestFor_2 ++ dktX2_bestFor_3
def dkwX2_bestFor_1 : List UInt8 := [182, 0, 90, 42, 27, 3, 182, 0, 55, 100, 54, 5, 42, 27, 21, 4, 182, 0, 63, 154, 0, 34, 42, 27]
abbrev dktX2_bestFor_1 : List UInt8 := dkwX2_bestFor_1 ++ dktX2_bestFor_2
def dkwX2_bestFor_0 : List UInt8 := [16, 252, 61, 3, 62, 3, 54, 4, 21, 4, 42, 180, 0, 7, 3, 46, 162, 0, 92, 42, 21, 4]
abbrev dktX2_bestFor_0 : List UInt8 := dkwX2_bestFor_0 ++ dktX2_bestFor_1
theorem dksX2_bestFor_0 : cX2_bestFor.data.toList.drop 0 = dktX2_bestFor_0 := by decide +kernel
theorem dksX2_bestFor_1 : cX2_bestFor.data.toList.drop 22 = dktX2_bestFor_1 := dk_seg dksX2_bestFor_0 22 rfl rfl
theorem dksX2_bestFor_2 : cX2_bestFor.data.toList.drop 46 = dktX2_bestFor_2 := dk_seg dksX2_bestFor_1 24 rfl rfl
theorem dksX2_bestFor_3 : cX2_bestFor.data.toList.drop 68 = dktX2_bestFor_3 := dk_seg dksX2_bestFor_2 22 rfl rfl
theorem dksX2_bestFor_4 : cX2_bestFor.data.toList.drop 92 = dktX2_bestFor_4 := dk_seg dksX2_bestFor_3 24 rfl rfl
theorem dX2_bestFor_0 : decode cX2_bestFor 0 = .ok (.bipush (-4), 2) := dk_16 252 (dk_at dksX2_bestFor_0 0 rfl rfl)
theorem dX2_bestFor_2 : decode cX2_bestFor 2 = .ok (.istore_n 2, 1) := dk_61 (dk_at dksX2_bestFor_0 2 rfl rfl)
theorem dX2_bestFor_3 : decode cX2_bestFor 3 = .ok (.iconst 0, 1) := dk_3 (dk_at dksX2_bestFor_0 3 rfl rfl)
theorem dX2_bestFor_4 : decode cX2_bestFor 4 = .ok (.istore_n 3, 1) := dk_62 (dk_at dksX2_bestFor_0 4 rfl rfl)
theorem dX2_bestFor_5 : decode cX2_bestFor 5 = .ok (.iconst 0, 1) := dk_3 (dk_at dksX2_bestFor_0 5 rfl rfl)
theorem dX2_bestFor_6 : decode cX2_bestFor 6 = .ok (.istore 4, 2) := dk_54 4 (dk_at dksX2_bestFor_0 6 rfl rfl)
theorem dX2_bestFor_8 : decode cX2_bestFor 8 = .ok (.iload 4, 2) := dk_21 4 (dk_at dksX2_bestFor_0 8 rfl rfl)
theorem dX2_bestFor_10 : decode cX2_bestFor 10 = .ok (.aload_n 0, 1) := dk_42 (dk_at dksX2_bestFor_0 10 rfl rfl)
theorem dX2_bestFor_11 : decode cX2_bestFor 11 = .ok (.getfield 7, 3) := dk_180 0 7 (dk_at dksX2_bestFor_0 11 rfl rfl)
theorem dX2_bestFor_14 : decode cX2_bestFor 14 = .ok (.iconst 0, 1) := dk_3 (dk_at dksX2_bestFor_0 14 rfl rfl)
theorem dX2_bestFor_15 : decode cX2_bestFor 15 = .ok (.iaload, 1) := dk_46 (dk_at dksX2_bestFor_0 15 rfl rfl)
theorem dX2_bestFor_16 : decode cX2_bestFor 16 = .ok (.if_icmp .ge 92, 3) := dk_162 0 92 (dk_at dksX2_bestFor_0 16 rfl rfl)
theorem dX2_bestFor_19 : decode cX2_bestFor 19 = .ok (.aload_n 0, 1) := dk_42 (dk_at dksX2_bestFor_0 19 rfl rfl)
theorem dX2_bestFor_20 : decode cX2_bestFor 20 = .ok (.iload 4, 2) := dk_21 4 (dk_at dksX2_bestFor_0 20 rfl rfl)
theorem dX2_bestFor_22 : decode cX2_bestFor 22 = .ok (.invokevirtual 90, 3) := dk_182 0 90 (dk_at dksX2_bestFor_1 0 rfl rfl)
theorem dX2_bestFor_25 : decode cX2_bestFor 25 = .ok (.aload_n 0, 1) := dk_42 (dk_at dksX2_bestFor_1 3 rfl rfl)
theorem dX2_bestFor_26 : decode cX2_bestFor 26 = .ok (.iload_n 1, 1) := dk_27 (dk_at dksX2_bestFor_1 4 rfl rfl)
theorem dX2_bestFor_27 : decode cX2_bestFor 27 = .ok (.iconst 0, 1) := dk_3 (dk_at dksX2_bestFor_1 5 rfl rfl)
theorem dX2_bestFor_28 : decode cX2_bestFor 28 = .ok (.invokevirtual 55, 3) := dk_182 0 55 (dk_at dksX2_bestFor_1 6 rfl rfl)
theorem dX2_bestFor_31 : decode cX2_bestFor 31 = .ok (.isub, 1) := dk_100 (dk_at dksX2_bestFor_1 9 rfl rfl)
theorem dX2_bestFor_32 : decode cX2_bestFor 32 = .ok (.istore 5, 2) := dk_54 5 (dk_at dksX2_bestFor_1 10 rfl rfl)
theorem dX2_bestFor_34 : decode cX2_bestFor 34 = .ok (.aload_n 0, 1) := dk_42 (dk_at dksX2_bestFor_1 12 rfl rfl)
theorem dX2_bestFor_35 : decode cX2_bestFor 35 = .ok (.iload_n 1, 1) := dk_27 (dk_at dksX2_bestFor_1 13 rfl rfl)
theorem dX2_bestFor_36 : decode cX2_bestFor 36 = .ok (.iload 4, 2) := dk_21 4 (dk_at dksX2_bestFor_1 14 rfl rfl)
theorem dX2_bestFor_38 : decode cX2_bestFor 38 = .ok (.invokevirtual 63, 3) := dk_182 0 63 (dk_at dksX2_bestFor_1 16 rfl rfl)
theorem dX2_bestFor_41 : decode cX2_bestFor 41 = .ok (.ifCond .ne 34, 3) := dk_154 0 34 (dk_at dksX2_bestFor_1 19 rfl rfl)
theorem dX2_bestFor_44 : decode cX2_bestFor 44 = .ok (.aload_n 0, 1) := dk_42 (dk_at dksX2_bestFor_1 22 rfl rfl)
theorem dX2_bestFor_45 : decode cX2_bestFor 45 = .ok (.iload_n 1, 1) := dk_27 (dk_at dksX2_bestFor_1 23 rfl rfl)
theorem dX2_bestFor_46 : decode cX2_bestFor 46 = .ok (.invokevirtual 59, 3) := dk_182 0 59 (dk_at dksX2_bestFor_2 0 rfl rfl)
theorem dX2_bestFor_49 : decode cX2_bestFor 49 = .ok (.iload 4, 2) := dk_21 4 (dk_at dksX2_bestFor_2 3 rfl rfl)
theorem dX2_bestFor_51 : decode cX2_bestFor 51 = .ok (.if_icmp .eq 24, 3) := dk_159 0 24 (dk_at dksX2_bestFor_2 5 rfl rfl)
theorem dX2_bestFor_54 : decode cX2_bestFor 54 = .ok (.iload 5, 2) := dk_21 5 (dk_at dksX2_bestFor_2 8 rfl rfl)
theorem dX2_bestFor_56 : decode cX2_bestFor 56 = .ok (.ifCond .lt 19, 3) := dk_155 0 19 (dk_at dksX2_bestFor_2 10 rfl rfl)
theorem dX2_bestFor_59 : decode cX2_bestFor 59 = .ok (.iload_n 2, 1) := dk_28 (dk_at dksX2_bestFor_2 13 rfl rfl)
theorem dX2_bestFor_60 : decode cX2_bestFor 60 = .ok (.bipush (-4), 2) := dk_16 252 (dk_at dksX2_bestFor_2 14 rfl rfl)
theorem dX2_bestFor_62 : decode cX2_bestFor 62 = .ok (.if_icmp .eq 9, 3) := dk_159 0 9 (dk_at dksX2_bestFor_2 16 rfl rfl)
theorem dX2_bestFor_65 : decode cX2_bestFor 65 = .ok (.iload 5, 2) := dk_21 5 (dk_at dksX2_bestFor_2 19 rfl rfl)
theorem dX2_bestFor_67 : decode cX2_bestFor 67 = .ok (.iload_n 3, 1) := dk_29 (dk_at dksX2_bestFor_2 21 rfl rfl)
theorem dX2_bestFor_68 : decode cX2_bestFor 68 = .ok (.if_icmp .ge 7, 3) := dk_162 0 7 (dk_at dksX2_bestFor_3 0 rfl rfl)
theorem dX2_bestFor_71 : decode cX2_bestFor 71 = .ok (.iconst 1, 1) := dk_4 (dk_at dksX2_bestFor_3 3 rfl rfl)
theorem dX2_bestFor_72 : decode cX2_bestFor 72 = .ok (.goto 4, 3) := dk_167 0 4 (dk_at dksX2_bestFor_3 4 rfl rfl)
theorem dX2_bestFor_75 : decode cX2_bestFor 75 = .ok (.iconst 0, 1) := dk_3 (dk_at dksX2_bestFor_3 7 rfl rfl)
theorem dX2_bestFor_76 : decode cX2_bestFor 76 = .ok (.istore 6, 2) := dk_54 6 (dk_at dksX2_bestFor_3 8 rfl rfl)
theorem dX2_bestFor_78 : decode cX2_bestFor 78 = .ok (.iload 6, 2) := dk_21 6 (dk_at dksX2_bestFor_3 10 rfl rfl)
theorem dX2_bestFor_80 : decode cX2_bestFor 80 = .ok (.ifCond .eq 8, 3) := dk_153 0 8 (dk_at dksX2_bestFor_3 12 rfl rfl)
theorem dX2_bestFor_83 : decode cX2_bestFor 83 = .ok (.iload 4, 2) := dk_21 4 (dk_at dksX2_bestFor_3 15 rfl rfl)
theorem dX2_bestFor_85 : decode cX2_bestFor 85 = .ok (.goto 4, 3) := dk_167 0 4 (dk_at dksX2_bestFor_3 17 rfl rfl)
theorem dX2_bestFor_88 : decode cX2_bestFor 88 = .ok (.iload_n 2, 1) := dk_28 (dk_at dksX2_bestFor_3 20 rfl rfl)
theorem dX2_bestFor_89 : decode cX2_bestFor 89 = .ok (.istore_n 2, 1) := dk_61 (dk_at dksX2_bestFor_3 21 rfl rfl)
theorem dX2_bestFor_90 : decode cX2_bestFor 90 = .ok (.iload 6, 2) := dk_21 6 (dk_at dksX2_bestFor_3 22 rfl rfl)
theorem dX2_bestFor_92 : decode cX2_bestFor 92 = .ok (.ifCond .eq 8, 3) := dk_153 0 8 (dk_at dksX2_bestFor_4 0 rfl rfl)
theorem dX2_bestFor_95 : decode cX2_bestFor 95 = .ok (.iload 5, 2) := dk_21 5 (dk_at dksX2_bestFor_4 3 rfl rfl)
theorem dX2_bestFor_97 : decode cX2_bestFor 97 = .ok (.goto 4, 3) := dk_167 0 4 (dk_at dksX2_bestFor_4 5 rfl rfl)
theorem dX2_bestFor_100 : decode cX2_bestFor 100 = .ok (.iload_n 3, 1) := dk_29 (dk_at dksX2_bestFor_4 8 rfl rfl)
theorem dX2_bestFor_101 : decode cX2_bestFor 101 = .ok (.istore_n 3, 1) := dk_62 (dk_at dksX2_bestFor_4 9 rfl rfl)
theorem dX2_bestFor_102 : decode cX2_bestFor 102 = .ok (.iinc 4 1, 3) := dk_132 4 1 (dk_at dksX2_bestFor_4 10 rfl rfl)
theorem dX2_bestFor_105 : decode cX2_bestFor 105 = .ok (.goto (-97), 3) := dk_167 255 159 (dk_at dksX2_bestFor_4 13 rfl rfl)
theorem dX2_bestFor_108 : decode cX2_bestFor 108 = .ok (.iload_n 2, 1) := dk_28 (dk_at dksX2_bestFor_4 16 rfl rfl)
theorem dX2_bestFor_109 : decode cX2_bestFor 109 = .ok (.ireturn, 1) := dk_172 (dk_at dksX2_bestFor_4 17 rfl rfl)
abbrev cX2_letter : ByteArray := prog_7_method_56_code
def yX2_letter : MethodName := ⟨RX2, "letter", "(II)I"⟩
def dkwX2_letter_1 : List UInt8 := [182, 0, 55, 154, 0, 8, 16, 252, 167, 0, 13, 42, 27, 6, 28, 96, 182, 0, 55, 4, 100, 172]
abbrev dktX2_letter_1 : List UInt8 := dkwX2_letter_1 ++ []
def dkwX2_letter_0 : List UInt8 := [42, 27, 182, 0, 108, 153, 0, 10, 28, 184, 0, 205, 154, 0, 5, 2, 172, 42, 27, 6, 28, 96]
abbrev dktX2_letter_0 : List UInt8 := dkwX2_letter_0 ++ dktX2_letter_1
theorem dksX2_letter_0 : cX2_letter.data.toList.drop 0 = dktX2_letter_0 := by decide +kernel
theorem dksX2_letter_1 : cX2_letter.data.toList.drop 22 = dktX2_letter_1 := dk_seg dksX2_letter_0 22 rfl rfl
theorem dX2_letter_0 : decode cX2_letter 0 = .ok (.aload_n 0, 1) := dk_42 (dk_at dksX2_letter_0 0 rfl rfl)
theorem dX2_letter_1 : decode cX2_letter 1 = .ok (.iload_n 1, 1) := dk_27 (dk_at dksX2_letter_0 1 rfl rfl)
theorem dX2_letter_2 : decode cX2_letter 2 = .ok (.invokevirtual 108, 3) := dk_182 0 108 (dk_at dksX2_letter_0 2 rfl rfl)
theorem dX2_letter_5 : decode cX2_letter 5 = .ok (.ifCond .eq 10, 3) := dk_153 0 10 (dk_at dksX2_letter_0 5 rfl rfl)
theorem dX2_letter_8 : decode cX2_letter 8 = .ok (.iload_n 2, 1) := dk_28 (dk_at dksX2_letter_0 8 rfl rfl)
theorem dX2_letter_9 : decode cX2_letter 9 = .ok (.invokestatic 205, 3) := dk_184 0 205 (dk_at dksX2_letter_0 9 rfl rfl)
theorem dX2_letter_12 : decode cX2_letter 12 = .ok (.ifCond .ne 5, 3) := dk_154 0 5 (dk_at dksX2_letter_0 12 rfl rfl)
theorem dX2_letter_15 : decode cX2_letter 15 = .ok (.iconst (-1), 1) := dk_2 (dk_at dksX2_letter_0 15 rfl rfl)
theorem dX2_letter_16 : decode cX2_letter 16 = .ok (.ireturn, 1) := dk_172 (dk_at dksX2_letter_0 16 rfl rfl)
theorem dX2_letter_17 : decode cX2_letter 17 = .ok (.aload_n 0, 1) := dk_42 (dk_at dksX2_letter_0 17 rfl rfl)
theorem dX2_letter_18 : decode cX2_letter 18 = .ok (.iload_n 1, 1) := dk_27 (dk_at dksX2_letter_0 18 rfl rfl)
theorem dX2_letter_19 : decode cX2_letter 19 = .ok (.iconst 3, 1) := dk_6 (dk_at dksX2_letter_0 19 rfl rfl)
theorem dX2_letter_20 : decode cX2_letter 20 = .ok (.iload_n 2, 1) := dk_28 (dk_at dksX2_letter_0 20 rfl rfl)
theorem dX2_letter_21 : decode cX2_letter 21 = .ok (.iadd, 1) := dk_96 (dk_at dksX2_letter_0 21 rfl rfl)
theorem dX2_letter_22 : decode cX2_letter 22 = .ok (.invokevirtual 55, 3) := dk_182 0 55 (dk_at dksX2_letter_1 0 rfl rfl)
theorem dX2_letter_25 : decode cX2_letter 25 = .ok (.ifCond .ne 8, 3) := dk_154 0 8 (dk_at dksX2_letter_1 3 rfl rfl)
theorem dX2_letter_28 : decode cX2_letter 28 = .ok (.bipush (-4), 2) := dk_16 252 (dk_at dksX2_letter_1 6 rfl rfl)
theorem dX2_letter_30 : decode cX2_letter 30 = .ok (.goto 13, 3) := dk_167 0 13 (dk_at dksX2_letter_1 8 rfl rfl)
theorem dX2_letter_33 : decode cX2_letter 33 = .ok (.aload_n 0, 1) := dk_42 (dk_at dksX2_letter_1 11 rfl rfl)
theorem dX2_letter_34 : decode cX2_letter 34 = .ok (.iload_n 1, 1) := dk_27 (dk_at dksX2_letter_1 12 rfl rfl)
theorem dX2_letter_35 : decode cX2_letter 35 = .ok (.iconst 3, 1) := dk_6 (dk_at dksX2_letter_1 13 rfl rfl)
theorem dX2_letter_36 : decode cX2_letter 36 = .ok (.iload_n 2, 1) := dk_28 (dk_at dksX2_letter_1 14 rfl rfl)
theorem dX2_letter_37 : decode cX2_letter 37 = .ok (.iadd, 1) := dk_96 (dk_at dksX2_letter_1 15 rfl rfl)
theorem dX2_letter_38 : decode cX2_letter 38 = .ok (.invokevirtual 55, 3) := dk_182 0 55 (dk_at dksX2_letter_1 16 rfl rfl)
theorem dX2_letter_41 : decode cX2_letter 41 = .ok (.iconst 1, 1) := dk_4 (dk_at dksX2_letter_1 19 rfl rfl)
theorem dX2_letter_42 : decode cX2_letter 42 = .ok (.isub, 1) := dk_100 (dk_at dksX2_letter_1 20 rfl rfl)
theorem dX2_letter_43 : decode cX2_letter 43 = .ok (.ireturn, 1) := dk_172 (dk_at dksX2_letter_1 21 rfl rfl)
abbrev cX2_isPlace : ByteArray := prog_7_method_55_code
def yX2_isPlace : MethodName := ⟨RX2, "isPlace", "(I)Z"⟩
def dkwX2_isPlace_0 : List UInt8 := [26, 3, 6, 184, 0, 51, 172]
abbrev dktX2_isPlace_0 : List UInt8 := dkwX2_isPlace_0 ++ []
theorem dksX2_isPlace_0 : cX2_isPlace.data.toList.drop 0 = dktX2_isPlace_0 := by decide +kernel
theorem dX2_isPlace_0 : decode cX2_isPlace 0 = .ok (.iload_n 0, 1) := dk_26 (dk_at dksX2_isPlace_0 0 rfl rfl)
theorem dX2_isPlace_1 : decode cX2_isPlace 1 = .ok (.iconst 0, 1) := dk_3 (dk_at dksX2_isPlace_0 1 rfl rfl)
theorem dX2_isPlace_2 : decode cX2_isPlace 2 = .ok (.iconst 3, 1) := dk_6 (dk_at dksX2_isPlace_0 2 rfl rfl)
theorem dX2_isPlace_3 : decode cX2_isPlace 3 = .ok (.invokestatic 51, 3) := dk_184 0 51 (dk_at dksX2_isPlace_0 3 rfl rfl)
theorem dX2_isPlace_6 : decode cX2_isPlace 6 = .ok (.ireturn, 1) := dk_172 (dk_at dksX2_isPlace_0 6 rfl rfl)
abbrev cX2_seen : ByteArray := prog_7_method_57_code
def yX2_seen : MethodName := ⟨RX2, "seen", "(II)I"⟩
def dkwX2_seen_1 : List UInt8 := [2, 172]
abbrev dktX2_seen_1 : List UInt8 := dkwX2_seen_1 ++ []
def dkwX2_seen_0 : List UInt8 := [42, 27, 182, 0, 108, 153, 0, 19, 28, 184, 0, 205, 153, 0, 12, 42, 27, 28, 182, 0, 77, 167, 0, 4]
abbrev dktX2_seen_0 : List UInt8 := dkwX2_seen_0 ++ dktX2_seen_1
theorem dksX2_seen_0 : cX2_seen.data.toList.drop 0 = dktX2_seen_0 := by decide +kernel
theorem dksX2_seen_1 : cX2_seen.data.toList.drop 24 = dktX2_seen_1 := dk_seg dksX2_seen_0 24 rfl rfl
theorem dX2_seen_0 : decode cX2_seen 0 = .ok (.aload_n 0, 1) := dk_42 (dk_at dksX2_seen_0 0 rfl rfl)
theorem dX2_seen_1 : decode cX2_seen 1 = .ok (.iload_n 1, 1) := dk_27 (dk_at dksX2_seen_0 1 rfl rfl)
theorem dX2_seen_2 : decode cX2_seen 2 = .ok (.invokevirtual 108, 3) := dk_182 0 108 (dk_at dksX2_seen_0 2 rfl rfl)
theorem dX2_seen_5 : decode cX2_seen 5 = .ok (.ifCond .eq 19, 3) := dk_153 0 19 (dk_at dksX2_seen_0 5 rfl rfl)
theorem dX2_seen_8 : decode cX2_seen 8 = .ok (.iload_n 2, 1) := dk_28 (dk_at dksX2_seen_0 8 rfl rfl)
theorem dX2_seen_9 : decode cX2_seen 9 = .ok (.invokestatic 205, 3) := dk_184 0 205 (dk_at dksX2_seen_0 9 rfl rfl)
theorem dX2_seen_12 : decode cX2_seen 12 = .ok (.ifCond .eq 12, 3) := dk_153 0 12 (dk_at dksX2_seen_0 12 rfl rfl)
theorem dX2_seen_15 : decode cX2_seen 15 = .ok (.aload_n 0, 1) := dk_42 (dk_at dksX2_seen_0 15 rfl rfl)
theorem dX2_seen_16 : decode cX2_seen 16 = .ok (.iload_n 1, 1) := dk_27 (dk_at dksX2_seen_0 16 rfl rfl)
theorem dX2_seen_17 : decode cX2_seen 17 = .ok (.iload_n 2, 1) := dk_28 (dk_at dksX2_seen_0 17 rfl rfl)
theorem dX2_seen_18 : decode cX2_seen 18 = .ok (.invokevirtual 77, 3) := dk_182 0 77 (dk_at dksX2_seen_0 18 rfl rfl)
theorem dX2_seen_21 : decode cX2_seen 21 = .ok (.goto 4, 3) := dk_167 0 4 (dk_at dksX2_seen_0 21 rfl rfl)
theorem dX2_seen_24 : decode cX2_seen 24 = .ok (.iconst (-1), 1) := dk_2 (dk_at dksX2_seen_1 0 rfl rfl)
theorem dX2_seen_25 : decode cX2_seen 25 = .ok (.ireturn, 1) := dk_172 (dk_at dksX2_seen_1 1 rfl rfl)
abbrev cX2_whyNot : ByteArray := prog_7_method_58_code
def yX2_whyNot : MethodName := ⟨RX2, "whyNot", "(II)I"⟩
def dkwX2_whyNot_1 : List UInt8 := [167, 0, 4, 2, 172]
abbrev dktX2_whyNot_1 : List UInt8 := dkwX2_whyNot_1 ++ []
def dkwX2_whyNot_0 : List UInt8 := [42, 27, 182, 0, 108, 153, 0, 20, 42, 28, 182, 0, 108, 153, 0, 12, 42, 27, 28, 182, 0, 111]
abbrev dktX2_whyNot_0 : List UInt8 := dkwX2_whyNot_0 ++ dktX2_whyNot_1
theorem dksX2_whyNot_0 : cX2_whyNot.data.toList.drop 0 = dktX2_whyNot_0 := by decide +kernel
theorem dksX2_whyNot_1 : cX2_whyNot.data.toList.drop 22 = dktX2_whyNot_1 := dk_seg dksX2_whyNot_0 22 rfl rfl
theorem dX2_whyNot_0 : decode cX2_whyNot 0 = .ok (.aload_n 0, 1) := dk_42 (dk_at dksX2_whyNot_0 0 rfl rfl)
theorem dX2_whyNot_1 : decode cX2_whyNot 1 = .ok (.iload_n 1, 1) := dk_27 (dk_at dksX2_whyNot_0 1 rfl rfl)
theorem dX2_whyNot_2 : decode cX2_whyNot 2 = .ok (.invokevirtual 108, 3) := dk_182 0 108 (dk_at dksX2_whyNot_0 2 rfl rfl)
theorem dX2_whyNot_5 : decode cX2_whyNot 5 = .ok (.ifCond .eq 20, 3) := dk_153 0 20 (dk_at dksX2_whyNot_0 5 rfl rfl)
theorem dX2_whyNot_8 : decode cX2_whyNot 8 = .ok (.aload_n 0, 1) := dk_42 (dk_at dksX2_whyNot_0 8 rfl rfl)
theorem dX2_whyNot_9 : decode cX2_whyNot 9 = .ok (.iload_n 2, 1) := dk_28 (dk_at dksX2_whyNot_0 9 rfl rfl)
theorem dX2_whyNot_10 : decode cX2_whyNot 10 = .ok (.invokevirtual 108, 3) := dk_182 0 108 (dk_at dksX2_whyNot_0 10 rfl rfl)
theorem dX2_whyNot_13 : decode cX2_whyNot 13 = .ok (.ifCond .eq 12, 3) := dk_153 0 12 (dk_at dksX2_whyNot_0 13 rfl rfl)
theorem dX2_whyNot_16 : decode cX2_whyNot 16 = .ok (.aload_n 0, 1) := dk_42 (dk_at dksX2_whyNot_0 16 rfl rfl)
theorem dX2_whyNot_17 : decode cX2_whyNot 17 = .ok (.iload_n 1, 1) := dk_27 (dk_at dksX2_whyNot_0 17 rfl rfl)
theorem dX2_whyNot_18 : decode cX2_whyNot 18 = .ok (.iload_n 2, 1) := dk_28 (dk_at dksX2_whyNot_0 18 rfl rfl)
theorem dX2_whyNot_19 : decode cX2_whyNot 19 = .ok (.invokevirtual 111, 3) := dk_182 0 111 (dk_at dksX2_whyNot_0 19 rfl rfl)
theorem dX2_whyNot_22 : decode cX2_whyNot 22 = .ok (.goto 4, 3) := dk_167 0 4 (dk_at dksX2_whyNot_1 0 rfl rfl)
theorem dX2_whyNot_25 : decode cX2_whyNot 25 = .ok (.iconst (-1), 1) := dk_2 (dk_at dksX2_whyNot_1 3 rfl rfl)
theorem dX2_whyNot_26 : decode cX2_whyNot 26 = .ok (.ireturn, 1) := dk_172 (dk_at dksX2_whyNot_1 4 rfl rfl)
abbrev cX2_effort : ByteArray := prog_7_method_59_code
def yX2_effort : MethodName := ⟨RX2, "effort", "(II)I"⟩
def dkwX2_effort_2 : List UInt8 := [160, 0, 12, 42, 21, 4, 182, 0, 193, 167, 0, 4, 3, 96, 62, 132, 4, 1, 167, 255, 218, 29, 172]
abbrev dktX2_effort_2 : List UInt8 := dkwX2_effort_2 ++ []
def dkwX2_effort_1 : List UInt8 := [54, 4, 21, 4, 42, 180, 0, 7, 3, 46, 162, 0, 33, 29, 42, 21, 4, 3, 182, 0, 55, 27]
abbrev dktX2_effort_1 : List UInt8 := dkwX2_effort_1 ++ dktX2_effort_2
def dkwX2_effort_0 : List UInt8 := [27, 4, 16, 60, 184, 0, 51, 153, 0, 12, 28, 3, 4, 184, 0, 51, 154, 0, 5, 2, 172, 3, 62, 3]
abbrev dktX2_effort_0 : List UInt8 := dkwX2_effort_0 ++ dktX2_effort_1
theorem dksX2_effort_0 : cX2_effort.data.toList.drop 0 = dktX2_effort_0 := by decide +kernel
theorem dksX2_effort_1 : cX2_effort.data.toList.drop 24 = dktX2_effort_1 := dk_seg dksX2_effort_0 24 rfl rfl
theorem dksX2_effort_2 : cX2_effort.data.toList.drop 46 = dktX2_effort_2 := dk_seg dksX2_effort_1 22 rfl rfl
theorem dX2_effort_0 : decode cX2_effort 0 = .ok (.iload_n 1, 1) := dk_27 (dk_at dksX2_effort_0 0 rfl rfl)
theorem dX2_effort_1 : decode cX2_effort 1 = .ok (.iconst 1, 1) := dk_4 (dk_at dksX2_effort_0 1 rfl rfl)
theorem dX2_effort_2 : decode cX2_effort 2 = .ok (.bipush 60, 2) := dk_16 60 (dk_at dksX2_effort_0 2 rfl rfl)
theorem dX2_effort_4 : decode cX2_effort 4 = .ok (.invokestatic 51, 3) := dk_184 0 51 (dk_at dksX2_effort_0 4 rfl rfl)
theorem dX2_effort_7 : decode cX2_effort 7 = .ok (.ifCond .eq 12, 3) := dk_153 0 12 (dk_at dksX2_effort_0 7 rfl rfl)
theorem dX2_effort_10 : decode cX2_effort 10 = .ok (.iload_n 2, 1) := dk_28 (dk_at dksX2_effort_0 10 rfl rfl)
theorem dX2_effort_11 : decode cX2_effort 11 = .ok (.iconst 0, 1) := dk_3 (dk_at dksX2_effort_0 11 rfl rfl)
theorem dX2_effort_12 : decode cX2_effort 12 = .ok (.iconst 1, 1) := dk_4 (dk_at dksX2_effort_0 12 rfl rfl)
theorem dX2_effort_13 : decode cX2_effort 13 = .ok (.invokestatic 51, 3) := dk_184 0 51 (dk_at dksX2_effort_0 13 rfl rfl)
theorem dX2_effort_16 : decode cX2_effort 16 = .ok (.ifCond .ne 5, 3) := dk_154 0 5 (dk_at dksX2_effort_0 16 rfl rfl)
theorem dX2_effort_19 : decode cX2_effort 19 = .ok (.iconst (-1), 1) := dk_2 (dk_at dksX2_effort_0 19 rfl rfl)
theorem dX2_effort_20 : decode cX2_effort 20 = .ok (.ireturn, 1) := dk_172 (dk_at dksX2_effort_0 20 rfl rfl)
theorem dX2_effort_21 : decode cX2_effort 21 = .ok (.iconst 0, 1) := dk_3 (dk_at dksX2_effort_0 21 rfl rfl)
theorem dX2_effort_22 : decode cX2_effort 22 = .ok (.istore_n 3, 1) := dk_62 (dk_at dksX2_effort_0 22 rfl rfl)
theorem dX2_effort_23 : decode cX2_effort 23 = .ok (.iconst 0, 1) := dk_3 (dk_at dksX2_effort_0 23 rfl rfl)
theorem dX2_effort_24 : decode cX2_effort 24 = .ok (.istore 4, 2) := dk_54 4 (dk_at dksX2_effort_1 0 rfl rfl)
theorem dX2_effort_26 : decode cX2_effort 26 = .ok (.iload 4, 2) := dk_21 4 (dk_at dksX2_effort_1 2 rfl rfl)
theorem dX2_effort_28 : decode cX2_effort 28 = .ok (.aload_n 0, 1) := dk_42 (dk_at dksX2_effort_1 4 rfl rfl)
theorem dX2_effort_29 : decode cX2_effort 29 = .ok (.getfield 7, 3) := dk_180 0 7 (dk_at dksX2_effort_1 5 rfl rfl)
theorem dX2_effort_32 : decode cX2_effort 32 = .ok (.iconst 0, 1) := dk_3 (dk_at dksX2_effort_1 8 rfl rfl)
theorem dX2_effort_33 : decode cX2_effort 33 = .ok (.iaload, 1) := dk_46 (dk_at dksX2_effort_1 9 rfl rfl)
theorem dX2_effort_34 : decode cX2_effort 34 = .ok (.if_icmp .ge 33, 3) := dk_162 0 33 (dk_at dksX2_effort_1 10 rfl rfl)
theorem dX2_effort_37 : decode cX2_effort 37 = .ok (.iload_n 3, 1) := dk_29 (dk_at dksX2_effort_1 13 rfl rfl)
theorem dX2_effort_38 : decode cX2_effort 38 = .ok (.aload_n 0, 1) := dk_42 (dk_at dksX2_effort_1 14 rfl rfl)
theorem dX2_effort_39 : decode cX2_effort 39 = .ok (.iload 4, 2) := dk_21 4 (dk_at dksX2_effort_1 15 rfl rfl)
theorem dX2_effort_41 : decode cX2_effort 41 = .ok (.iconst 0, 1) := dk_3 (dk_at dksX2_effort_1 17 rfl rfl)
theorem dX2_effort_42 : decode cX2_effort 42 = .ok (.invokevirtual 55, 3) := dk_182 0 55 (dk_at dksX2_effort_1 18 rfl rfl)
theorem dX2_effort_45 : decode cX2_effort 45 = .ok (.iload_n 1, 1) := dk_27 (dk_at dksX2_effort_1 21 rfl rfl)
theorem dX2_effort_46 : decode cX2_effort 46 = .ok (.if_icmp .ne 12, 3) := dk_160 0 12 (dk_at dksX2_effort_2 0 rfl rfl)
theorem dX2_effort_49 : decode cX2_effort 49 = .ok (.aload_n 0, 1) := dk_42 (dk_at dksX2_effort_2 3 rfl rfl)
theorem dX2_effort_50 : decode cX2_effort 50 = .ok (.iload 4, 2) := dk_21 4 (dk_at dksX2_effort_2 4 rfl rfl)
theorem dX2_effort_52 : decode cX2_effort 52 = .ok (.invokevirtual 193, 3) := dk_182 0 193 (dk_at dksX2_effort_2 6 rfl rfl)
theorem dX2_effort_55 : decode cX2_effort 55 = .ok (.goto 4, 3) := dk_167 0 4 (dk_at dksX2_effort_2 9 rfl rfl)
theorem dX2_effort_58 : decode cX2_effort 58 = .ok (.iconst 0, 1) := dk_3 (dk_at dksX2_effort_2 12 rfl rfl)
theorem dX2_effort_59 : decode cX2_effort 59 = .ok (.iadd, 1) := dk_96 (dk_at dksX2_effort_2 13 rfl rfl)
theorem dX2_effort_60 : decode cX2_effort 60 = .ok (.istore_n 3, 1) := dk_62 (dk_at dksX2_effort_2 14 rfl rfl)
theorem dX2_effort_61 : decode cX2_effort 61 = .ok (.iinc 4 1, 3) := dk_132 4 1 (dk_at dksX2_effort_2 15 rfl rfl)
theorem dX2_effort_64 : decode cX2_effort 64 = .ok (.goto (-38), 3) := dk_167 255 218 (dk_at dksX2_effort_2 18 rfl rfl)
theorem dX2_effort_67 : decode cX2_effort 67 = .ok (.iload_n 3, 1) := dk_29 (dk_at dksX2_effort_2 21 rfl rfl)
theorem dX2_effort_68 : decode cX2_effort 68 = .ok (.ireturn, 1) := dk_172 (dk_at dksX2_effort_2 22 rfl rfl)
abbrev cX2_alike : ByteArray := prog_7_method_61_code
def yX2_alike : MethodName := ⟨RX2, "alike", "(IIII)I"⟩
def dkwX2_alike_5 : List UInt8 := [132, 6, 1, 167, 255, 187, 21, 5, 172]
abbrev dktX2_alike_5 : List UInt8 := dkwX2_alike_5 ++ []
def dkwX2_alike_4 : List UInt8 := [153, 0, 19, 42, 21, 6, 6, 21, 4, 182, 0, 208, 153, 0, 7, 4, 167, 0, 4, 3, 96, 54, 5]
abbrev dktX2_alike_4 : List UInt8 := dkwX2_alike_4 ++ dktX2_alike_5
def dkwX2_alike_3 : List UInt8 := [153, 0, 41, 42, 21, 6, 4, 28, 182, 0, 208, 153, 0, 30, 42, 21, 6, 5, 29, 182, 0, 208]
abbrev dktX2_alike_3 : List UInt8 := dkwX2_alike_3 ++ dktX2_alike_4
def dkwX2_alike_2 : List UInt8 := [54, 6, 21, 6, 42, 180, 0, 7, 3, 46, 162, 0, 64, 21, 5, 42, 21, 6, 3, 27, 182, 0, 208]
abbrev dktX2_alike_2 : List UInt8 := dkwX2_alike_2 ++ dktX2_alike_3
def dkwX2_alike_1 : List UInt8 := [184, 0, 51, 153, 0, 14, 21, 4, 3, 16, 28, 184, 0, 51, 154, 0, 5, 2, 172, 3, 54, 5, 3]
abbrev dktX2_alike_1 : List UInt8 := dkwX2_alike_1 ++ dktX2_alike_2
def dkwX2_alike_0 : List UInt8 := [27, 3, 16, 28, 184, 0, 51, 153, 0, 34, 28, 3, 16, 28, 184, 0, 51, 153, 0, 24, 29, 3, 16, 28]
abbrev dktX2_alike_0 : List UInt8 := dkwX2_alike_0 ++ dktX2_alike_1
theorem dksX2_alike_0 : cX2_alike.data.toList.drop 0 = dktX2_alike_0 := by decide +kernel
theorem dksX2_alike_1 : cX2_alike.data.toList.drop 24 = dktX2_alike_1 := dk_seg dksX2_alike_0 24 rfl rfl
theorem dksX2_alike_2 : cX2_alike.data.toList.drop 47 = dktX2_alike_2 := dk_seg dksX2_alike_1 23 rfl rfl
theorem dksX2_alike_3 : cX2_alike.data.toList.drop 70 = dktX2_alike_3 := dk_seg dksX2_alike_2 23 rfl rfl
theorem dksX2_alike_4 : cX2_alike.data.toList.drop 92 = dktX2_alike_4 := dk_seg dksX2_alike_3 22 rfl rfl
theorem dksX2_alike_5 : cX2_alike.data.toList.drop 115 = dktX2_alike_5 := dk_seg dksX2_alike_4 23 rfl rfl
theorem dX2_alike_0 : decode cX2_alike 0 = .ok (.iload_n 1, 1) := dk_27 (dk_at dksX2_alike_0 0 rfl rfl)
theorem dX2_alike_1 : decode cX2_alike 1 = .ok (.iconst 0, 1) := dk_3 (dk_at dksX2_alike_0 1 rfl rfl)
theorem dX2_alike_2 : decode cX2_alike 2 = .ok (.bipush 28, 2) := dk_16 28 (dk_at dksX2_alike_0 2 rfl rfl)
theorem dX2_alike_4 : decode cX2_alike 4 = .ok (.invokestatic 51, 3) := dk_184 0 51 (dk_at dksX2_alike_0 4 rfl rfl)
theorem dX2_alike_7 : decode cX2_alike 7 = .ok (.ifCond .eq 34, 3) := dk_153 0 34 (dk_at dksX2_alike_0 7 rfl rfl)
theorem dX2_alike_10 : decode cX2_alike 10 = .ok (.iload_n 2, 1) := dk_28 (dk_at dksX2_alike_0 10 rfl rfl)
theorem dX2_alike_11 : decode cX2_alike 11 = .ok (.iconst 0, 1) := dk_3 (dk_at dksX2_alike_0 11 rfl rfl)
theorem dX2_alike_12 : decode cX2_alike 12 = .ok (.bipush 28, 2) := dk_16 28 (dk_at dksX2_alike_0 12 rfl rfl)
theorem dX2_alike_14 : decode cX2_alike 14 = .ok (.invokestatic 51, 3) := dk_184 0 51 (dk_at dksX2_alike_0 14 rfl rfl)
theorem dX2_alike_17 : decode cX2_alike 17 = .ok (.ifCond .eq 24, 3) := dk_153 0 24 (dk_at dksX2_alike_0 17 rfl rfl)
theorem dX2_alike_20 : decode cX2_alike 20 = .ok (.iload_n 3, 1) := dk_29 (dk_at dksX2_alike_0 20 rfl rfl)
theorem dX2_alike_21 : decode cX2_alike 21 = .ok (.iconst 0, 1) := dk_3 (dk_at dksX2_alike_0 21 rfl rfl)
theorem dX2_alike_22 : decode cX2_alike 22 = .ok (.bipush 28, 2) := dk_16 28 (dk_at dksX2_alike_0 22 rfl rfl)
theorem dX2_alike_24 : decode cX2_alike 24 = .ok (.invokestatic 51, 3) := dk_184 0 51 (dk_at dksX2_alike_1 0 rfl rfl)
theorem dX2_alike_27 : decode cX2_alike 27 = .ok (.ifCond .eq 14, 3) := dk_153 0 14 (dk_at dksX2_alike_1 3 rfl rfl)
theorem dX2_alike_30 : decode cX2_alike 30 = .ok (.iload 4, 2) := dk_21 4 (dk_at dksX2_alike_1 6 rfl rfl)
theorem dX2_alike_32 : decode cX2_alike 32 = .ok (.iconst 0, 1) := dk_3 (dk_at dksX2_alike_1 8 rfl rfl)
theorem dX2_alike_33 : decode cX2_alike 33 = .ok (.bipush 28, 2) := dk_16 28 (dk_at dksX2_alike_1 9 rfl rfl)
theorem dX2_alike_35 : decode cX2_alike 35 = .ok (.invokestatic 51, 3) := dk_184 0 51 (dk_at dksX2_alike_1 11 rfl rfl)
theorem dX2_alike_38 : decode cX2_alike 38 = .ok (.ifCond .ne 5, 3) := dk_154 0 5 (dk_at dksX2_alike_1 14 rfl rfl)
theorem dX2_alike_41 : decode cX2_alike 41 = .ok (.iconst (-1), 1) := dk_2 (dk_at dksX2_alike_1 17 rfl rfl)
theorem dX2_alike_42 : decode cX2_alike 42 = .ok (.ireturn, 1) := dk_172 (dk_at dksX2_alike_1 18 rfl rfl)
theorem dX2_alike_43 : decode cX2_alike 43 = .ok (.iconst 0, 1) := dk_3 (dk_at dksX2_alike_1 19 rfl rfl)
theorem dX2_alike_44 : decode cX2_alike 44 = .ok (.istore 5, 2) := dk_54 5 (dk_at dksX2_alike_1 20 rfl rfl)
theorem dX2_alike_46 : decode cX2_alike 46 = .ok (.iconst 0, 1) := dk_3 (dk_at dksX2_alike_1 22 rfl rfl)
theorem dX2_alike_47 : decode cX2_alike 47 = .ok (.istore 6, 2) := dk_54 6 (dk_at dksX2_alike_2 0 rfl rfl)
theorem dX2_alike_49 : decode cX2_alike 49 = .ok (.iload 6, 2) := dk_21 6 (dk_at dksX2_alike_2 2 rfl rfl)
theorem dX2_alike_51 : decode cX2_alike 51 = .ok (.aload_n 0, 1) := dk_42 (dk_at dksX2_alike_2 4 rfl rfl)
theorem dX2_alike_52 : decode cX2_alike 52 = .ok (.getfield 7, 3) := dk_180 0 7 (dk_at dksX2_alike_2 5 rfl rfl)
theorem dX2_alike_55 : decode cX2_alike 55 = .ok (.iconst 0, 1) := dk_3 (dk_at dksX2_alike_2 8 rfl rfl)
theorem dX2_alike_56 : decode cX2_alike 56 = .ok (.iaload, 1) := dk_46 (dk_at dksX2_alike_2 9 rfl rfl)
theorem dX2_alike_57 : decode cX2_alike 57 = .ok (.if_icmp .ge 64, 3) := dk_162 0 64 (dk_at dksX2_alike_2 10 rfl rfl)
theorem dX2_alike_60 : decode cX2_alike 60 = .ok (.iload 5, 2) := dk_21 5 (dk_at dksX2_alike_2 13 rfl rfl)
theorem dX2_alike_62 : decode cX2_alike 62 = .ok (.aload_n 0, 1) := dk_42 (dk_at dksX2_alike_2 15 rfl rfl)
theorem dX2_alike_63 : decode cX2_alike 63 = .ok (.iload 6, 2) := dk_21 6 (dk_at dksX2_alike_2 16 rfl rfl)
theorem dX2_alike_65 : decode cX2_alike 65 = .ok (.iconst 0, 1) := dk_3 (dk_at dksX2_alike_2 18 rfl rfl)
theorem dX2_alike_66 : decode cX2_alike 66 = .ok (.iload_n 1, 1) := dk_27 (dk_at dksX2_alike_2 19 rfl rfl)
theorem dX2_alike_67 : decode cX2_alike 67 = .ok (.invokevirtual 208, 3) := dk_182 0 208 (dk_at dksX2_alike_2 20 rfl rfl)
theorem dX2_alike_70 : decode cX2_alike 70 = .ok (.ifCond .eq 41, 3) := dk_153 0 41 (dk_at dksX2_alike_3 0 rfl rfl)
theorem dX2_alike_73 : decode cX2_alike 73 = .ok (.aload_n 0, 1) := dk_42 (dk_at dksX2_alike_3 3 rfl rfl)
theorem dX2_alike_74 : decode cX2_alike 74 = .ok (.iload 6, 2) := dk_21 6 (dk_at dksX2_alike_3 4 rfl rfl)
theorem dX2_alike_76 : decode cX2_alike 76 = .ok (.iconst 1, 1) := dk_4 (dk_at dksX2_alike_3 6 rfl rfl)
theorem dX2_alike_77 : decode cX2_alike 77 = .ok (.iload_n 2, 1) := dk_28 (dk_at dksX2_alike_3 7 rfl rfl)
theorem dX2_alike_78 : decode cX2_alike 78 = .ok (.invokevirtual 208, 3) := dk_182 0 208 (dk_at dksX2_alike_3 8 rfl rfl)
theorem dX2_alike_81 : decode cX2_alike 81 = .ok (.ifCond .eq 30, 3) := dk_153 0 30 (dk_at dksX2_alike_3 11 rfl rfl)
theorem dX2_alike_84 : decode cX2_alike 84 = .ok (.aload_n 0, 1) := dk_42 (dk_at dksX2_alike_3 14 rfl rfl)
theorem dX2_alike_85 : decode cX2_alike 85 = .ok (.iload 6, 2) := dk_21 6 (dk_at dksX2_alike_3 15 rfl rfl)
theorem dX2_alike_87 : decode cX2_alike 87 = .ok (.iconst 2, 1) := dk_5 (dk_at dksX2_alike_3 17 rfl rfl)
theorem dX2_alike_88 : decode cX2_alike 88 = .ok (.iload_n 3, 1) := dk_29 (dk_at dksX2_alike_3 18 rfl rfl)
theorem dX2_alike_89 : decode cX2_alike 89 = .ok (.invokevirtual 208, 3) := dk_182 0 208 (dk_at dksX2_alike_3 19 rfl rfl)
theorem dX2_alike_92 : decode cX2_alike 92 = .ok (.ifCond .eq 19, 3) := dk_153 0 19 (dk_at dksX2_alike_4 0 rfl rfl)
theorem dX2_alike_95 : decode cX2_alike 95 = .ok (.aload_n 0, 1) := dk_42 (dk_at dksX2_alike_4 3 rfl rfl)
theorem dX2_alike_96 : decode cX2_alike 96 = .ok (.iload 6, 2) := dk_21 6 (dk_at dksX2_alike_4 4 rfl rfl)
theorem dX2_alike_98 : decode cX2_alike 98 = .ok (.iconst 3, 1) := dk_6 (dk_at dksX2_alike_4 6 rfl rfl)
theorem dX2_alike_99 : decode cX2_alike 99 = .ok (.iload 4, 2) := dk_21 4 (dk_at dksX2_alike_4 7 rfl rfl)
theorem dX2_alike_101 : decode cX2_alike 101 = .ok (.invokevirtual 208, 3) := dk_182 0 208 (dk_at dksX2_alike_4 9 rfl rfl)
theorem dX2_alike_104 : decode cX2_alike 104 = .ok (.ifCond .eq 7, 3) := dk_153 0 7 (dk_at dksX2_alike_4 12 rfl rfl)
theorem dX2_alike_107 : decode cX2_alike 107 = .ok (.iconst 1, 1) := dk_4 (dk_at dksX2_alike_4 15 rfl rfl)
theorem dX2_alike_108 : decode cX2_alike 108 = .ok (.goto 4, 3) := dk_167 0 4 (dk_at dksX2_alike_4 16 rfl rfl)
theorem dX2_alike_111 : decode cX2_alike 111 = .ok (.iconst 0, 1) := dk_3 (dk_at dksX2_alike_4 19 rfl rfl)
theorem dX2_alike_112 : decode cX2_alike 112 = .ok (.iadd, 1) := dk_96 (dk_at dksX2_alike_4 20 rfl rfl)
theorem dX2_alike_113 : decode cX2_alike 113 = .ok (.istore 5, 2) := dk_54 5 (dk_at dksX2_alike_4 21 rfl rfl)
theorem dX2_alike_115 : decode cX2_alike 115 = .ok (.iinc 6 1, 3) := dk_132 6 1 (dk_at dksX2_alike_5 0 rfl rfl)
theorem dX2_alike_118 : decode cX2_alike 118 = .ok (.goto (-69), 3) := dk_167 255 187 (dk_at dksX2_alike_5 3 rfl rfl)
theorem dX2_alike_121 : decode cX2_alike 121 = .ok (.iload 5, 2) := dk_21 5 (dk_at dksX2_alike_5 6 rfl rfl)
theorem dX2_alike_123 : decode cX2_alike 123 = .ok (.ireturn, 1) := dk_172 (dk_at dksX2_alike_5 8 rfl rfl)
abbrev cX2_isAs : ByteArray := prog_7_method_60_code
def yX2_isAs : MethodName := ⟨RX2, "isAs", "(III)Z"⟩
def dkwX2_isAs_0 : List UInt8 := [29, 16, 28, 159, 0, 13, 42, 27, 28, 182, 0, 77, 29, 160, 0, 7, 4, 167, 0, 4, 3, 172]
abbrev dktX2_isAs_0 : List UInt8 := dkwX2_isAs_0 ++ []
theorem dksX2_isAs_0 : cX2_isAs.data.toList.drop 0 = dktX2_isAs_0 := by decide +kernel
theorem dX2_isAs_0 : decode cX2_isAs 0 = .ok (.iload_n 3, 1) := dk_29 (dk_at dksX2_isAs_0 0 rfl rfl)
theorem dX2_isAs_1 : decode cX2_isAs 1 = .ok (.bipush 28, 2) := dk_16 28 (dk_at dksX2_isAs_0 1 rfl rfl)
theorem dX2_isAs_3 : decode cX2_isAs 3 = .ok (.if_icmp .eq 13, 3) := dk_159 0 13 (dk_at dksX2_isAs_0 3 rfl rfl)
theorem dX2_isAs_6 : decode cX2_isAs 6 = .ok (.aload_n 0, 1) := dk_42 (dk_at dksX2_isAs_0 6 rfl rfl)
theorem dX2_isAs_7 : decode cX2_isAs 7 = .ok (.iload_n 1, 1) := dk_27 (dk_at dksX2_isAs_0 7 rfl rfl)
theorem dX2_isAs_8 : decode cX2_isAs 8 = .ok (.iload_n 2, 1) := dk_28 (dk_at dksX2_isAs_0 8 rfl rfl)
theorem dX2_isAs_9 : decode cX2_isAs 9 = .ok (.invokevirtual 77, 3) := dk_182 0 77 (dk_at dksX2_isAs_0 9 rfl rfl)
theorem dX2_isAs_12 : decode cX2_isAs 12 = .ok (.iload_n 3, 1) := dk_29 (dk_at dksX2_isAs_0 12 rfl rfl)
theorem dX2_isAs_13 : decode cX2_isAs 13 = .ok (.if_icmp .ne 7, 3) := dk_160 0 7 (dk_at dksX2_isAs_0 13 rfl rfl)
theorem dX2_isAs_16 : decode cX2_isAs 16 = .ok (.iconst 1, 1) := dk_4 (dk_at dksX2_isAs_0 16 rfl rfl)
theorem dX2_isAs_17 : decode cX2_isAs 17 = .ok (.goto 4, 3) := dk_167 0 4 (dk_at dksX2_isAs_0 17 rfl rfl)
theorem dX2_isAs_20 : decode cX2_isAs 20 = .ok (.iconst 0, 1) := dk_3 (dk_at dksX2_isAs_0 20 rfl rfl)
theorem dX2_isAs_21 : decode cX2_isAs 21 = .ok (.ireturn, 1) := dk_172 (dk_at dksX2_isAs_0 21 rfl rfl)
abbrev cX2_nest : ByteArray := prog_7_method_65_code
def yX2_nest : MethodName := ⟨RX2, "nest", "(I)I"⟩
def dkwX2_nest_4 : List UInt8 := [21, 6, 62, 42, 29, 4, 182, 0, 55, 54, 4, 132, 5, 1, 167, 255, 176, 29, 172]
abbrev dktX2_nest_4 : List UInt8 := dkwX2_nest_4 ++ []
def dkwX2_nest_3 : List UInt8 := [3, 182, 0, 55, 21, 4, 163, 0, 8, 21, 7, 167, 0, 5, 21, 6, 54, 6, 132, 7, 255, 167, 255, 213]
abbrev dktX2_nest_3 : List UInt8 := dkwX2_nest_3 ++ dktX2_nest_4
def dkwX2_nest_2 : List UInt8 := [54, 7, 21, 7, 155, 0, 44, 42, 180, 0, 40, 21, 7, 46, 28, 21, 5, 100, 160, 0, 20, 42, 21, 7]
abbrev dktX2_nest_2 : List UInt8 := dkwX2_nest_2 ++ dktX2_nest_3
def dkwX2_nest_1 : List UInt8 := [54, 4, 3, 54, 5, 21, 5, 27, 163, 0, 80, 16, 252, 54, 6, 42, 180, 0, 7, 3, 46, 4, 100]
abbrev dktX2_nest_1 : List UInt8 := dkwX2_nest_1 ++ dktX2_nest_2
def dkwX2_nest_0 : List UInt8 := [27, 156, 0, 5, 2, 172, 42, 182, 0, 217, 61, 27, 28, 161, 0, 6, 16, 252, 172, 16, 252, 62, 16, 60]
abbrev dktX2_nest_0 : List UInt8 := dkwX2_nest_0 ++ dktX2_nest_1
theorem dksX2_nest_0 : cX2_nest.data.toList.drop 0 = dktX2_nest_0 := by decide +kernel
theorem dksX2_nest_1 : cX2_nest.data.toList.drop 24 = dktX2_nest_1 := dk_seg dksX2_nest_0 24 rfl rfl
theorem dksX2_nest_2 : cX2_nest.data.toList.drop 47 = dktX2_nest_2 := dk_seg dksX2_nest_1 23 rfl rfl
theorem dksX2_nest_3 : cX2_nest.data.toList.drop 71 = dktX2_nest_3 := dk_seg dksX2_nest_2 24 rfl rfl
theorem dksX2_nest_4 : cX2_nest.data.toList.drop 95 = dktX2_nest_4 := dk_seg dksX2_nest_3 24 rfl rfl
theorem dX2_nest_0 : decode cX2_nest 0 = .ok (.iload_n 1, 1) := dk_27 (dk_at dksX2_nest_0 0 rfl rfl)
theorem dX2_nest_1 : decode cX2_nest 1 = .ok (.ifCond .ge 5, 3) := dk_156 0 5 (dk_at dksX2_nest_0 1 rfl rfl)
theorem dX2_nest_4 : decode cX2_nest 4 = .ok (.iconst (-1), 1) := dk_2 (dk_at dksX2_nest_0 4 rfl rfl)
theorem dX2_nest_5 : decode cX2_nest 5 = .ok (.ireturn, 1) := dk_172 (dk_at dksX2_nest_0 5 rfl rfl)
theorem dX2_nest_6 : decode cX2_nest 6 = .ok (.aload_n 0, 1) := dk_42 (dk_at dksX2_nest_0 6 rfl rfl)
theorem dX2_nest_7 : decode cX2_nest 7 = .ok (.invokevirtual 217, 3) := dk_182 0 217 (dk_at dksX2_nest_0 7 rfl rfl)
theorem dX2_nest_10 : decode cX2_nest 10 = .ok (.istore_n 2, 1) := dk_61 (dk_at dksX2_nest_0 10 rfl rfl)
theorem dX2_nest_11 : decode cX2_nest 11 = .ok (.iload_n 1, 1) := dk_27 (dk_at dksX2_nest_0 11 rfl rfl)
theorem dX2_nest_12 : decode cX2_nest 12 = .ok (.iload_n 2, 1) := dk_28 (dk_at dksX2_nest_0 12 rfl rfl)
theorem dX2_nest_13 : decode cX2_nest 13 = .ok (.if_icmp .lt 6, 3) := dk_161 0 6 (dk_at dksX2_nest_0 13 rfl rfl)
theorem dX2_nest_16 : decode cX2_nest 16 = .ok (.bipush (-4), 2) := dk_16 252 (dk_at dksX2_nest_0 16 rfl rfl)
theorem dX2_nest_18 : decode cX2_nest 18 = .ok (.ireturn, 1) := dk_172 (dk_at dksX2_nest_0 18 rfl rfl)
theorem dX2_nest_19 : decode cX2_nest 19 = .ok (.bipush (-4), 2) := dk_16 252 (dk_at dksX2_nest_0 19 rfl rfl)
theorem dX2_nest_21 : decode cX2_nest 21 = .ok (.istore_n 3, 1) := dk_62 (dk_at dksX2_nest_0 21 rfl rfl)
theorem dX2_nest_22 : decode cX2_nest 22 = .ok (.bipush 60, 2) := dk_16 60 (dk_at dksX2_nest_0 22 rfl rfl)
theorem dX2_nest_24 : decode cX2_nest 24 = .ok (.istore 4, 2) := dk_54 4 (dk_at dksX2_nest_1 0 rfl rfl)
theorem dX2_nest_26 : decode cX2_nest 26 = .ok (.iconst 0, 1) := dk_3 (dk_at dksX2_nest_1 2 rfl rfl)
theorem dX2_nest_27 : decode cX2_nest 27 = .ok (.istore 5, 2) := dk_54 5 (dk_at dksX2_nest_1 3 rfl rfl)
theorem dX2_nest_29 : decode cX2_nest 29 = .ok (.iload 5, 2) := dk_21 5 (dk_at dksX2_nest_1 5 rfl rfl)
theorem dX2_nest_31 : decode cX2_nest 31 = .ok (.iload_n 1, 1) := dk_27 (dk_at dksX2_nest_1 7 rfl rfl)
theorem dX2_nest_32 : decode cX2_nest 32 = .ok (.if_icmp .gt 80, 3) := dk_163 0 80 (dk_at dksX2_nest_1 8 rfl rfl)
theorem dX2_nest_35 : decode cX2_nest 35 = .ok (.bipush (-4), 2) := dk_16 252 (dk_at dksX2_nest_1 11 rfl rfl)
theorem dX2_nest_37 : decode cX2_nest 37 = .ok (.istore 6, 2) := dk_54 6 (dk_at dksX2_nest_1 13 rfl rfl)
theorem dX2_nest_39 : decode cX2_nest 39 = .ok (.aload_n 0, 1) := dk_42 (dk_at dksX2_nest_1 15 rfl rfl)
theorem dX2_nest_40 : decode cX2_nest 40 = .ok (.getfield 7, 3) := dk_180 0 7 (dk_at dksX2_nest_1 16 rfl rfl)
theorem dX2_nest_43 : decode cX2_nest 43 = .ok (.iconst 0, 1) := dk_3 (dk_at dksX2_nest_1 19 rfl rfl)
theorem dX2_nest_44 : decode cX2_nest 44 = .ok (.iaload, 1) := dk_46 (dk_at dksX2_nest_1 20 rfl rfl)
theorem dX2_nest_45 : decode cX2_nest 45 = .ok (.iconst 1, 1) := dk_4 (dk_at dksX2_nest_1 21 rfl rfl)
theorem dX2_nest_46 : decode cX2_nest 46 = .ok (.isub, 1) := dk_100 (dk_at dksX2_nest_1 22 rfl rfl)
theorem dX2_nest_47 : decode cX2_nest 47 = .ok (.istore 7, 2) := dk_54 7 (dk_at dksX2_nest_2 0 rfl rfl)
theorem dX2_nest_49 : decode cX2_nest 49 = .ok (.iload 7, 2) := dk_21 7 (dk_at dksX2_nest_2 2 rfl rfl)
theorem dX2_nest_51 : decode cX2_nest 51 = .ok (.ifCond .lt 44, 3) := dk_155 0 44 (dk_at dksX2_nest_2 4 rfl rfl)
theorem dX2_nest_54 : decode cX2_nest 54 = .ok (.aload_n 0, 1) := dk_42 (dk_at dksX2_nest_2 7 rfl rfl)
theorem dX2_nest_55 : decode cX2_nest 55 = .ok (.getfield 40, 3) := dk_180 0 40 (dk_at dksX2_nest_2 8 rfl rfl)
theorem dX2_nest_58 : decode cX2_nest 58 = .ok (.iload 7, 2) := dk_21 7 (dk_at dksX2_nest_2 11 rfl rfl)
theorem dX2_nest_60 : decode cX2_nest 60 = .ok (.iaload, 1) := dk_46 (dk_at dksX2_nest_2 13 rfl rfl)
theorem dX2_nest_61 : decode cX2_nest 61 = .ok (.iload_n 2, 1) := dk_28 (dk_at dksX2_nest_2 14 rfl rfl)
theorem dX2_nest_62 : decode cX2_nest 62 = .ok (.iload 5, 2) := dk_21 5 (dk_at dksX2_nest_2 15 rfl rfl)
theorem dX2_nest_64 : decode cX2_nest 64 = .ok (.isub, 1) := dk_100 (dk_at dksX2_nest_2 17 rfl rfl)
theorem dX2_nest_65 : decode cX2_nest 65 = .ok (.if_icmp .ne 20, 3) := dk_160 0 20 (dk_at dksX2_nest_2 18 rfl rfl)
theorem dX2_nest_68 : decode cX2_nest 68 = .ok (.aload_n 0, 1) := dk_42 (dk_at dksX2_nest_2 21 rfl rfl)
theorem dX2_nest_69 : decode cX2_nest 69 = .ok (.iload 7, 2) := dk_21 7 (dk_at dksX2_nest_2 22 rfl rfl)
theorem dX2_nest_71 : decode cX2_nest 71 = .ok (.iconst 0, 1) := dk_3 (dk_at dksX2_nest_3 0 rfl rfl)
theorem dX2_nest_72 : decode cX2_nest 72 = .ok (.invokevirtual 55, 3) := dk_182 0 55 (dk_at dksX2_nest_3 1 rfl rfl)
theorem dX2_nest_75 : decode cX2_nest 75 = .ok (.iload 4, 2) := dk_21 4 (dk_at dksX2_nest_3 4 rfl rfl)
theorem dX2_nest_77 : decode cX2_nest 77 = .ok (.if_icmp .gt 8, 3) := dk_163 0 8 (dk_at dksX2_nest_3 6 rfl rfl)
theorem dX2_nest_80 : decode cX2_nest 80 = .ok (.iload 7, 2) := dk_21 7 (dk_at dksX2_nest_3 9 rfl rfl)
theorem dX2_nest_82 : decode cX2_nest 82 = .ok (.goto 5, 3) := dk_167 0 5 (dk_at dksX2_nest_3 11 rfl rfl)
theorem dX2_nest_85 : decode cX2_nest 85 = .ok (.iload 6, 2) := dk_21 6 (dk_at dksX2_nest_3 14 rfl rfl)
theorem dX2_nest_87 : decode cX2_nest 87 = .ok (.istore 6, 2) := dk_54 6 (dk_at dksX2_nest_3 16 rfl rfl)
theorem dX2_nest_89 : decode cX2_nest 89 = .ok (.iinc 7 (-1), 3) := dk_132 7 255 (dk_at dksX2_nest_3 18 rfl rfl)
theorem dX2_nest_92 : decode cX2_nest 92 = .ok (.goto (-43), 3) := dk_167 255 213 (dk_at dksX2_nest_3 21 rfl rfl)
theorem dX2_nest_95 : decode cX2_nest 95 = .ok (.iload 6, 2) := dk_21 6 (dk_at dksX2_nest_4 0 rfl rfl)
theorem dX2_nest_97 : decode cX2_nest 97 = .ok (.istore_n 3, 1) := dk_62 (dk_at dksX2_nest_4 2 rfl rfl)
theorem dX2_nest_98 : decode cX2_nest 98 = .ok (.aload_n 0, 1) := dk_42 (dk_at dksX2_nest_4 3 rfl rfl)
theorem dX2_nest_99 : decode cX2_nest 99 = .ok (.iload_n 3, 1) := dk_29 (dk_at dksX2_nest_4 4 rfl rfl)
theorem dX2_nest_100 : decode cX2_nest 100 = .ok (.iconst 1, 1) := dk_4 (dk_at dksX2_nest_4 5 rfl rfl)
theorem dX2_nest_101 : decode cX2_nest 101 = .ok (.invokevirtual 55, 3) := dk_182 0 55 (dk_at dksX2_nest_4 6 rfl rfl)
theorem dX2_nest_104 : decode cX2_nest 104 = .ok (.istore 4, 2) := dk_54 4 (dk_at dksX2_nest_4 9 rfl rfl)
theorem dX2_nest_106 : decode cX2_nest 106 = .ok (.iinc 5 1, 3) := dk_132 5 1 (dk_at dksX2_nest_4 11 rfl rfl)
theorem dX2_nest_109 : decode cX2_nest 109 = .ok (.goto (-80), 3) := dk_167 255 176 (dk_at dksX2_nest_4 14 rfl rfl)
theorem dX2_nest_112 : decode cX2_nest 112 = .ok (.iload_n 3, 1) := dk_29 (dk_at dksX2_nest_4 17 rfl rfl)
theorem dX2_nest_113 : decode cX2_nest 113 = .ok (.ireturn, 1) := dk_172 (dk_at dksX2_nest_4 18 rfl rfl)
abbrev cX2_longestNest : ByteArray := prog_7_method_64_code
def yX2_longestNest : MethodName := ⟨RX2, "longestNest", "()I"⟩
def dkwX2_longestNest_1 : List UInt8 := [27, 164, 0, 12, 42, 180, 0, 40, 28, 46, 167, 0, 4, 27, 60, 132, 2, 1, 167, 255, 222, 27, 172]
abbrev dktX2_longestNest_1 : List UInt8 := dkwX2_longestNest_1 ++ []
def dkwX2_longestNest_0 : List UInt8 := [42, 182, 0, 214, 3, 60, 3, 61, 28, 42, 180, 0, 7, 3, 46, 162, 0, 30, 42, 180, 0, 40, 28, 46]
abbrev dktX2_longestNest_0 : List UInt8 := dkwX2_longestNest_0 ++ dktX2_longestNest_1
theorem dksX2_longestNest_0 : cX2_longestNest.data.toList.drop 0 = dktX2_longestNest_0 := by decide +kernel
theorem dksX2_longestNest_1 : cX2_longestNest.data.toList.drop 24 = dktX2_longestNest_1 := dk_seg dksX2_longestNest_0 24 rfl rfl
theorem dX2_longestNest_0 : decode cX2_longestNest 0 = .ok (.aload_n 0, 1) := dk_42 (dk_at dksX2_longestNest_0 0 rfl rfl)
theorem dX2_longestNest_1 : decode cX2_longestNest 1 = .ok (.invokevirtual 214, 3) := dk_182 0 214 (dk_at dksX2_longestNest_0 1 rfl rfl)
theorem dX2_longestNest_4 : decode cX2_longestNest 4 = .ok (.iconst 0, 1) := dk_3 (dk_at dksX2_longestNest_0 4 rfl rfl)
theorem dX2_longestNest_5 : decode cX2_longestNest 5 = .ok (.istore_n 1, 1) := dk_60 (dk_at dksX2_longestNest_0 5 rfl rfl)
theorem dX2_longestNest_6 : decode cX2_longestNest 6 = .ok (.iconst 0, 1) := dk_3 (dk_at dksX2_longestNest_0 6 rfl rfl)
theorem dX2_longestNest_7 : decode cX2_longestNest 7 = .ok (.istore_n 2, 1) := dk_61 (dk_at dksX2_longestNest_0 7 rfl rfl)
theorem dX2_longestNest_8 : decode cX2_longestNest 8 = .ok (.iload_n 2, 1) := dk_28 (dk_at dksX2_longestNest_0 8 rfl rfl)
theorem dX2_longestNest_9 : decode cX2_longestNest 9 = .ok (.aload_n 0, 1) := dk_42 (dk_at dksX2_longestNest_0 9 rfl rfl)
theorem dX2_longestNest_10 : decode cX2_longestNest 10 = .ok (.getfield 7, 3) := dk_180 0 7 (dk_at dksX2_longestNest_0 10 rfl rfl)
theorem dX2_longestNest_13 : decode cX2_longestNest 13 = .ok (.iconst 0, 1) := dk_3 (dk_at dksX2_longestNest_0 13 rfl rfl)
theorem dX2_longestNest_14 : decode cX2_longestNest 14 = .ok (.iaload, 1) := dk_46 (dk_at dksX2_longestNest_0 14 rfl rfl)
theorem dX2_longestNest_15 : decode cX2_longestNest 15 = .ok (.if_icmp .ge 30, 3) := dk_162 0 30 (dk_at dksX2_longestNest_0 15 rfl rfl)
theorem dX2_longestNest_18 : decode cX2_longestNest 18 = .ok (.aload_n 0, 1) := dk_42 (dk_at dksX2_longestNest_0 18 rfl rfl)
theorem dX2_longestNest_19 : decode cX2_longestNest 19 = .ok (.getfield 40, 3) := dk_180 0 40 (dk_at dksX2_longestNest_0 19 rfl rfl)
theorem dX2_longestNest_22 : decode cX2_longestNest 22 = .ok (.iload_n 2, 1) := dk_28 (dk_at dksX2_longestNest_0 22 rfl rfl)
theorem dX2_longestNest_23 : decode cX2_longestNest 23 = .ok (.iaload, 1) := dk_46 (dk_at dksX2_longestNest_0 23 rfl rfl)
theorem dX2_longestNest_24 : decode cX2_longestNest 24 = .ok (.iload_n 1, 1) := dk_27 (dk_at dksX2_longestNest_1 0 rfl rfl)
theorem dX2_longestNest_25 : decode cX2_longestNest 25 = .ok (.if_icmp .le 12, 3) := dk_164 0 12 (dk_at dksX2_longestNest_1 1 rfl rfl)
theorem dX2_longestNest_28 : decode cX2_longestNest 28 = .ok (.aload_n 0, 1) := dk_42 (dk_at dksX2_longestNest_1 4 rfl rfl)
theorem dX2_longestNest_29 : decode cX2_longestNest 29 = .ok (.getfield 40, 3) := dk_180 0 40 (dk_at dksX2_longestNest_1 5 rfl rfl)
theorem dX2_longestNest_32 : decode cX2_longestNest 32 = .ok (.iload_n 2, 1) := dk_28 (dk_at dksX2_longestNest_1 8 rfl rfl)
theorem dX2_longestNest_33 : decode cX2_longestNest 33 = .ok (.iaload, 1) := dk_46 (dk_at dksX2_longestNest_1 9 rfl rfl)
theorem dX2_longestNest_34 : decode cX2_longestNest 34 = .ok (.goto 4, 3) := dk_167 0 4 (dk_at dksX2_longestNest_1 10 rfl rfl)
theorem dX2_longestNest_37 : decode cX2_longestNest 37 = .ok (.iload_n 1, 1) := dk_27 (dk_at dksX2_longestNest_1 13 rfl rfl)
theorem dX2_longestNest_38 : decode cX2_longestNest 38 = .ok (.istore_n 1, 1) := dk_60 (dk_at dksX2_longestNest_1 14 rfl rfl)
theorem dX2_longestNest_39 : decode cX2_longestNest 39 = .ok (.iinc 2 1, 3) := dk_132 2 1 (dk_at dksX2_longestNest_1 15 rfl rfl)
theorem dX2_longestNest_42 : decode cX2_longestNest 42 = .ok (.goto (-34), 3) := dk_167 255 222 (dk_at dksX2_longestNest_1 18 rfl rfl)
theorem dX2_longestNest_45 : decode cX2_longestNest 45 = .ok (.iload_n 1, 1) := dk_27 (dk_at dksX2_longestNest_1 21 rfl rfl)
theorem dX2_longestNest_46 : decode cX2_longestNest 46 = .ok (.ireturn, 1) := dk_172 (dk_at dksX2_longestNest_1 22 rfl rfl)
abbrev cX2_laysNests : ByteArray := prog_7_method_63_code
def yX2_laysNests : MethodName := ⟨RX2, "laysNests", "()V"⟩
def dkwX2_laysNests_7 : List UInt8 := [132, 2, 1, 167, 255, 140, 132, 1, 1, 167, 255, 122, 177]
abbrev dktX2_laysNests_7 : List UInt8 := dkwX2_laysNests_7 ++ []
def dkwX2_laysNests_6 : List UInt8 := [180, 0, 40, 29, 46, 4, 96, 167, 0, 9, 42, 180, 0, 40, 28, 46, 79, 132, 3, 1, 167, 255, 158]
abbrev dktX2_laysNests_6 : List UInt8 := dkwX2_laysNests_6 ++ dktX2_laysNests_7
def dkwX2_laysNests_5 : List UInt8 := [21, 4, 153, 0, 31, 42, 180, 0, 40, 29, 46, 4, 96, 42, 180, 0, 40, 28, 46, 164, 0, 14, 42]
abbrev dktX2_laysNests_5 : List UInt8 := dkwX2_laysNests_5 ++ dktX2_laysNests_6
def dkwX2_laysNests_4 : List UInt8 := [182, 0, 55, 42, 28, 4, 182, 0, 55, 163, 0, 7, 4, 167, 0, 4, 3, 54, 4, 42, 180, 0, 40, 28]
abbrev dktX2_laysNests_4 : List UInt8 := dkwX2_laysNests_4 ++ dktX2_laysNests_5
def dkwX2_laysNests_3 : List UInt8 := [162, 0, 94, 42, 180, 0, 40, 28, 46, 158, 0, 31, 42, 180, 0, 40, 29, 46, 158, 0, 22, 42, 29, 3]
abbrev dktX2_laysNests_3 : List UInt8 := dkwX2_laysNests_3 ++ dktX2_laysNests_4
def dkwX2_laysNests_2 : List UInt8 := [162, 0, 130, 3, 61, 28, 42, 180, 0, 7, 3, 46, 162, 0, 112, 3, 62, 29, 42, 180, 0, 7, 3, 46]
abbrev dktX2_laysNests_2 : List UInt8 := dkwX2_laysNests_2 ++ dktX2_laysNests_3
def dkwX2_laysNests_1 : List UInt8 := [153, 0, 7, 4, 167, 0, 4, 3, 79, 132, 1, 1, 167, 255, 224, 3, 60, 27, 42, 180, 0, 7, 3, 46]
abbrev dktX2_laysNests_1 : List UInt8 := dkwX2_laysNests_1 ++ dktX2_laysNests_2
def dkwX2_laysNests_0 : List UInt8 := [3, 60, 27, 42, 180, 0, 7, 3, 46, 162, 0, 28, 42, 180, 0, 40, 27, 42, 27, 182, 0, 211]
abbrev dktX2_laysNests_0 : List UInt8 := dkwX2_laysNests_0 ++ dktX2_laysNests_1
theorem dksX2_laysNests_0 : cX2_laysNests.data.toList.drop 0 = dktX2_laysNests_0 := by decide +kernel
theorem dksX2_laysNests_1 : cX2_laysNests.data.toList.drop 22 = dktX2_laysNests_1 := dk_seg dksX2_laysNests_0 22 rfl rfl
theorem dksX2_laysNests_2 : cX2_laysNests.data.toList.drop 46 = dktX2_laysNests_2 := dk_seg dksX2_laysNests_1 24 rfl rfl
theorem dksX2_laysNests_3 : cX2_laysNests.data.toList.drop 70 = dktX2_laysNests_3 := dk_seg dksX2_laysNests_2 24 rfl rfl
theorem dksX2_laysNests_4 : cX2_laysNests.data.toList.drop 94 = dktX2_laysNests_4 := dk_seg dksX2_laysNests_3 24 rfl rfl
theorem dksX2_laysNests_5 : cX2_laysNests.data.toList.drop 118 = dktX2_laysNests_5 := dk_seg dksX2_laysNests_4 24 rfl rfl
theorem dksX2_laysNests_6 : cX2_laysNests.data.toList.drop 141 = dktX2_laysNests_6 := dk_seg dksX2_laysNests_5 23 rfl rfl
theorem dksX2_laysNests_7 : cX2_laysNests.data.toList.drop 164 = dktX2_laysNests_7 := dk_seg dksX2_laysNests_6 23 rfl rfl
theorem dX2_laysNests_0 : decode cX2_laysNests 0 = .ok (.iconst 0, 1) := dk_3 (dk_at dksX2_laysNests_0 0 rfl rfl)
theorem dX2_laysNests_1 : decode cX2_laysNests 1 = .ok (.istore_n 1, 1) := dk_60 (dk_at dksX2_laysNests_0 1 rfl rfl)
theorem dX2_laysNests_2 : decode cX2_laysNests 2 = .ok (.iload_n 1, 1) := dk_27 (dk_at dksX2_laysNests_0 2 rfl rfl)
theorem dX2_laysNests_3 : decode cX2_laysNests 3 = .ok (.aload_n 0, 1) := dk_42 (dk_at dksX2_laysNests_0 3 rfl rfl)
theorem dX2_laysNests_4 : decode cX2_laysNests 4 = .ok (.getfield 7, 3) := dk_180 0 7 (dk_at dksX2_laysNests_0 4 rfl rfl)
theorem dX2_laysNests_7 : decode cX2_laysNests 7 = .ok (.iconst 0, 1) := dk_3 (dk_at dksX2_laysNests_0 7 rfl rfl)
theorem dX2_laysNests_8 : decode cX2_laysNests 8 = .ok (.iaload, 1) := dk_46 (dk_at dksX2_laysNests_0 8 rfl rfl)
theorem dX2_laysNests_9 : decode cX2_laysNests 9 = .ok (.if_icmp .ge 28, 3) := dk_162 0 28 (dk_at dksX2_laysNests_0 9 rfl rfl)
theorem dX2_laysNests_12 : decode cX2_laysNests 12 = .ok (.aload_n 0, 1) := dk_42 (dk_at dksX2_laysNests_0 12 rfl rfl)
theorem dX2_laysNests_13 : decode cX2_laysNests 13 = .ok (.getfield 40, 3) := dk_180 0 40 (dk_at dksX2_laysNests_0 13 rfl rfl)
theorem dX2_laysNests_16 : decode cX2_laysNests 16 = .ok (.iload_n 1, 1) := dk_27 (dk_at dksX2_laysNests_0 16 rfl rfl)
theorem dX2_laysNests_17 : decode cX2_laysNests 17 = .ok (.aload_n 0, 1) := dk_42 (dk_at dksX2_laysNests_0 17 rfl rfl)
theorem dX2_laysNests_18 : decode cX2_laysNests 18 = .ok (.iload_n 1, 1) := dk_27 (dk_at dksX2_laysNests_0 18 rfl rfl)
theorem dX2_laysNests_19 : decode cX2_laysNests 19 = .ok (.invokevirtual 211, 3) := dk_182 0 211 (dk_at dksX2_laysNests_0 19 rfl rfl)
theorem dX2_laysNests_22 : decode cX2_laysNests 22 = .ok (.ifCond .eq 7, 3) := dk_153 0 7 (dk_at dksX2_laysNests_1 0 rfl rfl)
theorem dX2_laysNests_25 : decode cX2_laysNests 25 = .ok (.iconst 1, 1) := dk_4 (dk_at dksX2_laysNests_1 3 rfl rfl)
theorem dX2_laysNests_26 : decode cX2_laysNests 26 = .ok (.goto 4, 3) := dk_167 0 4 (dk_at dksX2_laysNests_1 4 rfl rfl)
theorem dX2_laysNests_29 : decode cX2_laysNests 29 = .ok (.iconst 0, 1) := dk_3 (dk_at dksX2_laysNests_1 7 rfl rfl)
theorem dX2_laysNests_30 : decode cX2_laysNests 30 = .ok (.iastore, 1) := dk_79 (dk_at dksX2_laysNests_1 8 rfl rfl)
theorem dX2_laysNests_31 : decode cX2_laysNests 31 = .ok (.iinc 1 1, 3) := dk_132 1 1 (dk_at dksX2_laysNests_1 9 rfl rfl)
theorem dX2_laysNests_34 : decode cX2_laysNests 34 = .ok (.goto (-32), 3) := dk_167 255 224 (dk_at dksX2_laysNests_1 12 rfl rfl)
theorem dX2_laysNests_37 : decode cX2_laysNests 37 = .ok (.iconst 0, 1) := dk_3 (dk_at dksX2_laysNests_1 15 rfl rfl)
theorem dX2_laysNests_38 : decode cX2_laysNests 38 = .ok (.istore_n 1, 1) := dk_60 (dk_at dksX2_laysNests_1 16 rfl rfl)
theorem dX2_laysNests_39 : decode cX2_laysNests 39 = .ok (.iload_n 1, 1) := dk_27 (dk_at dksX2_laysNests_1 17 rfl rfl)
theorem dX2_laysNests_40 : decode cX2_laysNests 40 = .ok (.aload_n 0, 1) := dk_42 (dk_at dksX2_laysNests_1 18 rfl rfl)
theorem dX2_laysNests_41 : decode cX2_laysNests 41 = .ok (.getfield 7, 3) := dk_180 0 7 (dk_at dksX2_laysNests_1 19 rfl rfl)
theorem dX2_laysNests_44 : decode cX2_laysNests 44 = .ok (.iconst 0, 1) := dk_3 (dk_at dksX2_laysNests_1 22 rfl rfl)
theorem dX2_laysNests_45 : decode cX2_laysNests 45 = .ok (.iaload, 1) := dk_46 (dk_at dksX2_laysNests_1 23 rfl rfl)
theorem dX2_laysNests_46 : decode cX2_laysNests 46 = .ok (.if_icmp .ge 130, 3) := dk_162 0 130 (dk_at dksX2_laysNests_2 0 rfl rfl)
theorem dX2_laysNests_49 : decode cX2_laysNests 49 = .ok (.iconst 0, 1) := dk_3 (dk_at dksX2_laysNests_2 3 rfl rfl)
theorem dX2_laysNests_50 : decode cX2_laysNests 50 = .ok (.istore_n 2, 1) := dk_61 (dk_at dksX2_laysNests_2 4 rfl rfl)
theorem dX2_laysNests_51 : decode cX2_laysNests 51 = .ok (.iload_n 2, 1) := dk_28 (dk_at dksX2_laysNests_2 5 rfl rfl)
theorem dX2_laysNests_52 : decode cX2_laysNests 52 = .ok (.aload_n 0, 1) := dk_42 (dk_at dksX2_laysNests_2 6 rfl rfl)
theorem dX2_laysNests_53 : decode cX2_laysNests 53 = .ok (.getfield 7, 3) := dk_180 0 7 (dk_at dksX2_laysNests_2 7 rfl rfl)
theorem dX2_laysNests_56 : decode cX2_laysNests 56 = .ok (.iconst 0, 1) := dk_3 (dk_at dksX2_laysNests_2 10 rfl rfl)
theorem dX2_laysNests_57 : decode cX2_laysNests 57 = .ok (.iaload, 1) := dk_46 (dk_at dksX2_laysNests_2 11 rfl rfl)
theorem dX2_laysNests_58 : decode cX2_laysNests 58 = .ok (.if_icmp .ge 112, 3) := dk_162 0 112 (dk_at dksX2_laysNests_2 12 rfl rfl)
theorem dX2_laysNests_61 : decode cX2_laysNests 61 = .ok (.iconst 0, 1) := dk_3 (dk_at dksX2_laysNests_2 15 rfl rfl)
theorem dX2_laysNests_62 : decode cX2_laysNests 62 = .ok (.istore_n 3, 1) := dk_62 (dk_at dksX2_laysNests_2 16 rfl rfl)
theorem dX2_laysNests_63 : decode cX2_laysNests 63 = .ok (.iload_n 3, 1) := dk_29 (dk_at dksX2_laysNests_2 17 rfl rfl)
theorem dX2_laysNests_64 : decode cX2_laysNests 64 = .ok (.aload_n 0, 1) := dk_42 (dk_at dksX2_laysNests_2 18 rfl rfl)
theorem dX2_laysNests_65 : decode cX2_laysNests 65 = .ok (.getfield 7, 3) := dk_180 0 7 (dk_at dksX2_laysNests_2 19 rfl rfl)
theorem dX2_laysNests_68 : decode cX2_laysNests 68 = .ok (.iconst 0, 1) := dk_3 (dk_at dksX2_laysNests_2 22 rfl rfl)
theorem dX2_laysNests_69 : decode cX2_laysNests 69 = .ok (.iaload, 1) := dk_46 (dk_at dksX2_laysNests_2 23 rfl rfl)
theorem dX2_laysNests_70 : decode cX2_laysNests 70 = .ok (.if_icmp .ge 94, 3) := dk_162 0 94 (dk_at dksX2_laysNests_3 0 rfl rfl)
theorem dX2_laysNests_73 : decode cX2_laysNests 73 = .ok (.aload_n 0, 1) := dk_42 (dk_at dksX2_laysNests_3 3 rfl rfl)
theorem dX2_laysNests_74 : decode cX2_laysNests 74 = .ok (.getfield 40, 3) := dk_180 0 40 (dk_at dksX2_laysNests_3 4 rfl rfl)
theorem dX2_laysNests_77 : decode cX2_laysNests 77 = .ok (.iload_n 2, 1) := dk_28 (dk_at dksX2_laysNests_3 7 rfl rfl)
theorem dX2_laysNests_78 : decode cX2_laysNests 78 = .ok (.iaload, 1) := dk_46 (dk_at dksX2_laysNests_3 8 rfl rfl)
theorem dX2_laysNests_79 : decode cX2_laysNests 79 = .ok (.ifCond .le 31, 3) := dk_158 0 31 (dk_at dksX2_laysNests_3 9 rfl rfl)
theorem dX2_laysNests_82 : decode cX2_laysNests 82 = .ok (.aload_n 0, 1) := dk_42 (dk_at dksX2_laysNests_3 12 rfl rfl)
theorem dX2_laysNests_83 : decode cX2_laysNests 83 = .ok (.getfield 40, 3) := dk_180 0 40 (dk_at dksX2_laysNests_3 13 rfl rfl)
theorem dX2_laysNests_86 : decode cX2_laysNests 86 = .ok (.iload_n 3, 1) := dk_29 (dk_at dksX2_laysNests_3 16 rfl rfl)
theorem dX2_laysNests_87 : decode cX2_laysNests 87 = .ok (.iaload, 1) := dk_46 (dk_at dksX2_laysNests_3 17 rfl rfl)
theorem dX2_laysNests_88 : decode cX2_laysNests 88 = .ok (.ifCond .le 22, 3) := dk_158 0 22 (dk_at dksX2_laysNests_3 18 rfl rfl)
theorem dX2_laysNests_91 : decode cX2_laysNests 91 = .ok (.aload_n 0, 1) := dk_42 (dk_at dksX2_laysNests_3 21 rfl rfl)
theorem dX2_laysNests_92 : decode cX2_laysNests 92 = .ok (.iload_n 3, 1) := dk_29 (dk_at dksX2_laysNests_3 22 rfl rfl)
theorem dX2_laysNests_93 : decode cX2_laysNests 93 = .ok (.iconst 0, 1) := dk_3 (dk_at dksX2_laysNests_3 23 rfl rfl)
theorem dX2_laysNests_94 : decode cX2_laysNests 94 = .ok (.invokevirtual 55, 3) := dk_182 0 55 (dk_at dksX2_laysNests_4 0 rfl rfl)
theorem dX2_laysNests_97 : decode cX2_laysNests 97 = .ok (.aload_n 0, 1) := dk_42 (dk_at dksX2_laysNests_4 3 rfl rfl)
theorem dX2_laysNests_98 : decode cX2_laysNests 98 = .ok (.iload_n 2, 1) := dk_28 (dk_at dksX2_laysNests_4 4 rfl rfl)
theorem dX2_laysNests_99 : decode cX2_laysNests 99 = .ok (.iconst 1, 1) := dk_4 (dk_at dksX2_laysNests_4 5 rfl rfl)
theorem dX2_laysNests_100 : decode cX2_laysNests 100 = .ok (.invokevirtual 55, 3) := dk_182 0 55 (dk_at dksX2_laysNests_4 6 rfl rfl)
theorem dX2_laysNests_103 : decode cX2_laysNests 103 = .ok (.if_icmp .gt 7, 3) := dk_163 0 7 (dk_at dksX2_laysNests_4 9 rfl rfl)
theorem dX2_laysNests_106 : decode cX2_laysNests 106 = .ok (.iconst 1, 1) := dk_4 (dk_at dksX2_laysNests_4 12 rfl rfl)
theorem dX2_laysNests_107 : decode cX2_laysNests 107 = .ok (.goto 4, 3) := dk_167 0 4 (dk_at dksX2_laysNests_4 13 rfl rfl)
theorem dX2_laysNests_110 : decode cX2_laysNests 110 = .ok (.iconst 0, 1) := dk_3 (dk_at dksX2_laysNests_4 16 rfl rfl)
theorem dX2_laysNests_111 : decode cX2_laysNests 111 = .ok (.istore 4, 2) := dk_54 4 (dk_at dksX2_laysNests_4 17 rfl rfl)
theorem dX2_laysNests_113 : decode cX2_laysNests 113 = .ok (.aload_n 0, 1) := dk_42 (dk_at dksX2_laysNests_4 19 rfl rfl)
theorem dX2_laysNests_114 : decode cX2_laysNests 114 = .ok (.getfield 40, 3) := dk_180 0 40 (dk_at dksX2_laysNests_4 20 rfl rfl)
theorem dX2_laysNests_117 : decode cX2_laysNests 117 = .ok (.iload_n 2, 1) := dk_28 (dk_at dksX2_laysNests_4 23 rfl rfl)
theorem dX2_laysNests_118 : decode cX2_laysNests 118 = .ok (.iload 4, 2) := dk_21 4 (dk_at dksX2_laysNests_5 0 rfl rfl)
theorem dX2_laysNests_120 : decode cX2_laysNests 120 = .ok (.ifCond .eq 31, 3) := dk_153 0 31 (dk_at dksX2_laysNests_5 2 rfl rfl)
theorem dX2_laysNests_123 : decode cX2_laysNests 123 = .ok (.aload_n 0, 1) := dk_42 (dk_at dksX2_laysNests_5 5 rfl rfl)
theorem dX2_laysNests_124 : decode cX2_laysNests 124 = .ok (.getfield 40, 3) := dk_180 0 40 (dk_at dksX2_laysNests_5 6 rfl rfl)
theorem dX2_laysNests_127 : decode cX2_laysNests 127 = .ok (.iload_n 3, 1) := dk_29 (dk_at dksX2_laysNests_5 9 rfl rfl)
theorem dX2_laysNests_128 : decode cX2_laysNests 128 = .ok (.iaload, 1) := dk_46 (dk_at dksX2_laysNests_5 10 rfl rfl)
theorem dX2_laysNests_129 : decode cX2_laysNests 129 = .ok (.iconst 1, 1) := dk_4 (dk_at dksX2_laysNests_5 11 rfl rfl)
theorem dX2_laysNests_130 : decode cX2_laysNests 130 = .ok (.iadd, 1) := dk_96 (dk_at dksX2_laysNests_5 12 rfl rfl)
theorem dX2_laysNests_131 : decode cX2_laysNests 131 = .ok (.aload_n 0, 1) := dk_42 (dk_at dksX2_laysNests_5 13 rfl rfl)
theorem dX2_laysNests_132 : decode cX2_laysNests 132 = .ok (.getfield 40, 3) := dk_180 0 40 (dk_at dksX2_laysNests_5 14 rfl rfl)
theorem dX2_laysNests_135 : decode cX2_laysNests 135 = .ok (.iload_n 2, 1) := dk_28 (dk_at dksX2_laysNests_5 17 rfl rfl)
theorem dX2_laysNests_136 : decode cX2_laysNests 136 = .ok (.iaload, 1) := dk_46 (dk_at dksX2_laysNests_5 18 rfl rfl)
theorem dX2_laysNests_137 : decode cX2_laysNests 137 = .ok (.if_icmp .le 14, 3) := dk_164 0 14 (dk_at dksX2_laysNests_5 19 rfl rfl)
theorem dX2_laysNests_140 : decode cX2_laysNests 140 = .ok (.aload_n 0, 1) := dk_42 (dk_at dksX2_laysNests_5 22 rfl rfl)
theorem dX2_laysNests_141 : decode cX2_laysNests 141 = .ok (.getfield 40, 3) := dk_180 0 40 (dk_at dksX2_laysNests_6 0 rfl rfl)
theorem dX2_laysNests_144 : decode cX2_laysNests 144 = .ok (.iload_n 3, 1) := dk_29 (dk_at dksX2_laysNests_6 3 rfl rfl)
theorem dX2_laysNests_145 : decode cX2_laysNests 145 = .ok (.iaload, 1) := dk_46 (dk_at dksX2_laysNests_6 4 rfl rfl)
theorem dX2_laysNests_146 : decode cX2_laysNests 146 = .ok (.iconst 1, 1) := dk_4 (dk_at dksX2_laysNests_6 5 rfl rfl)
theorem dX2_laysNests_147 : decode cX2_laysNests 147 = .ok (.iadd, 1) := dk_96 (dk_at dksX2_laysNests_6 6 rfl rfl)
theorem dX2_laysNests_148 : decode cX2_laysNests 148 = .ok (.goto 9, 3) := dk_167 0 9 (dk_at dksX2_laysNests_6 7 rfl rfl)
theorem dX2_laysNests_151 : decode cX2_laysNests 151 = .ok (.aload_n 0, 1) := dk_42 (dk_at dksX2_laysNests_6 10 rfl rfl)
theorem dX2_laysNests_152 : decode cX2_laysNests 152 = .ok (.getfield 40, 3) := dk_180 0 40 (dk_at dksX2_laysNests_6 11 rfl rfl)
theorem dX2_laysNests_155 : decode cX2_laysNests 155 = .ok (.iload_n 2, 1) := dk_28 (dk_at dksX2_laysNests_6 14 rfl rfl)
theorem dX2_laysNests_156 : decode cX2_laysNests 156 = .ok (.iaload, 1) := dk_46 (dk_at dksX2_laysNests_6 15 rfl rfl)
theorem dX2_laysNests_157 : decode cX2_laysNests 157 = .ok (.iastore, 1) := dk_79 (dk_at dksX2_laysNests_6 16 rfl rfl)
theorem dX2_laysNests_158 : decode cX2_laysNests 158 = .ok (.iinc 3 1, 3) := dk_132 3 1 (dk_at dksX2_laysNests_6 17 rfl rfl)
theorem dX2_laysNests_161 : decode cX2_laysNests 161 = .ok (.goto (-98), 3) := dk_167 255 158 (dk_at dksX2_laysNests_6 20 rfl rfl)
theorem dX2_laysNests_164 : decode cX2_laysNests 164 = .ok (.iinc 2 1, 3) := dk_132 2 1 (dk_at dksX2_laysNests_7 0 rfl rfl)
theorem dX2_laysNests_167 : decode cX2_laysNests 167 = .ok (.goto (-116), 3) := dk_167 255 140 (dk_at dksX2_laysNests_7 3 rfl rfl)
theorem dX2_laysNests_170 : decode cX2_laysNests 170 = .ok (.iinc 1 1, 3) := dk_132 1 1 (dk_at dksX2_laysNests_7 6 rfl rfl)
theorem dX2_laysNests_173 : decode cX2_laysNests 173 = .ok (.goto (-134), 3) := dk_167 255 122 (dk_at dksX2_laysNests_7 9 rfl rfl)
theorem dX2_laysNests_176 : decode cX2_laysNests 176 = .ok (.return_, 1) := dk_177 (dk_at dksX2_laysNests_7 12 rfl rfl)
abbrev cX2_isLoose : ByteArray := prog_7_method_62_code
def yX2_isLoose : MethodName := ⟨RX2, "isLoose", "(I)Z"⟩
def dkwX2_isLoose_0 : List UInt8 := [42, 27, 182, 0, 59, 156, 0, 15, 42, 27, 182, 0, 67, 154, 0, 7, 4, 167, 0, 4, 3, 172]
abbrev dktX2_isLoose_0 : List UInt8 := dkwX2_isLoose_0 ++ []
theorem dksX2_isLoose_0 : cX2_isLoose.data.toList.drop 0 = dktX2_isLoose_0 := by decide +kernel
theorem dX2_isLoose_0 : decode cX2_isLoose 0 = .ok (.aload_n 0, 1) := dk_42 (dk_at dksX2_isLoose_0 0 rfl rfl)
theorem dX2_isLoose_1 : decode cX2_isLoose 1 = .ok (.iload_n 1, 1) := dk_27 (dk_at dksX2_isLoose_0 1 rfl rfl)
theorem dX2_isLoose_2 : decode cX2_isLoose 2 = .ok (.invokevirtual 59, 3) := dk_182 0 59 (dk_at dksX2_isLoose_0 2 rfl rfl)
theorem dX2_isLoose_5 : decode cX2_isLoose 5 = .ok (.ifCond .ge 15, 3) := dk_156 0 15 (dk_at dksX2_isLoose_0 5 rfl rfl)
theorem dX2_isLoose_8 : decode cX2_isLoose 8 = .ok (.aload_n 0, 1) := dk_42 (dk_at dksX2_isLoose_0 8 rfl rfl)
theorem dX2_isLoose_9 : decode cX2_isLoose 9 = .ok (.iload_n 1, 1) := dk_27 (dk_at dksX2_isLoose_0 9 rfl rfl)
theorem dX2_isLoose_10 : decode cX2_isLoose 10 = .ok (.invokevirtual 67, 3) := dk_182 0 67 (dk_at dksX2_isLoose_0 10 rfl rfl)
theorem dX2_isLoose_13 : decode cX2_isLoose 13 = .ok (.ifCond .ne 7, 3) := dk_154 0 7 (dk_at dksX2_isLoose_0 13 rfl rfl)
theorem dX2_isLoose_16 : decode cX2_isLoose 16 = .ok (.iconst 1, 1) := dk_4 (dk_at dksX2_isLoose_0 16 rfl rfl)
theorem dX2_isLoose_17 : decode cX2_isLoose 17 = .ok (.goto 4, 3) := dk_167 0 4 (dk_at dksX2_isLoose_0 17 rfl rfl)
theorem dX2_isLoose_20 : decode cX2_isLoose 20 = .ok (.iconst 0, 1) := dk_3 (dk_at dksX2_isLoose_0 20 rfl rfl)
theorem dX2_isLoose_21 : decode cX2_isLoose 21 = .ok (.ireturn, 1) := dk_172 (dk_at dksX2_isLoose_0 21 rfl rfl)
abbrev cX2_count : ByteArray := prog_7_method_70_code
def yX2_count : MethodName := ⟨RX2, "count", "(I)I"⟩
def dkwX2_count_6 : List UInt8 := [172]
abbrev dktX2_count_6 : List UInt8 := dkwX2_count_6 ++ []
def dkwX2_count_5 : List UInt8 := [16, 10, 182, 0, 230, 172, 42, 180, 0, 7, 4, 46, 172, 42, 180, 0, 126, 172, 42, 180, 0, 43, 172, 2]
abbrev dktX2_count_5 : List UInt8 := dkwX2_count_5 ++ dktX2_count_6
def dkwX2_count_4 : List UInt8 := [42, 6, 182, 0, 230, 172, 42, 16, 12, 182, 0, 230, 172, 42, 182, 0, 233, 172, 42, 182, 0, 217, 172, 42]
abbrev dktX2_count_4 : List UInt8 := dkwX2_count_4 ++ dktX2_count_5
def dkwX2_count_3 : List UInt8 := [182, 0, 227, 172, 42, 3, 182, 0, 230, 172, 42, 16, 8, 182, 0, 230, 172, 42, 16, 11, 182, 0, 230, 172]
abbrev dktX2_count_3 : List UInt8 := dkwX2_count_3 ++ dktX2_count_4
def dkwX2_count_2 : List UInt8 := [42, 180, 0, 7, 3, 46, 172, 42, 27, 5, 160, 0, 7, 4, 167, 0, 4, 3, 182, 0, 223, 172, 42]
abbrev dktX2_count_2 : List UInt8 := dkwX2_count_2 ++ dktX2_count_3
def dkwX2_count_1 : List UInt8 := [170, 0, 0, 0, 0, 0, 169, 0, 0, 0, 0, 0, 0, 0, 14, 0, 0, 0, 75, 0, 0, 0, 82, 0, 0, 0, 82, 0, 0, 0, 97, 0, 0, 0, 102, 0, 0, 0, 108, 0, 0, 0, 115, 0, 0, 0, 122, 0, 0, 0, 128, 0, 0, 0, 135, 0, 0, 0, 140, 0, 0, 0, 145, 0, 0, 0, 152, 0, 0, 0, 159, 0, 0, 0, 164]
abbrev dktX2_count_1 : List UInt8 := dkwX2_count_1 ++ dktX2_count_2
def dkwX2_count_0 : List UInt8 := [27]
abbrev dktX2_count_0 : List UInt8 := dkwX2_count_0 ++ dktX2_count_1
theorem dksX2_count_0 : cX2_count.data.toList.drop 0 = dktX2_count_0 := by decide +kernel
theorem dksX2_count_1 : cX2_count.data.toList.drop 1 = dktX2_count_1 := dk_seg dksX2_count_0 1 rfl rfl
theorem dksX2_count_2 : cX2_count.data.toList.drop 76 = dktX2_count_2 := dk_seg dksX2_count_1 75 rfl rfl
theorem dksX2_count_3 : cX2_count.data.toList.drop 99 = dktX2_count_3 := dk_seg dksX2_count_2 23 rfl rfl
theorem dksX2_count_4 : cX2_count.data.toList.drop 123 = dktX2_count_4 := dk_seg dksX2_count_3 24 rfl rfl
theorem dksX2_count_5 : cX2_count.data.toList.drop 147 = dktX2_count_5 := dk_seg dksX2_count_4 24 rfl rfl
theorem dksX2_count_6 : cX2_count.data.toList.drop 171 = dktX2_count_6 := dk_seg dksX2_count_5 24 rfl rfl
theorem dX2_count_0 : decode cX2_count 0 = .ok (.iload_n 1, 1) := dk_27 (dk_at dksX2_count_0 0 rfl rfl)
theorem dX2_count_1 : decode cX2_count 1 = .ok (.tableswitch 169 0 14 #[75, 82, 82, 97, 102, 108, 115, 122, 128, 135, 140, 145, 152, 159, 164], 75) := by decide +kernel
theorem dX2_count_76 : decode cX2_count 76 = .ok (.aload_n 0, 1) := dk_42 (dk_at dksX2_count_2 0 rfl rfl)
theorem dX2_count_77 : decode cX2_count 77 = .ok (.getfield 7, 3) := dk_180 0 7 (dk_at dksX2_count_2 1 rfl rfl)
theorem dX2_count_80 : decode cX2_count 80 = .ok (.iconst 0, 1) := dk_3 (dk_at dksX2_count_2 4 rfl rfl)
theorem dX2_count_81 : decode cX2_count 81 = .ok (.iaload, 1) := dk_46 (dk_at dksX2_count_2 5 rfl rfl)
theorem dX2_count_82 : decode cX2_count 82 = .ok (.ireturn, 1) := dk_172 (dk_at dksX2_count_2 6 rfl rfl)
theorem dX2_count_83 : decode cX2_count 83 = .ok (.aload_n 0, 1) := dk_42 (dk_at dksX2_count_2 7 rfl rfl)
theorem dX2_count_84 : decode cX2_count 84 = .ok (.iload_n 1, 1) := dk_27 (dk_at dksX2_count_2 8 rfl rfl)
theorem dX2_count_85 : decode cX2_count 85 = .ok (.iconst 2, 1) := dk_5 (dk_at dksX2_count_2 9 rfl rfl)
theorem dX2_count_86 : decode cX2_count 86 = .ok (.if_icmp .ne 7, 3) := dk_160 0 7 (dk_at dksX2_count_2 10 rfl rfl)
theorem dX2_count_89 : decode cX2_count 89 = .ok (.iconst 1, 1) := dk_4 (dk_at dksX2_count_2 13 rfl rfl)
theorem dX2_count_90 : decode cX2_count 90 = .ok (.goto 4, 3) := dk_167 0 4 (dk_at dksX2_count_2 14 rfl rfl)
theorem dX2_count_93 : decode cX2_count 93 = .ok (.iconst 0, 1) := dk_3 (dk_at dksX2_count_2 17 rfl rfl)
theorem dX2_count_94 : decode cX2_count 94 = .ok (.invokevirtual 223, 3) := dk_182 0 223 (dk_at dksX2_count_2 18 rfl rfl)
theorem dX2_count_97 : decode cX2_count 97 = .ok (.ireturn, 1) := dk_172 (dk_at dksX2_count_2 21 rfl rfl)
theorem dX2_count_98 : decode cX2_count 98 = .ok (.aload_n 0, 1) := dk_42 (dk_at dksX2_count_2 22 rfl rfl)
theorem dX2_count_99 : decode cX2_count 99 = .ok (.invokevirtual 227, 3) := dk_182 0 227 (dk_at dksX2_count_3 0 rfl rfl)
theorem dX2_count_102 : decode cX2_count 102 = .ok (.ireturn, 1) := dk_172 (dk_at dksX2_count_3 3 rfl rfl)
theorem dX2_count_103 : decode cX2_count 103 = .ok (.aload_n 0, 1) := dk_42 (dk_at dksX2_count_3 4 rfl rfl)
theorem dX2_count_104 : decode cX2_count 104 = .ok (.iconst 0, 1) := dk_3 (dk_at dksX2_count_3 5 rfl rfl)
theorem dX2_count_105 : decode cX2_count 105 = .ok (.invokevirtual 230, 3) := dk_182 0 230 (dk_at dksX2_count_3 6 rfl rfl)
theorem dX2_count_108 : decode cX2_count 108 = .ok (.ireturn, 1) := dk_172 (dk_at dksX2_count_3 9 rfl rfl)
theorem dX2_count_109 : decode cX2_count 109 = .ok (.aload_n 0, 1) := dk_42 (dk_at dksX2_count_3 10 rfl rfl)
theorem dX2_count_110 : decode cX2_count 110 = .ok (.bipush 8, 2) := dk_16 8 (dk_at dksX2_count_3 11 rfl rfl)
theorem dX2_count_112 : decode cX2_count 112 = .ok (.invokevirtual 230, 3) := dk_182 0 230 (dk_at dksX2_count_3 13 rfl rfl)
theorem dX2_count_115 : decode cX2_count 115 = .ok (.ireturn, 1) := dk_172 (dk_at dksX2_count_3 16 rfl rfl)
theorem dX2_count_116 : decode cX2_count 116 = .ok (.aload_n 0, 1) := dk_42 (dk_at dksX2_count_3 17 rfl rfl)
theorem dX2_count_117 : decode cX2_count 117 = .ok (.bipush 11, 2) := dk_16 11 (dk_at dksX2_count_3 18 rfl rfl)
theorem dX2_count_119 : decode cX2_count 119 = .ok (.invokevirtual 230, 3) := dk_182 0 230 (dk_at dksX2_count_3 20 rfl rfl)
theorem dX2_count_122 : decode cX2_count 122 = .ok (.ireturn, 1) := dk_172 (dk_at dksX2_count_3 23 rfl rfl)
theorem dX2_count_123 : decode cX2_count 123 = .ok (.aload_n 0, 1) := dk_42 (dk_at dksX2_count_4 0 rfl rfl)
theorem dX2_count_124 : decode cX2_count 124 = .ok (.iconst 3, 1) := dk_6 (dk_at dksX2_count_4 1 rfl rfl)
theorem dX2_count_125 : decode cX2_count 125 = .ok (.invokevirtual 230, 3) := dk_182 0 230 (dk_at dksX2_count_4 2 rfl rfl)
theorem dX2_count_128 : decode cX2_count 128 = .ok (.ireturn, 1) := dk_172 (dk_at dksX2_count_4 5 rfl rfl)
theorem dX2_count_129 : decode cX2_count 129 = .ok (.aload_n 0, 1) := dk_42 (dk_at dksX2_count_4 6 rfl rfl)
theorem dX2_count_130 : decode cX2_count 130 = .ok (.bipush 12, 2) := dk_16 12 (dk_at dksX2_count_4 7 rfl rfl)
theorem dX2_count_132 : decode cX2_count 132 = .ok (.invokevirtual 230, 3) := dk_182 0 230 (dk_at dksX2_count_4 9 rfl rfl)
theorem dX2_count_135 : decode cX2_count 135 = .ok (.ireturn, 1) := dk_172 (dk_at dksX2_count_4 12 rfl rfl)
theorem dX2_count_136 : decode cX2_count 136 = .ok (.aload_n 0, 1) := dk_42 (dk_at dksX2_count_4 13 rfl rfl)
theorem dX2_count_137 : decode cX2_count 137 = .ok (.invokevirtual 233, 3) := dk_182 0 233 (dk_at dksX2_count_4 14 rfl rfl)
theorem dX2_count_140 : decode cX2_count 140 = .ok (.ireturn, 1) := dk_172 (dk_at dksX2_count_4 17 rfl rfl)
theorem dX2_count_141 : decode cX2_count 141 = .ok (.aload_n 0, 1) := dk_42 (dk_at dksX2_count_4 18 rfl rfl)
theorem dX2_count_142 : decode cX2_count 142 = .ok (.invokevirtual 217, 3) := dk_182 0 217 (dk_at dksX2_count_4 19 rfl rfl)
theorem dX2_count_145 : decode cX2_count 145 = .ok (.ireturn, 1) := dk_172 (dk_at dksX2_count_4 22 rfl rfl)
theorem dX2_count_146 : decode cX2_count 146 = .ok (.aload_n 0, 1) := dk_42 (dk_at dksX2_count_4 23 rfl rfl)
theorem dX2_count_147 : decode cX2_count 147 = .ok (.bipush 10, 2) := dk_16 10 (dk_at dksX2_count_5 0 rfl rfl)
theorem dX2_count_149 : decode cX2_count 149 = .ok (.invokevirtual 230, 3) := dk_182 0 230 (dk_at dksX2_count_5 2 rfl rfl)
theorem dX2_count_152 : decode cX2_count 152 = .ok (.ireturn, 1) := dk_172 (dk_at dksX2_count_5 5 rfl rfl)
theorem dX2_count_153 : decode cX2_count 153 = .ok (.aload_n 0, 1) := dk_42 (dk_at dksX2_count_5 6 rfl rfl)
theorem dX2_count_154 : decode cX2_count 154 = .ok (.getfield 7, 3) := dk_180 0 7 (dk_at dksX2_count_5 7 rfl rfl)
theorem dX2_count_157 : decode cX2_count 157 = .ok (.iconst 1, 1) := dk_4 (dk_at dksX2_count_5 10 rfl rfl)
theorem dX2_count_158 : decode cX2_count 158 = .ok (.iaload, 1) := dk_46 (dk_at dksX2_count_5 11 rfl rfl)
theorem dX2_count_159 : decode cX2_count 159 = .ok (.ireturn, 1) := dk_172 (dk_at dksX2_count_5 12 rfl rfl)
theorem dX2_count_160 : decode cX2_count 160 = .ok (.aload_n 0, 1) := dk_42 (dk_at dksX2_count_5 13 rfl rfl)
theorem dX2_count_161 : decode cX2_count 161 = .ok (.getfield 126, 3) := dk_180 0 126 (dk_at dksX2_count_5 14 rfl rfl)
theorem dX2_count_164 : decode cX2_count 164 = .ok (.ireturn, 1) := dk_172 (dk_at dksX2_count_5 17 rfl rfl)
theorem dX2_count_165 : decode cX2_count 165 = .ok (.aload_n 0, 1) := dk_42 (dk_at dksX2_count_5 18 rfl rfl)
theorem dX2_count_166 : decode cX2_count 166 = .ok (.getfield 43, 3) := dk_180 0 43 (dk_at dksX2_count_5 19 rfl rfl)
theorem dX2_count_169 : decode cX2_count 169 = .ok (.ireturn, 1) := dk_172 (dk_at dksX2_count_5 22 rfl rfl)
theorem dX2_count_170 : decode cX2_count 170 = .ok (.iconst (-1), 1) := dk_2 (dk_at dksX2_count_5 23 rfl rfl)
theorem dX2_count_171 : decode cX2_count 171 = .ok (.ireturn, 1) := dk_172 (dk_at dksX2_count_6 0 rfl rfl)
abbrev cX2_onGround : ByteArray := prog_7_method_68_code
def yX2_onGround : MethodName := ⟨RX2, "onGround", "(Z)I"⟩
def dkwX2_onGround_2 : List UInt8 := [28, 172]
abbrev dktX2_onGround_2 : List UInt8 := dkwX2_onGround_2 ++ []
def dkwX2_onGround_1 : List UInt8 := [153, 0, 11, 42, 29, 182, 0, 211, 153, 0, 7, 4, 167, 0, 4, 3, 96, 61, 132, 3, 1, 167, 255, 215]
abbrev dktX2_onGround_1 : List UInt8 := dkwX2_onGround_1 ++ dktX2_onGround_2
def dkwX2_onGround_0 : List UInt8 := [3, 61, 3, 62, 29, 42, 180, 0, 7, 3, 46, 162, 0, 37, 28, 42, 29, 182, 0, 59, 156, 0, 19, 27]
abbrev dktX2_onGround_0 : List UInt8 := dkwX2_onGround_0 ++ dktX2_onGround_1
theorem dksX2_onGround_0 : cX2_onGround.data.toList.drop 0 = dktX2_onGround_0 := by decide +kernel
theorem dksX2_onGround_1 : cX2_onGround.data.toList.drop 24 = dktX2_onGround_1 := dk_seg dksX2_onGround_0 24 rfl rfl
theorem dksX2_onGround_2 : cX2_onGround.data.toList.drop 48 = dktX2_onGround_2 := dk_seg dksX2_onGround_1 24 rfl rfl
theorem dX2_onGround_0 : decode cX2_onGround 0 = .ok (.iconst 0, 1) := dk_3 (dk_at dksX2_onGround_0 0 rfl rfl)
theorem dX2_onGround_1 : decode cX2_onGround 1 = .ok (.istore_n 2, 1) := dk_61 (dk_at dksX2_onGround_0 1 rfl rfl)
theorem dX2_onGround_2 : decode cX2_onGround 2 = .ok (.iconst 0, 1) := dk_3 (dk_at dksX2_onGround_0 2 rfl rfl)
theorem dX2_onGround_3 : decode cX2_onGround 3 = .ok (.istore_n 3, 1) := dk_62 (dk_at dksX2_onGround_0 3 rfl rfl)
theorem dX2_onGround_4 : decode cX2_onGround 4 = .ok (.iload_n 3, 1) := dk_29 (dk_at dksX2_onGround_0 4 rfl rfl)
theorem dX2_onGround_5 : decode cX2_onGround 5 = .ok (.aload_n 0, 1) := dk_42 (dk_at dksX2_onGround_0 5 rfl rfl)
theorem dX2_onGround_6 : decode cX2_onGround 6 = .ok (.getfield 7, 3) := dk_180 0 7 (dk_at dksX2_onGround_0 6 rfl rfl)
theorem dX2_onGround_9 : decode cX2_onGround 9 = .ok (.iconst 0, 1) := dk_3 (dk_at dksX2_onGround_0 9 rfl rfl)
theorem dX2_onGround_10 : decode cX2_onGround 10 = .ok (.iaload, 1) := dk_46 (dk_at dksX2_onGround_0 10 rfl rfl)
theorem dX2_onGround_11 : decode cX2_onGround 11 = .ok (.if_icmp .ge 37, 3) := dk_162 0 37 (dk_at dksX2_onGround_0 11 rfl rfl)
theorem dX2_onGround_14 : decode cX2_onGround 14 = .ok (.iload_n 2, 1) := dk_28 (dk_at dksX2_onGround_0 14 rfl rfl)
theorem dX2_onGround_15 : decode cX2_onGround 15 = .ok (.aload_n 0, 1) := dk_42 (dk_at dksX2_onGround_0 15 rfl rfl)
theorem dX2_onGround_16 : decode cX2_onGround 16 = .ok (.iload_n 3, 1) := dk_29 (dk_at dksX2_onGround_0 16 rfl rfl)
theorem dX2_onGround_17 : decode cX2_onGround 17 = .ok (.invokevirtual 59, 3) := dk_182 0 59 (dk_at dksX2_onGround_0 17 rfl rfl)
theorem dX2_onGround_20 : decode cX2_onGround 20 = .ok (.ifCond .ge 19, 3) := dk_156 0 19 (dk_at dksX2_onGround_0 20 rfl rfl)
theorem dX2_onGround_23 : decode cX2_onGround 23 = .ok (.iload_n 1, 1) := dk_27 (dk_at dksX2_onGround_0 23 rfl rfl)
theorem dX2_onGround_24 : decode cX2_onGround 24 = .ok (.ifCond .eq 11, 3) := dk_153 0 11 (dk_at dksX2_onGround_1 0 rfl rfl)
theorem dX2_onGround_27 : decode cX2_onGround 27 = .ok (.aload_n 0, 1) := dk_42 (dk_at dksX2_onGround_1 3 rfl rfl)
theorem dX2_onGround_28 : decode cX2_onGround 28 = .ok (.iload_n 3, 1) := dk_29 (dk_at dksX2_onGround_1 4 rfl rfl)
theorem dX2_onGround_29 : decode cX2_onGround 29 = .ok (.invokevirtual 211, 3) := dk_182 0 211 (dk_at dksX2_onGround_1 5 rfl rfl)
theorem dX2_onGround_32 : decode cX2_onGround 32 = .ok (.ifCond .eq 7, 3) := dk_153 0 7 (dk_at dksX2_onGround_1 8 rfl rfl)
theorem dX2_onGround_35 : decode cX2_onGround 35 = .ok (.iconst 1, 1) := dk_4 (dk_at dksX2_onGround_1 11 rfl rfl)
theorem dX2_onGround_36 : decode cX2_onGround 36 = .ok (.goto 4, 3) := dk_167 0 4 (dk_at dksX2_onGround_1 12 rfl rfl)
theorem dX2_onGround_39 : decode cX2_onGround 39 = .ok (.iconst 0, 1) := dk_3 (dk_at dksX2_onGround_1 15 rfl rfl)
theorem dX2_onGround_40 : decode cX2_onGround 40 = .ok (.iadd, 1) := dk_96 (dk_at dksX2_onGround_1 16 rfl rfl)
theorem dX2_onGround_41 : decode cX2_onGround 41 = .ok (.istore_n 2, 1) := dk_61 (dk_at dksX2_onGround_1 17 rfl rfl)
theorem dX2_onGround_42 : decode cX2_onGround 42 = .ok (.iinc 3 1, 3) := dk_132 3 1 (dk_at dksX2_onGround_1 18 rfl rfl)
theorem dX2_onGround_45 : decode cX2_onGround 45 = .ok (.goto (-41), 3) := dk_167 255 215 (dk_at dksX2_onGround_1 21 rfl rfl)
theorem dX2_onGround_48 : decode cX2_onGround 48 = .ok (.iload_n 2, 1) := dk_28 (dk_at dksX2_onGround_2 0 rfl rfl)
theorem dX2_onGround_49 : decode cX2_onGround 49 = .ok (.ireturn, 1) := dk_172 (dk_at dksX2_onGround_2 1 rfl rfl)
abbrev cX2_deepest : ByteArray := prog_7_method_67_code
def yX2_deepest : MethodName := ⟨RX2, "deepest", "()I"⟩
def dkwX2_deepest_1 : List UInt8 := [28, 182, 0, 80, 167, 0, 4, 27, 60, 132, 2, 1, 167, 255, 224, 27, 172]
abbrev dktX2_deepest_1 : List UInt8 := dkwX2_deepest_1 ++ []
def dkwX2_deepest_0 : List UInt8 := [3, 60, 3, 61, 28, 42, 180, 0, 7, 3, 46, 162, 0, 28, 42, 28, 182, 0, 80, 27, 164, 0, 11, 42]
abbrev dktX2_deepest_0 : List UInt8 := dkwX2_deepest_0 ++ dktX2_deepest_1
theorem dksX2_deepest_0 : cX2_deepest.data.toList.drop 0 = dktX2_deepest_0 := by decide +kernel
theorem dksX2_deepest_1 : cX2_deepest.data.toList.drop 24 = dktX2_deepest_1 := dk_seg dksX2_deepest_0 24 rfl rfl
theorem dX2_deepest_0 : decode cX2_deepest 0 = .ok (.iconst 0, 1) := dk_3 (dk_at dksX2_deepest_0 0 rfl rfl)
theorem dX2_deepest_1 : decode cX2_deepest 1 = .ok (.istore_n 1, 1) := dk_60 (dk_at dksX2_deepest_0 1 rfl rfl)
theorem dX2_deepest_2 : decode cX2_deepest 2 = .ok (.iconst 0, 1) := dk_3 (dk_at dksX2_deepest_0 2 rfl rfl)
theorem dX2_deepest_3 : decode cX2_deepest 3 = .ok (.istore_n 2, 1) := dk_61 (dk_at dksX2_deepest_0 3 rfl rfl)
theorem dX2_deepest_4 : decode cX2_deepest 4 = .ok (.iload_n 2, 1) := dk_28 (dk_at dksX2_deepest_0 4 rfl rfl)
theorem dX2_deepest_5 : decode cX2_deepest 5 = .ok (.aload_n 0, 1) := dk_42 (dk_at dksX2_deepest_0 5 rfl rfl)
theorem dX2_deepest_6 : decode cX2_deepest 6 = .ok (.getfield 7, 3) := dk_180 0 7 (dk_at dksX2_deepest_0 6 rfl rfl)
theorem dX2_deepest_9 : decode cX2_deepest 9 = .ok (.iconst 0, 1) := dk_3 (dk_at dksX2_deepest_0 9 rfl rfl)
theorem dX2_deepest_10 : decode cX2_deepest 10 = .ok (.iaload, 1) := dk_46 (dk_at dksX2_deepest_0 10 rfl rfl)
theorem dX2_deepest_11 : decode cX2_deepest 11 = .ok (.if_icmp .ge 28, 3) := dk_162 0 28 (dk_at dksX2_deepest_0 11 rfl rfl)
theorem dX2_deepest_14 : decode cX2_deepest 14 = .ok (.aload_n 0, 1) := dk_42 (dk_at dksX2_deepest_0 14 rfl rfl)
theorem dX2_deepest_15 : decode cX2_deepest 15 = .ok (.iload_n 2, 1) := dk_28 (dk_at dksX2_deepest_0 15 rfl rfl)
theorem dX2_deepest_16 : decode cX2_deepest 16 = .ok (.invokevirtual 80, 3) := dk_182 0 80 (dk_at dksX2_deepest_0 16 rfl rfl)
theorem dX2_deepest_19 : decode cX2_deepest 19 = .ok (.iload_n 1, 1) := dk_27 (dk_at dksX2_deepest_0 19 rfl rfl)
theorem dX2_deepest_20 : decode cX2_deepest 20 = .ok (.if_icmp .le 11, 3) := dk_164 0 11 (dk_at dksX2_deepest_0 20 rfl rfl)
theorem dX2_deepest_23 : decode cX2_deepest 23 = .ok (.aload_n 0, 1) := dk_42 (dk_at dksX2_deepest_0 23 rfl rfl)
theorem dX2_deepest_24 : decode cX2_deepest 24 = .ok (.iload_n 2, 1) := dk_28 (dk_at dksX2_deepest_1 0 rfl rfl)
theorem dX2_deepest_25 : decode cX2_deepest 25 = .ok (.invokevirtual 80, 3) := dk_182 0 80 (dk_at dksX2_deepest_1 1 rfl rfl)
theorem dX2_deepest_28 : decode cX2_deepest 28 = .ok (.goto 4, 3) := dk_167 0 4 (dk_at dksX2_deepest_1 4 rfl rfl)
theorem dX2_deepest_31 : decode cX2_deepest 31 = .ok (.iload_n 1, 1) := dk_27 (dk_at dksX2_deepest_1 7 rfl rfl)
theorem dX2_deepest_32 : decode cX2_deepest 32 = .ok (.istore_n 1, 1) := dk_60 (dk_at dksX2_deepest_1 8 rfl rfl)
theorem dX2_deepest_33 : decode cX2_deepest 33 = .ok (.iinc 2 1, 3) := dk_132 2 1 (dk_at dksX2_deepest_1 9 rfl rfl)
theorem dX2_deepest_36 : decode cX2_deepest 36 = .ok (.goto (-32), 3) := dk_167 255 224 (dk_at dksX2_deepest_1 12 rfl rfl)
theorem dX2_deepest_39 : decode cX2_deepest 39 = .ok (.iload_n 1, 1) := dk_27 (dk_at dksX2_deepest_1 15 rfl rfl)
theorem dX2_deepest_40 : decode cX2_deepest 40 = .ok (.ireturn, 1) := dk_172 (dk_at dksX2_deepest_1 16 rfl rfl)
abbrev cX2_sum : ByteArray := prog_7_method_66_code
def yX2_sum : MethodName := ⟨RX2, "sum", "(I)I"⟩
def dkwX2_sum_1 : List UInt8 := [132, 3, 1, 167, 255, 234, 28, 172]
abbrev dktX2_sum_1 : List UInt8 := dkwX2_sum_1 ++ []
def dkwX2_sum_0 : List UInt8 := [3, 61, 3, 62, 29, 42, 180, 0, 7, 3, 46, 162, 0, 18, 28, 42, 29, 27, 182, 0, 220, 96, 61]
abbrev dktX2_sum_0 : List UInt8 := dkwX2_sum_0 ++ dktX2_sum_1
theorem dksX2_sum_0 : cX2_sum.data.toList.drop 0 = dktX2_sum_0 := by decide +kernel
theorem dksX2_sum_1 : cX2_sum.data.toList.drop 23 = dktX2_sum_1 := dk_seg dksX2_sum_0 23 rfl rfl
theorem dX2_sum_0 : decode cX2_sum 0 = .ok (.iconst 0, 1) := dk_3 (dk_at dksX2_sum_0 0 rfl rfl)
theorem dX2_sum_1 : decode cX2_sum 1 = .ok (.istore_n 2, 1) := dk_61 (dk_at dksX2_sum_0 1 rfl rfl)
theorem dX2_sum_2 : decode cX2_sum 2 = .ok (.iconst 0, 1) := dk_3 (dk_at dksX2_sum_0 2 rfl rfl)
theorem dX2_sum_3 : decode cX2_sum 3 = .ok (.istore_n 3, 1) := dk_62 (dk_at dksX2_sum_0 3 rfl rfl)
theorem dX2_sum_4 : decode cX2_sum 4 = .ok (.iload_n 3, 1) := dk_29 (dk_at dksX2_sum_0 4 rfl rfl)
theorem dX2_sum_5 : decode cX2_sum 5 = .ok (.aload_n 0, 1) := dk_42 (dk_at dksX2_sum_0 5 rfl rfl)
theorem dX2_sum_6 : decode cX2_sum 6 = .ok (.getfield 7, 3) := dk_180 0 7 (dk_at dksX2_sum_0 6 rfl rfl)
theorem dX2_sum_9 : decode cX2_sum 9 = .ok (.iconst 0, 1) := dk_3 (dk_at dksX2_sum_0 9 rfl rfl)
theorem dX2_sum_10 : decode cX2_sum 10 = .ok (.iaload, 1) := dk_46 (dk_at dksX2_sum_0 10 rfl rfl)
theorem dX2_sum_11 : decode cX2_sum 11 = .ok (.if_icmp .ge 18, 3) := dk_162 0 18 (dk_at dksX2_sum_0 11 rfl rfl)
theorem dX2_sum_14 : decode cX2_sum 14 = .ok (.iload_n 2, 1) := dk_28 (dk_at dksX2_sum_0 14 rfl rfl)
theorem dX2_sum_15 : decode cX2_sum 15 = .ok (.aload_n 0, 1) := dk_42 (dk_at dksX2_sum_0 15 rfl rfl)
theorem dX2_sum_16 : decode cX2_sum 16 = .ok (.iload_n 3, 1) := dk_29 (dk_at dksX2_sum_0 16 rfl rfl)
theorem dX2_sum_17 : decode cX2_sum 17 = .ok (.iload_n 1, 1) := dk_27 (dk_at dksX2_sum_0 17 rfl rfl)
theorem dX2_sum_18 : decode cX2_sum 18 = .ok (.invokevirtual 220, 3) := dk_182 0 220 (dk_at dksX2_sum_0 18 rfl rfl)
theorem dX2_sum_21 : decode cX2_sum 21 = .ok (.iadd, 1) := dk_96 (dk_at dksX2_sum_0 21 rfl rfl)
theorem dX2_sum_22 : decode cX2_sum 22 = .ok (.istore_n 2, 1) := dk_61 (dk_at dksX2_sum_0 22 rfl rfl)
theorem dX2_sum_23 : decode cX2_sum 23 = .ok (.iinc 3 1, 3) := dk_132 3 1 (dk_at dksX2_sum_1 0 rfl rfl)
theorem dX2_sum_26 : decode cX2_sum 26 = .ok (.goto (-22), 3) := dk_167 255 234 (dk_at dksX2_sum_1 3 rfl rfl)
theorem dX2_sum_29 : decode cX2_sum 29 = .ok (.iload_n 2, 1) := dk_28 (dk_at dksX2_sum_1 6 rfl rfl)
theorem dX2_sum_30 : decode cX2_sum 30 = .ok (.ireturn, 1) := dk_172 (dk_at dksX2_sum_1 7 rfl rfl)
abbrev cX2_rowsSeen : ByteArray := prog_7_method_69_code
def yX2_rowsSeen : MethodName := ⟨RX2, "rowsSeen", "()I"⟩
def dkwX2_rowsSeen_3 : List UInt8 := [132, 2, 1, 167, 255, 190, 27, 172]
abbrev dktX2_rowsSeen_3 : List UInt8 := dkwX2_rowsSeen_3 ++ []
def dkwX2_rowsSeen_2 : List UInt8 := [167, 0, 4, 3, 62, 132, 4, 1, 167, 255, 223, 27, 29, 153, 0, 7, 4, 167, 0, 4, 3, 96, 60]
abbrev dktX2_rowsSeen_2 : List UInt8 := dkwX2_rowsSeen_2 ++ dktX2_rowsSeen_3
def dkwX2_rowsSeen_1 : List UInt8 := [162, 0, 33, 29, 153, 0, 21, 42, 21, 4, 182, 0, 83, 42, 28, 182, 0, 83, 159, 0, 7, 4]
abbrev dktX2_rowsSeen_1 : List UInt8 := dkwX2_rowsSeen_1 ++ dktX2_rowsSeen_2
def dkwX2_rowsSeen_0 : List UInt8 := [3, 60, 3, 61, 28, 42, 180, 0, 7, 3, 46, 162, 0, 62, 4, 62, 3, 54, 4, 21, 4, 28]
abbrev dktX2_rowsSeen_0 : List UInt8 := dkwX2_rowsSeen_0 ++ dktX2_rowsSeen_1
theorem dksX2_rowsSeen_0 : cX2_rowsSeen.data.toList.drop 0 = dktX2_rowsSeen_0 := by decide +kernel
theorem dksX2_rowsSeen_1 : cX2_rowsSeen.data.toList.drop 22 = dktX2_rowsSeen_1 := dk_seg dksX2_rowsSeen_0 22 rfl rfl
theorem dksX2_rowsSeen_2 : cX2_rowsSeen.data.toList.drop 44 = dktX2_rowsSeen_2 := dk_seg dksX2_rowsSeen_1 22 rfl rfl
theorem dksX2_rowsSeen_3 : cX2_rowsSeen.data.toList.drop 67 = dktX2_rowsSeen_3 := dk_seg dksX2_rowsSeen_2 23 rfl rfl
theorem dX2_rowsSeen_0 : decode cX2_rowsSeen 0 = .ok (.iconst 0, 1) := dk_3 (dk_at dksX2_rowsSeen_0 0 rfl rfl)
theorem dX2_rowsSeen_1 : decode cX2_rowsSeen 1 = .ok (.istore_n 1, 1) := dk_60 (dk_at dksX2_rowsSeen_0 1 rfl rfl)
theorem dX2_rowsSeen_2 : decode cX2_rowsSeen 2 = .ok (.iconst 0, 1) := dk_3 (dk_at dksX2_rowsSeen_0 2 rfl rfl)
theorem dX2_rowsSeen_3 : decode cX2_rowsSeen 3 = .ok (.istore_n 2, 1) := dk_61 (dk_at dksX2_rowsSeen_0 3 rfl rfl)
theorem dX2_rowsSeen_4 : decode cX2_rowsSeen 4 = .ok (.iload_n 2, 1) := dk_28 (dk_at dksX2_rowsSeen_0 4 rfl rfl)
theorem dX2_rowsSeen_5 : decode cX2_rowsSeen 5 = .ok (.aload_n 0, 1) := dk_42 (dk_at dksX2_rowsSeen_0 5 rfl rfl)
theorem dX2_rowsSeen_6 : decode cX2_rowsSeen 6 = .ok (.getfield 7, 3) := dk_180 0 7 (dk_at dksX2_rowsSeen_0 6 rfl rfl)
theorem dX2_rowsSeen_9 : decode cX2_rowsSeen 9 = .ok (.iconst 0, 1) := dk_3 (dk_at dksX2_rowsSeen_0 9 rfl rfl)
theorem dX2_rowsSeen_10 : decode cX2_rowsSeen 10 = .ok (.iaload, 1) := dk_46 (dk_at dksX2_rowsSeen_0 10 rfl rfl)
theorem dX2_rowsSeen_11 : decode cX2_rowsSeen 11 = .ok (.if_icmp .ge 62, 3) := dk_162 0 62 (dk_at dksX2_rowsSeen_0 11 rfl rfl)
theorem dX2_rowsSeen_14 : decode cX2_rowsSeen 14 = .ok (.iconst 1, 1) := dk_4 (dk_at dksX2_rowsSeen_0 14 rfl rfl)
theorem dX2_rowsSeen_15 : decode cX2_rowsSeen 15 = .ok (.istore_n 3, 1) := dk_62 (dk_at dksX2_rowsSeen_0 15 rfl rfl)
theorem dX2_rowsSeen_16 : decode cX2_rowsSeen 16 = .ok (.iconst 0, 1) := dk_3 (dk_at dksX2_rowsSeen_0 16 rfl rfl)
theorem dX2_rowsSeen_17 : decode cX2_rowsSeen 17 = .ok (.istore 4, 2) := dk_54 4 (dk_at dksX2_rowsSeen_0 17 rfl rfl)
theorem dX2_rowsSeen_19 : decode cX2_rowsSeen 19 = .ok (.iload 4, 2) := dk_21 4 (dk_at dksX2_rowsSeen_0 19 rfl rfl)
theorem dX2_rowsSeen_21 : decode cX2_rowsSeen 21 = .ok (.iload_n 2, 1) := dk_28 (dk_at dksX2_rowsSeen_0 21 rfl rfl)
theorem dX2_rowsSeen_22 : decode cX2_rowsSeen 22 = .ok (.if_icmp .ge 33, 3) := dk_162 0 33 (dk_at dksX2_rowsSeen_1 0 rfl rfl)
theorem dX2_rowsSeen_25 : decode cX2_rowsSeen 25 = .ok (.iload_n 3, 1) := dk_29 (dk_at dksX2_rowsSeen_1 3 rfl rfl)
theorem dX2_rowsSeen_26 : decode cX2_rowsSeen 26 = .ok (.ifCond .eq 21, 3) := dk_153 0 21 (dk_at dksX2_rowsSeen_1 4 rfl rfl)
theorem dX2_rowsSeen_29 : decode cX2_rowsSeen 29 = .ok (.aload_n 0, 1) := dk_42 (dk_at dksX2_rowsSeen_1 7 rfl rfl)
theorem dX2_rowsSeen_30 : decode cX2_rowsSeen 30 = .ok (.iload 4, 2) := dk_21 4 (dk_at dksX2_rowsSeen_1 8 rfl rfl)
theorem dX2_rowsSeen_32 : decode cX2_rowsSeen 32 = .ok (.invokevirtual 83, 3) := dk_182 0 83 (dk_at dksX2_rowsSeen_1 10 rfl rfl)
theorem dX2_rowsSeen_35 : decode cX2_rowsSeen 35 = .ok (.aload_n 0, 1) := dk_42 (dk_at dksX2_rowsSeen_1 13 rfl rfl)
theorem dX2_rowsSeen_36 : decode cX2_rowsSeen 36 = .ok (.iload_n 2, 1) := dk_28 (dk_at dksX2_rowsSeen_1 14 rfl rfl)
theorem dX2_rowsSeen_37 : decode cX2_rowsSeen 37 = .ok (.invokevirtual 83, 3) := dk_182 0 83 (dk_at dksX2_rowsSeen_1 15 rfl rfl)
theorem dX2_rowsSeen_40 : decode cX2_rowsSeen 40 = .ok (.if_icmp .eq 7, 3) := dk_159 0 7 (dk_at dksX2_rowsSeen_1 18 rfl rfl)
theorem dX2_rowsSeen_43 : decode cX2_rowsSeen 43 = .ok (.iconst 1, 1) := dk_4 (dk_at dksX2_rowsSeen_1 21 rfl rfl)
theorem dX2_rowsSeen_44 : decode cX2_rowsSeen 44 = .ok (.goto 4, 3) := dk_167 0 4 (dk_at dksX2_rowsSeen_2 0 rfl rfl)
theorem dX2_rowsSeen_47 : decode cX2_rowsSeen 47 = .ok (.iconst 0, 1) := dk_3 (dk_at dksX2_rowsSeen_2 3 rfl rfl)
theorem dX2_rowsSeen_48 : decode cX2_rowsSeen 48 = .ok (.istore_n 3, 1) := dk_62 (dk_at dksX2_rowsSeen_2 4 rfl rfl)
theorem dX2_rowsSeen_49 : decode cX2_rowsSeen 49 = .ok (.iinc 4 1, 3) := dk_132 4 1 (dk_at dksX2_rowsSeen_2 5 rfl rfl)
theorem dX2_rowsSeen_52 : decode cX2_rowsSeen 52 = .ok (.goto (-33), 3) := dk_167 255 223 (dk_at dksX2_rowsSeen_2 8 rfl rfl)
theorem dX2_rowsSeen_55 : decode cX2_rowsSeen 55 = .ok (.iload_n 1, 1) := dk_27 (dk_at dksX2_rowsSeen_2 11 rfl rfl)
theorem dX2_rowsSeen_56 : decode cX2_rowsSeen 56 = .ok (.iload_n 3, 1) := dk_29 (dk_at dksX2_rowsSeen_2 12 rfl rfl)
theorem dX2_rowsSeen_57 : decode cX2_rowsSeen 57 = .ok (.ifCond .eq 7, 3) := dk_153 0 7 (dk_at dksX2_rowsSeen_2 13 rfl rfl)
theorem dX2_rowsSeen_60 : decode cX2_rowsSeen 60 = .ok (.iconst 1, 1) := dk_4 (dk_at dksX2_rowsSeen_2 16 rfl rfl)
theorem dX2_rowsSeen_61 : decode cX2_rowsSeen 61 = .ok (.goto 4, 3) := dk_167 0 4 (dk_at dksX2_rowsSeen_2 17 rfl rfl)
theorem dX2_rowsSeen_64 : decode cX2_rowsSeen 64 = .ok (.iconst 0, 1) := dk_3 (dk_at dksX2_rowsSeen_2 20 rfl rfl)
theorem dX2_rowsSeen_65 : decode cX2_rowsSeen 65 = .ok (.iadd, 1) := dk_96 (dk_at dksX2_rowsSeen_2 21 rfl rfl)
theorem dX2_rowsSeen_66 : decode cX2_rowsSeen 66 = .ok (.istore_n 1, 1) := dk_60 (dk_at dksX2_rowsSeen_2 22 rfl rfl)
theorem dX2_rowsSeen_67 : decode cX2_rowsSeen 67 = .ok (.iinc 2 1, 3) := dk_132 2 1 (dk_at dksX2_rowsSeen_3 0 rfl rfl)
theorem dX2_rowsSeen_70 : decode cX2_rowsSeen 70 = .ok (.goto (-66), 3) := dk_167 255 190 (dk_at dksX2_rowsSeen_3 3 rfl rfl)
theorem dX2_rowsSeen_73 : decode cX2_rowsSeen 73 = .ok (.iload_n 1, 1) := dk_27 (dk_at dksX2_rowsSeen_3 6 rfl rfl)
theorem dX2_rowsSeen_74 : decode cX2_rowsSeen 74 = .ok (.ireturn, 1) := dk_172 (dk_at dksX2_rowsSeen_3 7 rfl rfl)
abbrev cX2_full : ByteArray := prog_7_method_71_code
def yX2_full : MethodName := ⟨RX2, "full", "()D"⟩
def dkwX2_full_1 : List UInt8 := [135, 111, 175]
abbrev dktX2_full_1 : List UInt8 := dkwX2_full_1 ++ []
def dkwX2_full_0 : List UInt8 := [42, 4, 182, 0, 230, 60, 27, 154, 0, 7, 14, 167, 0, 15, 27, 42, 16, 8, 182, 0, 230, 100, 135, 27]
abbrev dktX2_full_0 : List UInt8 := dkwX2_full_0 ++ dktX2_full_1
theorem dksX2_full_0 : cX2_full.data.toList.drop 0 = dktX2_full_0 := by decide +kernel
theorem dksX2_full_1 : cX2_full.data.toList.drop 24 = dktX2_full_1 := dk_seg dksX2_full_0 24 rfl rfl
theorem dX2_full_0 : decode cX2_full 0 = .ok (.aload_n 0, 1) := dk_42 (dk_at dksX2_full_0 0 rfl rfl)
theorem dX2_full_1 : decode cX2_full 1 = .ok (.iconst 1, 1) := dk_4 (dk_at dksX2_full_0 1 rfl rfl)
theorem dX2_full_2 : decode cX2_full 2 = .ok (.invokevirtual 230, 3) := dk_182 0 230 (dk_at dksX2_full_0 2 rfl rfl)
theorem dX2_full_5 : decode cX2_full 5 = .ok (.istore_n 1, 1) := dk_60 (dk_at dksX2_full_0 5 rfl rfl)
theorem dX2_full_6 : decode cX2_full 6 = .ok (.iload_n 1, 1) := dk_27 (dk_at dksX2_full_0 6 rfl rfl)
theorem dX2_full_7 : decode cX2_full 7 = .ok (.ifCond .ne 7, 3) := dk_154 0 7 (dk_at dksX2_full_0 7 rfl rfl)
theorem dX2_full_10 : decode cX2_full 10 = .ok (.dconst 0, 1) := dk_14 (dk_at dksX2_full_0 10 rfl rfl)
theorem dX2_full_11 : decode cX2_full 11 = .ok (.goto 15, 3) := dk_167 0 15 (dk_at dksX2_full_0 11 rfl rfl)
theorem dX2_full_14 : decode cX2_full 14 = .ok (.iload_n 1, 1) := dk_27 (dk_at dksX2_full_0 14 rfl rfl)
theorem dX2_full_15 : decode cX2_full 15 = .ok (.aload_n 0, 1) := dk_42 (dk_at dksX2_full_0 15 rfl rfl)
theorem dX2_full_16 : decode cX2_full 16 = .ok (.bipush 8, 2) := dk_16 8 (dk_at dksX2_full_0 16 rfl rfl)
theorem dX2_full_18 : decode cX2_full 18 = .ok (.invokevirtual 230, 3) := dk_182 0 230 (dk_at dksX2_full_0 18 rfl rfl)
theorem dX2_full_21 : decode cX2_full 21 = .ok (.isub, 1) := dk_100 (dk_at dksX2_full_0 21 rfl rfl)
theorem dX2_full_22 : decode cX2_full 22 = .ok (.i2d, 1) := dk_135 (dk_at dksX2_full_0 22 rfl rfl)
theorem dX2_full_23 : decode cX2_full 23 = .ok (.iload_n 1, 1) := dk_27 (dk_at dksX2_full_0 23 rfl rfl)
theorem dX2_full_24 : decode cX2_full 24 = .ok (.i2d, 1) := dk_135 (dk_at dksX2_full_1 0 rfl rfl)
theorem dX2_full_25 : decode cX2_full 25 = .ok (.ddiv, 1) := dk_111 (dk_at dksX2_full_1 1 rfl rfl)
theorem dX2_full_26 : decode cX2_full 26 = .ok (.dreturn, 1) := dk_175 (dk_at dksX2_full_1 2 rfl rfl)
abbrev cX2_ifTurned : ByteArray := prog_7_method_72_code
def yX2_ifTurned : MethodName := ⟨RX2, "ifTurned", "(II)I"⟩
def dkwX2_ifTurned_2 : List UInt8 := [16, 11, 182, 0, 230, 54, 4, 42, 27, 5, 29, 182, 0, 93, 21, 4, 172]
abbrev dktX2_ifTurned_2 : List UInt8 := dkwX2_ifTurned_2 ++ []
def dkwX2_ifTurned_1 : List UInt8 := [182, 0, 55, 62, 42, 27, 5, 29, 184, 0, 120, 182, 0, 93, 42, 28, 154, 0, 8, 16, 12, 167, 0, 5]
abbrev dktX2_ifTurned_1 : List UInt8 := dkwX2_ifTurned_1 ++ dktX2_ifTurned_2
def dkwX2_ifTurned_0 : List UInt8 := [42, 27, 182, 0, 108, 153, 0, 12, 28, 3, 4, 184, 0, 51, 154, 0, 5, 2, 172, 42, 27, 5]
abbrev dktX2_ifTurned_0 : List UInt8 := dkwX2_ifTurned_0 ++ dktX2_ifTurned_1
theorem dksX2_ifTurned_0 : cX2_ifTurned.data.toList.drop 0 = dktX2_ifTurned_0 := by decide +kernel
theorem dksX2_ifTurned_1 : cX2_ifTurned.data.toList.drop 22 = dktX2_ifTurned_1 := dk_seg dksX2_ifTurned_0 22 rfl rfl
theorem dksX2_ifTurned_2 : cX2_ifTurned.data.toList.drop 46 = dktX2_ifTurned_2 := dk_seg dksX2_ifTurned_1 24 rfl rfl
theorem dX2_ifTurned_0 : decode cX2_ifTurned 0 = .ok (.aload_n 0, 1) := dk_42 (dk_at dksX2_ifTurned_0 0 rfl rfl)
theorem dX2_ifTurned_1 : decode cX2_ifTurned 1 = .ok (.iload_n 1, 1) := dk_27 (dk_at dksX2_ifTurned_0 1 rfl rfl)
theorem dX2_ifTurned_2 : decode cX2_ifTurned 2 = .ok (.invokevirtual 108, 3) := dk_182 0 108 (dk_at dksX2_ifTurned_0 2 rfl rfl)
theorem dX2_ifTurned_5 : decode cX2_ifTurned 5 = .ok (.ifCond .eq 12, 3) := dk_153 0 12 (dk_at dksX2_ifTurned_0 5 rfl rfl)
theorem dX2_ifTurned_8 : decode cX2_ifTurned 8 = .ok (.iload_n 2, 1) := dk_28 (dk_at dksX2_ifTurned_0 8 rfl rfl)
theorem dX2_ifTurned_9 : decode cX2_ifTurned 9 = .ok (.iconst 0, 1) := dk_3 (dk_at dksX2_ifTurned_0 9 rfl rfl)
theorem dX2_ifTurned_10 : decode cX2_ifTurned 10 = .ok (.iconst 1, 1) := dk_4 (dk_at dksX2_ifTurned_0 10 rfl rfl)
theorem dX2_ifTurned_11 : decode cX2_ifTurned 11 = .ok (.invokestatic 51, 3) := dk_184 0 51 (dk_at dksX2_ifTurned_0 11 rfl rfl)
theorem dX2_ifTurned_14 : decode cX2_ifTurned 14 = .ok (.ifCond .ne 5, 3) := dk_154 0 5 (dk_at dksX2_ifTurned_0 14 rfl rfl)
theorem dX2_ifTurned_17 : decode cX2_ifTurned 17 = .ok (.iconst (-1), 1) := dk_2 (dk_at dksX2_ifTurned_0 17 rfl rfl)
theorem dX2_ifTurned_18 : decode cX2_ifTurned 18 = .ok (.ireturn, 1) := dk_172 (dk_at dksX2_ifTurned_0 18 rfl rfl)
theorem dX2_ifTurned_19 : decode cX2_ifTurned 19 = .ok (.aload_n 0, 1) := dk_42 (dk_at dksX2_ifTurned_0 19 rfl rfl)
theorem dX2_ifTurned_20 : decode cX2_ifTurned 20 = .ok (.iload_n 1, 1) := dk_27 (dk_at dksX2_ifTurned_0 20 rfl rfl)
theorem dX2_ifTurned_21 : decode cX2_ifTurned 21 = .ok (.iconst 2, 1) := dk_5 (dk_at dksX2_ifTurned_0 21 rfl rfl)
theorem dX2_ifTurned_22 : decode cX2_ifTurned 22 = .ok (.invokevirtual 55, 3) := dk_182 0 55 (dk_at dksX2_ifTurned_1 0 rfl rfl)
theorem dX2_ifTurned_25 : decode cX2_ifTurned 25 = .ok (.istore_n 3, 1) := dk_62 (dk_at dksX2_ifTurned_1 3 rfl rfl)
theorem dX2_ifTurned_26 : decode cX2_ifTurned 26 = .ok (.aload_n 0, 1) := dk_42 (dk_at dksX2_ifTurned_1 4 rfl rfl)
theorem dX2_ifTurned_27 : decode cX2_ifTurned 27 = .ok (.iload_n 1, 1) := dk_27 (dk_at dksX2_ifTurned_1 5 rfl rfl)
theorem dX2_ifTurned_28 : decode cX2_ifTurned 28 = .ok (.iconst 2, 1) := dk_5 (dk_at dksX2_ifTurned_1 6 rfl rfl)
theorem dX2_ifTurned_29 : decode cX2_ifTurned 29 = .ok (.iload_n 3, 1) := dk_29 (dk_at dksX2_ifTurned_1 7 rfl rfl)
theorem dX2_ifTurned_30 : decode cX2_ifTurned 30 = .ok (.invokestatic 120, 3) := dk_184 0 120 (dk_at dksX2_ifTurned_1 8 rfl rfl)
theorem dX2_ifTurned_33 : decode cX2_ifTurned 33 = .ok (.invokevirtual 93, 3) := dk_182 0 93 (dk_at dksX2_ifTurned_1 11 rfl rfl)
theorem dX2_ifTurned_36 : decode cX2_ifTurned 36 = .ok (.aload_n 0, 1) := dk_42 (dk_at dksX2_ifTurned_1 14 rfl rfl)
theorem dX2_ifTurned_37 : decode cX2_ifTurned 37 = .ok (.iload_n 2, 1) := dk_28 (dk_at dksX2_ifTurned_1 15 rfl rfl)
theorem dX2_ifTurned_38 : decode cX2_ifTurned 38 = .ok (.ifCond .ne 8, 3) := dk_154 0 8 (dk_at dksX2_ifTurned_1 16 rfl rfl)
theorem dX2_ifTurned_41 : decode cX2_ifTurned 41 = .ok (.bipush 12, 2) := dk_16 12 (dk_at dksX2_ifTurned_1 19 rfl rfl)
theorem dX2_ifTurned_43 : decode cX2_ifTurned 43 = .ok (.goto 5, 3) := dk_167 0 5 (dk_at dksX2_ifTurned_1 21 rfl rfl)
theorem dX2_ifTurned_46 : decode cX2_ifTurned 46 = .ok (.bipush 11, 2) := dk_16 11 (dk_at dksX2_ifTurned_2 0 rfl rfl)
theorem dX2_ifTurned_48 : decode cX2_ifTurned 48 = .ok (.invokevirtual 230, 3) := dk_182 0 230 (dk_at dksX2_ifTurned_2 2 rfl rfl)
theorem dX2_ifTurned_51 : decode cX2_ifTurned 51 = .ok (.istore 4, 2) := dk_54 4 (dk_at dksX2_ifTurned_2 5 rfl rfl)
theorem dX2_ifTurned_53 : decode cX2_ifTurned 53 = .ok (.aload_n 0, 1) := dk_42 (dk_at dksX2_ifTurned_2 7 rfl rfl)
theorem dX2_ifTurned_54 : decode cX2_ifTurned 54 = .ok (.iload_n 1, 1) := dk_27 (dk_at dksX2_ifTurned_2 8 rfl rfl)
theorem dX2_ifTurned_55 : decode cX2_ifTurned 55 = .ok (.iconst 2, 1) := dk_5 (dk_at dksX2_ifTurned_2 9 rfl rfl)
theorem dX2_ifTurned_56 : decode cX2_ifTurned 56 = .ok (.iload_n 3, 1) := dk_29 (dk_at dksX2_ifTurned_2 10 rfl rfl)
theorem dX2_ifTurned_57 : decode cX2_ifTurned 57 = .ok (.invokevirtual 93, 3) := dk_182 0 93 (dk_at dksX2_ifTurned_2 11 rfl rfl)
theorem dX2_ifTurned_60 : decode cX2_ifTurned 60 = .ok (.iload 4, 2) := dk_21 4 (dk_at dksX2_ifTurned_2 14 rfl rfl)
theorem dX2_ifTurned_62 : decode cX2_ifTurned 62 = .ok (.ireturn, 1) := dk_172 (dk_at dksX2_ifTurned_2 16 rfl rfl)
abbrev cX2_bestTurn : ByteArray := prog_7_method_73_code
def yX2_bestTurn : MethodName := ⟨RX2, "bestTurn", "()I"⟩
def dkwX2_bestTurn_2 : List UInt8 := [167, 0, 4, 28, 61, 132, 3, 1, 167, 255, 210, 27, 172]
abbrev dktX2_bestTurn_2 : List UInt8 := dkwX2_bestTurn_2 ++ []
def dkwX2_bestTurn_1 : List UInt8 := [54, 4, 21, 4, 28, 164, 0, 7, 29, 167, 0, 4, 27, 60, 21, 4, 28, 164, 0, 8, 21, 4]
abbrev dktX2_bestTurn_1 : List UInt8 := dkwX2_bestTurn_1 ++ dktX2_bestTurn_2
def dkwX2_bestTurn_0 : List UInt8 := [16, 252, 60, 2, 61, 3, 62, 29, 42, 180, 0, 7, 3, 46, 162, 0, 42, 42, 29, 3, 182, 0, 236]
abbrev dktX2_bestTurn_0 : List UInt8 := dkwX2_bestTurn_0 ++ dktX2_bestTurn_1
theorem dksX2_bestTurn_0 : cX2_bestTurn.data.toList.drop 0 = dktX2_bestTurn_0 := by decide +kernel
theorem dksX2_bestTurn_1 : cX2_bestTurn.data.toList.drop 23 = dktX2_bestTurn_1 := dk_seg dksX2_bestTurn_0 23 rfl rfl
theorem dksX2_bestTurn_2 : cX2_bestTurn.data.toList.drop 45 = dktX2_bestTurn_2 := dk_seg dksX2_bestTurn_1 22 rfl rfl
theorem dX2_bestTurn_0 : decode cX2_bestTurn 0 = .ok (.bipush (-4), 2) := dk_16 252 (dk_at dksX2_bestTurn_0 0 rfl rfl)
theorem dX2_bestTurn_2 : decode cX2_bestTurn 2 = .ok (.istore_n 1, 1) := dk_60 (dk_at dksX2_bestTurn_0 2 rfl rfl)
theorem dX2_bestTurn_3 : decode cX2_bestTurn 3 = .ok (.iconst (-1), 1) := dk_2 (dk_at dksX2_bestTurn_0 3 rfl rfl)
theorem dX2_bestTurn_4 : decode cX2_bestTurn 4 = .ok (.istore_n 2, 1) := dk_61 (dk_at dksX2_bestTurn_0 4 rfl rfl)
theorem dX2_bestTurn_5 : decode cX2_bestTurn 5 = .ok (.iconst 0, 1) := dk_3 (dk_at dksX2_bestTurn_0 5 rfl rfl)
theorem dX2_bestTurn_6 : decode cX2_bestTurn 6 = .ok (.istore_n 3, 1) := dk_62 (dk_at dksX2_bestTurn_0 6 rfl rfl)
theorem dX2_bestTurn_7 : decode cX2_bestTurn 7 = .ok (.iload_n 3, 1) := dk_29 (dk_at dksX2_bestTurn_0 7 rfl rfl)
theorem dX2_bestTurn_8 : decode cX2_bestTurn 8 = .ok (.aload_n 0, 1) := dk_42 (dk_at dksX2_bestTurn_0 8 rfl rfl)
theorem dX2_bestTurn_9 : decode cX2_bestTurn 9 = .ok (.getfield 7, 3) := dk_180 0 7 (dk_at dksX2_bestTurn_0 9 rfl rfl)
theorem dX2_bestTurn_12 : decode cX2_bestTurn 12 = .ok (.iconst 0, 1) := dk_3 (dk_at dksX2_bestTurn_0 12 rfl rfl)
theorem dX2_bestTurn_13 : decode cX2_bestTurn 13 = .ok (.iaload, 1) := dk_46 (dk_at dksX2_bestTurn_0 13 rfl rfl)
theorem dX2_bestTurn_14 : decode cX2_bestTurn 14 = .ok (.if_icmp .ge 42, 3) := dk_162 0 42 (dk_at dksX2_bestTurn_0 14 rfl rfl)
theorem dX2_bestTurn_17 : decode cX2_bestTurn 17 = .ok (.aload_n 0, 1) := dk_42 (dk_at dksX2_bestTurn_0 17 rfl rfl)
theorem dX2_bestTurn_18 : decode cX2_bestTurn 18 = .ok (.iload_n 3, 1) := dk_29 (dk_at dksX2_bestTurn_0 18 rfl rfl)
theorem dX2_bestTurn_19 : decode cX2_bestTurn 19 = .ok (.iconst 0, 1) := dk_3 (dk_at dksX2_bestTurn_0 19 rfl rfl)
theorem dX2_bestTurn_20 : decode cX2_bestTurn 20 = .ok (.invokevirtual 236, 3) := dk_182 0 236 (dk_at dksX2_bestTurn_0 20 rfl rfl)
theorem dX2_bestTurn_23 : decode cX2_bestTurn 23 = .ok (.istore 4, 2) := dk_54 4 (dk_at dksX2_bestTurn_1 0 rfl rfl)
theorem dX2_bestTurn_25 : decode cX2_bestTurn 25 = .ok (.iload 4, 2) := dk_21 4 (dk_at dksX2_bestTurn_1 2 rfl rfl)
theorem dX2_bestTurn_27 : decode cX2_bestTurn 27 = .ok (.iload_n 2, 1) := dk_28 (dk_at dksX2_bestTurn_1 4 rfl rfl)
theorem dX2_bestTurn_28 : decode cX2_bestTurn 28 = .ok (.if_icmp .le 7, 3) := dk_164 0 7 (dk_at dksX2_bestTurn_1 5 rfl rfl)
theorem dX2_bestTurn_31 : decode cX2_bestTurn 31 = .ok (.iload_n 3, 1) := dk_29 (dk_at dksX2_bestTurn_1 8 rfl rfl)
theorem dX2_bestTurn_32 : decode cX2_bestTurn 32 = .ok (.goto 4, 3) := dk_167 0 4 (dk_at dksX2_bestTurn_1 9 rfl rfl)
theorem dX2_bestTurn_35 : decode cX2_bestTurn 35 = .ok (.iload_n 1, 1) := dk_27 (dk_at dksX2_bestTurn_1 12 rfl rfl)
theorem dX2_bestTurn_36 : decode cX2_bestTurn 36 = .ok (.istore_n 1, 1) := dk_60 (dk_at dksX2_bestTurn_1 13 rfl rfl)
theorem dX2_bestTurn_37 : decode cX2_bestTurn 37 = .ok (.iload 4, 2) := dk_21 4 (dk_at dksX2_bestTurn_1 14 rfl rfl)
theorem dX2_bestTurn_39 : decode cX2_bestTurn 39 = .ok (.iload_n 2, 1) := dk_28 (dk_at dksX2_bestTurn_1 16 rfl rfl)
theorem dX2_bestTurn_40 : decode cX2_bestTurn 40 = .ok (.if_icmp .le 8, 3) := dk_164 0 8 (dk_at dksX2_bestTurn_1 17 rfl rfl)
theorem dX2_bestTurn_43 : decode cX2_bestTurn 43 = .ok (.iload 4, 2) := dk_21 4 (dk_at dksX2_bestTurn_1 20 rfl rfl)
theorem dX2_bestTurn_45 : decode cX2_bestTurn 45 = .ok (.goto 4, 3) := dk_167 0 4 (dk_at dksX2_bestTurn_2 0 rfl rfl)
theorem dX2_bestTurn_48 : decode cX2_bestTurn 48 = .ok (.iload_n 2, 1) := dk_28 (dk_at dksX2_bestTurn_2 3 rfl rfl)
theorem dX2_bestTurn_49 : decode cX2_bestTurn 49 = .ok (.istore_n 2, 1) := dk_61 (dk_at dksX2_bestTurn_2 4 rfl rfl)
theorem dX2_bestTurn_50 : decode cX2_bestTurn 50 = .ok (.iinc 3 1, 3) := dk_132 3 1 (dk_at dksX2_bestTurn_2 5 rfl rfl)
theorem dX2_bestTurn_53 : decode cX2_bestTurn 53 = .ok (.goto (-46), 3) := dk_167 255 210 (dk_at dksX2_bestTurn_2 8 rfl rfl)
theorem dX2_bestTurn_56 : decode cX2_bestTurn 56 = .ok (.iload_n 1, 1) := dk_27 (dk_at dksX2_bestTurn_2 11 rfl rfl)
theorem dX2_bestTurn_57 : decode cX2_bestTurn 57 = .ok (.ireturn, 1) := dk_172 (dk_at dksX2_bestTurn_2 12 rfl rfl)
abbrev cX2_undo : ByteArray := prog_7_method_74_code
def yX2_undo : MethodName := ⟨RX2, "undo", "()I"⟩
def dkwX2_undo_1 : List UInt8 := [16, 110, 42, 180, 0, 43, 104, 42, 180, 0, 7, 3, 184, 0, 47, 42, 180, 0, 43, 172]
abbrev dktX2_undo_1 : List UInt8 := dkwX2_undo_1 ++ []
def dkwX2_undo_0 : List UInt8 := [42, 180, 0, 43, 154, 0, 6, 16, 254, 172, 42, 89, 180, 0, 43, 4, 100, 181, 0, 43, 42, 180, 0, 16]
abbrev dktX2_undo_0 : List UInt8 := dkwX2_undo_0 ++ dktX2_undo_1
theorem dksX2_undo_0 : cX2_undo.data.toList.drop 0 = dktX2_undo_0 := by decide +kernel
theorem dksX2_undo_1 : cX2_undo.data.toList.drop 24 = dktX2_undo_1 := dk_seg dksX2_undo_0 24 rfl rfl
theorem dX2_undo_0 : decode cX2_undo 0 = .ok (.aload_n 0, 1) := dk_42 (dk_at dksX2_undo_0 0 rfl rfl)
theorem dX2_undo_1 : decode cX2_undo 1 = .ok (.getfield 43, 3) := dk_180 0 43 (dk_at dksX2_undo_0 1 rfl rfl)
theorem dX2_undo_4 : decode cX2_undo 4 = .ok (.ifCond .ne 6, 3) := dk_154 0 6 (dk_at dksX2_undo_0 4 rfl rfl)
theorem dX2_undo_7 : decode cX2_undo 7 = .ok (.bipush (-2), 2) := dk_16 254 (dk_at dksX2_undo_0 7 rfl rfl)
theorem dX2_undo_9 : decode cX2_undo 9 = .ok (.ireturn, 1) := dk_172 (dk_at dksX2_undo_0 9 rfl rfl)
theorem dX2_undo_10 : decode cX2_undo 10 = .ok (.aload_n 0, 1) := dk_42 (dk_at dksX2_undo_0 10 rfl rfl)
theorem dX2_undo_11 : decode cX2_undo 11 = .ok (.dup, 1) := dk_89 (dk_at dksX2_undo_0 11 rfl rfl)
theorem dX2_undo_12 : decode cX2_undo 12 = .ok (.getfield 43, 3) := dk_180 0 43 (dk_at dksX2_undo_0 12 rfl rfl)
theorem dX2_undo_15 : decode cX2_undo 15 = .ok (.iconst 1, 1) := dk_4 (dk_at dksX2_undo_0 15 rfl rfl)
theorem dX2_undo_16 : decode cX2_undo 16 = .ok (.isub, 1) := dk_100 (dk_at dksX2_undo_0 16 rfl rfl)
theorem dX2_undo_17 : decode cX2_undo 17 = .ok (.putfield 43, 3) := dk_181 0 43 (dk_at dksX2_undo_0 17 rfl rfl)
theorem dX2_undo_20 : decode cX2_undo 20 = .ok (.aload_n 0, 1) := dk_42 (dk_at dksX2_undo_0 20 rfl rfl)
theorem dX2_undo_21 : decode cX2_undo 21 = .ok (.getfield 16, 3) := dk_180 0 16 (dk_at dksX2_undo_0 21 rfl rfl)
theorem dX2_undo_24 : decode cX2_undo 24 = .ok (.bipush 110, 2) := dk_16 110 (dk_at dksX2_undo_1 0 rfl rfl)
theorem dX2_undo_26 : decode cX2_undo 26 = .ok (.aload_n 0, 1) := dk_42 (dk_at dksX2_undo_1 2 rfl rfl)
theorem dX2_undo_27 : decode cX2_undo 27 = .ok (.getfield 43, 3) := dk_180 0 43 (dk_at dksX2_undo_1 3 rfl rfl)
theorem dX2_undo_30 : decode cX2_undo 30 = .ok (.imul, 1) := dk_104 (dk_at dksX2_undo_1 6 rfl rfl)
theorem dX2_undo_31 : decode cX2_undo 31 = .ok (.aload_n 0, 1) := dk_42 (dk_at dksX2_undo_1 7 rfl rfl)
theorem dX2_undo_32 : decode cX2_undo 32 = .ok (.getfield 7, 3) := dk_180 0 7 (dk_at dksX2_undo_1 8 rfl rfl)
theorem dX2_undo_35 : decode cX2_undo 35 = .ok (.iconst 0, 1) := dk_3 (dk_at dksX2_undo_1 11 rfl rfl)
theorem dX2_undo_36 : decode cX2_undo 36 = .ok (.invokestatic 47, 3) := dk_184 0 47 (dk_at dksX2_undo_1 12 rfl rfl)
theorem dX2_undo_39 : decode cX2_undo 39 = .ok (.aload_n 0, 1) := dk_42 (dk_at dksX2_undo_1 15 rfl rfl)
theorem dX2_undo_40 : decode cX2_undo 40 = .ok (.getfield 43, 3) := dk_180 0 43 (dk_at dksX2_undo_1 16 rfl rfl)
theorem dX2_undo_43 : decode cX2_undo 43 = .ok (.ireturn, 1) := dk_172 (dk_at dksX2_undo_1 19 rfl rfl)
abbrev cX2_save : ByteArray := prog_7_method_75_code
def yX2_save : MethodName := ⟨RX2, "save", "()I"⟩
def dkwX2_save_1 : List UInt8 := [172]
abbrev dktX2_save_1 : List UInt8 := dkwX2_save_1 ++ []
def dkwX2_save_0 : List UInt8 := [42, 180, 0, 7, 3, 42, 180, 0, 19, 3, 184, 0, 47, 42, 4, 181, 0, 239, 42, 180, 0, 7, 3, 46]
abbrev dktX2_save_0 : List UInt8 := dkwX2_save_0 ++ dktX2_save_1
theorem dksX2_save_0 : cX2_save.data.toList.drop 0 = dktX2_save_0 := by decide +kernel
theorem dksX2_save_1 : cX2_save.data.toList.drop 24 = dktX2_save_1 := dk_seg dksX2_save_0 24 rfl rfl
theorem dX2_save_0 : decode cX2_save 0 = .ok (.aload_n 0, 1) := dk_42 (dk_at dksX2_save_0 0 rfl rfl)
theorem dX2_save_1 : decode cX2_save 1 = .ok (.getfield 7, 3) := dk_180 0 7 (dk_at dksX2_save_0 1 rfl rfl)
theorem dX2_save_4 : decode cX2_save 4 = .ok (.iconst 0, 1) := dk_3 (dk_at dksX2_save_0 4 rfl rfl)
theorem dX2_save_5 : decode cX2_save 5 = .ok (.aload_n 0, 1) := dk_42 (dk_at dksX2_save_0 5 rfl rfl)
theorem dX2_save_6 : decode cX2_save 6 = .ok (.getfield 19, 3) := dk_180 0 19 (dk_at dksX2_save_0 6 rfl rfl)
theorem dX2_save_9 : decode cX2_save 9 = .ok (.iconst 0, 1) := dk_3 (dk_at dksX2_save_0 9 rfl rfl)
theorem dX2_save_10 : decode cX2_save 10 = .ok (.invokestatic 47, 3) := dk_184 0 47 (dk_at dksX2_save_0 10 rfl rfl)
theorem dX2_save_13 : decode cX2_save 13 = .ok (.aload_n 0, 1) := dk_42 (dk_at dksX2_save_0 13 rfl rfl)
theorem dX2_save_14 : decode cX2_save 14 = .ok (.iconst 1, 1) := dk_4 (dk_at dksX2_save_0 14 rfl rfl)
theorem dX2_save_15 : decode cX2_save 15 = .ok (.putfield 239, 3) := dk_181 0 239 (dk_at dksX2_save_0 15 rfl rfl)
theorem dX2_save_18 : decode cX2_save 18 = .ok (.aload_n 0, 1) := dk_42 (dk_at dksX2_save_0 18 rfl rfl)
theorem dX2_save_19 : decode cX2_save 19 = .ok (.getfield 7, 3) := dk_180 0 7 (dk_at dksX2_save_0 19 rfl rfl)
theorem dX2_save_22 : decode cX2_save 22 = .ok (.iconst 0, 1) := dk_3 (dk_at dksX2_save_0 22 rfl rfl)
theorem dX2_save_23 : decode cX2_save 23 = .ok (.iaload, 1) := dk_46 (dk_at dksX2_save_0 23 rfl rfl)
theorem dX2_save_24 : decode cX2_save 24 = .ok (.ireturn, 1) := dk_172 (dk_at dksX2_save_1 0 rfl rfl)
abbrev cX2_restore : ByteArray := prog_7_method_76_code
def yX2_restore : MethodName := ⟨RX2, "restore", "()I"⟩
def dkwX2_restore_1 : List UInt8 := [184, 0, 47, 42, 180, 0, 7, 3, 46, 172]
abbrev dktX2_restore_1 : List UInt8 := dkwX2_restore_1 ++ []
def dkwX2_restore_0 : List UInt8 := [42, 180, 0, 239, 154, 0, 6, 16, 254, 172, 42, 182, 0, 101, 42, 180, 0, 19, 3, 42, 180, 0, 7, 3]
abbrev dktX2_restore_0 : List UInt8 := dkwX2_restore_0 ++ dktX2_restore_1
theorem dksX2_restore_0 : cX2_restore.data.toList.drop 0 = dktX2_restore_0 := by decide +kernel
theorem dksX2_restore_1 : cX2_restore.data.toList.drop 24 = dktX2_restore_1 := dk_seg dksX2_restore_0 24 rfl rfl
theorem dX2_restore_0 : decode cX2_restore 0 = .ok (.aload_n 0, 1) := dk_42 (dk_at dksX2_restore_0 0 rfl rfl)
theorem dX2_restore_1 : decode cX2_restore 1 = .ok (.getfield 239, 3) := dk_180 0 239 (dk_at dksX2_restore_0 1 rfl rfl)
theorem dX2_restore_4 : decode cX2_restore 4 = .ok (.ifCond .ne 6, 3) := dk_154 0 6 (dk_at dksX2_restore_0 4 rfl rfl)
theorem dX2_restore_7 : decode cX2_restore 7 = .ok (.bipush (-2), 2) := dk_16 254 (dk_at dksX2_restore_0 7 rfl rfl)
theorem dX2_restore_9 : decode cX2_restore 9 = .ok (.ireturn, 1) := dk_172 (dk_at dksX2_restore_0 9 rfl rfl)
theorem dX2_restore_10 : decode cX2_restore 10 = .ok (.aload_n 0, 1) := dk_42 (dk_at dksX2_restore_0 10 rfl rfl)
theorem dX2_restore_11 : decode cX2_restore 11 = .ok (.invokevirtual 101, 3) := dk_182 0 101 (dk_at dksX2_restore_0 11 rfl rfl)
theorem dX2_restore_14 : decode cX2_restore 14 = .ok (.aload_n 0, 1) := dk_42 (dk_at dksX2_restore_0 14 rfl rfl)
theorem dX2_restore_15 : decode cX2_restore 15 = .ok (.getfield 19, 3) := dk_180 0 19 (dk_at dksX2_restore_0 15 rfl rfl)
theorem dX2_restore_18 : decode cX2_restore 18 = .ok (.iconst 0, 1) := dk_3 (dk_at dksX2_restore_0 18 rfl rfl)
theorem dX2_restore_19 : decode cX2_restore 19 = .ok (.aload_n 0, 1) := dk_42 (dk_at dksX2_restore_0 19 rfl rfl)
theorem dX2_restore_20 : decode cX2_restore 20 = .ok (.getfield 7, 3) := dk_180 0 7 (dk_at dksX2_restore_0 20 rfl rfl)
theorem dX2_restore_23 : decode cX2_restore 23 = .ok (.iconst 0, 1) := dk_3 (dk_at dksX2_restore_0 23 rfl rfl)
theorem dX2_restore_24 : decode cX2_restore 24 = .ok (.invokestatic 47, 3) := dk_184 0 47 (dk_at dksX2_restore_1 0 rfl rfl)
theorem dX2_restore_27 : decode cX2_restore 27 = .ok (.aload_n 0, 1) := dk_42 (dk_at dksX2_restore_1 3 rfl rfl)
theorem dX2_restore_28 : decode cX2_restore 28 = .ok (.getfield 7, 3) := dk_180 0 7 (dk_at dksX2_restore_1 4 rfl rfl)
theorem dX2_restore_31 : decode cX2_restore 31 = .ok (.iconst 0, 1) := dk_3 (dk_at dksX2_restore_1 7 rfl rfl)
theorem dX2_restore_32 : decode cX2_restore 32 = .ok (.iaload, 1) := dk_46 (dk_at dksX2_restore_1 8 rfl rfl)
theorem dX2_restore_33 : decode cX2_restore 33 = .ok (.ireturn, 1) := dk_172 (dk_at dksX2_restore_1 9 rfl rfl)
theorem q89 : (Jvm.Cond.initialized "SlatCratesModel") ∈ lw_all := lw_g (lw_at lw_m1 12 rfl) rfl
theorem q465 : (Jvm.Cond.selects "SlatCratesModel" ({ cls := "java/lang/Object", name := "getClass", desc := "()Ljava/lang/Class;" } : Jvm.MethodName) ({ cls := "java/lang/Object", name := "getClass", desc := "()Ljava/lang/Class;" } : Jvm.MethodName)) ∈ lw_all := lw_g (lw_at lw_m2 148 rfl) rfl
theorem q970 : (Jvm.Cond.selects "SlatCratesModel" ({ cls := "java/lang/Object", name := "equals", desc := "(Ljava/lang/Object;)Z" } : Jvm.MethodName) ({ cls := "java/lang/Object", name := "equals", desc := "(Ljava/lang/Object;)Z" } : Jvm.MethodName)) ∈ lw_all := lw_g (lw_at lw_m4 173 rfl) rfl
theorem q1354 : (Jvm.Cond.selects "SlatCratesModel" ({ cls := "java/lang/Object", name := "hashCode", desc := "()I" } : Jvm.MethodName) ({ cls := "java/lang/Object", name := "hashCode", desc := "()I" } : Jvm.MethodName)) ∈ lw_all := lw_g (lw_at lw_m6 77 rfl) rfl
theorem q2138 : (Jvm.Cond.instantiable "SlatCratesModel" (19 : Nat)) ∈ lw_all := lw_g (lw_at lw_m9 141 rfl) rfl
theorem q2140 : (Jvm.Cond.instanceMethod ({ cls := "SlatCratesModel", name := "<init>", desc := "()V" } : Jvm.MethodName)) ∈ lw_all := lw_g (lw_at lw_m9 143 rfl) rfl
theorem q2141 : (Jvm.Cond.code ({ cls := "SlatCratesModel", name := "<init>", desc := "()V" } : Jvm.MethodName) prog_7_method_1_code (1 : Nat) (Option.none : Option Jvm.ClassFile.FieldType)) ∈ lw_all := lw_g (lw_at lw_m9 144 rfl) rfl
theorem q2142 : (Jvm.Cond.methodLink "SlatCratesModel" (1 : Nat) ({ cls := "java/lang/Object", name := "<init>", desc := "()V" } : Jvm.MethodName)) ∈ lw_all := lw_g (lw_at lw_m9 145 rfl) rfl
theorem q2143 : (Jvm.Cond.fieldLink "SlatCratesModel" (7 : Nat) "SlatCratesModel" "s" "[I") ∈ lw_all := lw_g (lw_at lw_m9 146 rfl) rfl
theorem q2144 : (Jvm.Cond.fieldLink "SlatCratesModel" (13 : Nat) "SlatCratesModel" "aside" "[I") ∈ lw_all := lw_g (lw_at lw_m9 147 rfl) rfl
theorem q2145 : (Jvm.Cond.fieldLink "SlatCratesModel" (16 : Nat) "SlatCratesModel" "past" "[I") ∈ lw_all := lw_g (lw_at lw_m9 148 rfl) rfl
theorem q2146 : (Jvm.Cond.fieldLink "SlatCratesModel" (43 : Nat) "SlatCratesModel" "known" "I") ∈ lw_all := lw_g (lw_at lw_m9 149 rfl) rfl
theorem q2147 : (Jvm.Cond.fieldLink "SlatCratesModel" (19 : Nat) "SlatCratesModel" "kept" "[I") ∈ lw_all := lw_g (lw_at lw_m9 150 rfl) rfl
theorem q2148 : (Jvm.Cond.fieldLink "SlatCratesModel" (239 : Nat) "SlatCratesModel" "isKept" "Z") ∈ lw_all := lw_g (lw_at lw_m9 151 rfl) rfl
theorem q2149 : (Jvm.Cond.fieldLink "SlatCratesModel" (22 : Nat) "SlatCratesModel" "pad" "[I") ∈ lw_all := lw_g (lw_at lw_m9 152 rfl) rfl
theorem q2150 : (Jvm.Cond.fieldLink "SlatCratesModel" (126 : Nat) "SlatCratesModel" "length" "I") ∈ lw_all := lw_g (lw_at lw_m9 153 rfl) rfl
theorem q2151 : (Jvm.Cond.fieldLink "SlatCratesModel" (129 : Nat) "SlatCratesModel" "spot" "I") ∈ lw_all := lw_g (lw_at lw_m9 154 rfl) rfl
theorem q2152 : (Jvm.Cond.fieldLink "SlatCratesModel" (132 : Nat) "SlatCratesModel" "isForm" "Z") ∈ lw_all := lw_g (lw_at lw_m9 155 rfl) rfl
theorem q2153 : (Jvm.Cond.fieldLink "SlatCratesModel" (25 : Nat) "SlatCratesModel" "read" "[I") ∈ lw_all := lw_g (lw_at lw_m9 156 rfl) rfl
theorem q2154 : (Jvm.Cond.fieldLink "SlatCratesModel" (144 : Nat) "SlatCratesModel" "reads" "I") ∈ lw_all := lw_g (lw_at lw_m9 157 rfl) rfl
theorem q2155 : (Jvm.Cond.fieldLink "SlatCratesModel" (28 : Nat) "SlatCratesModel" "open" "[I") ∈ lw_all := lw_g (lw_at lw_m9 158 rfl) rfl
theorem q2156 : (Jvm.Cond.fieldLink "SlatCratesModel" (147 : Nat) "SlatCratesModel" "opens" "I") ∈ lw_all := lw_g (lw_at lw_m9 159 rfl) rfl
theorem q2157 : (Jvm.Cond.fieldLink "SlatCratesModel" (31 : Nat) "SlatCratesModel" "writing" "[I") ∈ lw_all := lw_g (lw_at lw_m9 160 rfl) rfl
theorem q2158 : (Jvm.Cond.fieldLink "SlatCratesModel" (167 : Nat) "SlatCratesModel" "written" "I") ∈ lw_all := lw_g (lw_at lw_m9 161 rfl) rfl
theorem q2159 : (Jvm.Cond.fieldLink "SlatCratesModel" (34 : Nat) "SlatCratesModel" "depth" "[I") ∈ lw_all := lw_g (lw_at lw_m9 162 rfl) rfl
theorem q2160 : (Jvm.Cond.fieldLink "SlatCratesModel" (37 : Nat) "SlatCratesModel" "next" "[I") ∈ lw_all := lw_g (lw_at lw_m9 163 rfl) rfl
theorem q2161 : (Jvm.Cond.fieldLink "SlatCratesModel" (40 : Nat) "SlatCratesModel" "nests" "[I") ∈ lw_all := lw_g (lw_at lw_m9 164 rfl) rfl
theorem q2162 : (Jvm.Cond.laysFinal "SlatCratesModel" "SlatCratesModel" "s" "[I") ∈ lw_all := lw_g (lw_at lw_m9 165 rfl) rfl
theorem q2163 : (Jvm.Cond.soleField "SlatCratesModel" "s") ∈ lw_all := lw_g (lw_at lw_m9 166 rfl) rfl
theorem q2164 : (Jvm.Cond.laysFinal "SlatCratesModel" "SlatCratesModel" "aside" "[I") ∈ lw_all := lw_g (lw_at lw_m9 167 rfl) rfl
theorem q2165 : (Jvm.Cond.soleField "SlatCratesModel" "aside") ∈ lw_all := lw_g (lw_at lw_m9 168 rfl) rfl
theorem q2166 : (Jvm.Cond.laysFinal "SlatCratesModel" "SlatCratesModel" "past" "[I") ∈ lw_all := lw_g (lw_at lw_m9 169 rfl) rfl
theorem q2167 : (Jvm.Cond.soleField "SlatCratesModel" "past") ∈ lw_all := lw_g (lw_at lw_m9 170 rfl) rfl
theorem q2168 : (Jvm.Cond.lays "SlatCratesModel" "SlatCratesModel" "known" "I") ∈ lw_all := lw_g (lw_at lw_m9 171 rfl) rfl
theorem q2169 : (Jvm.Cond.soleField "SlatCratesModel" "known") ∈ lw_all := lw_g (lw_at lw_m9 172 rfl) rfl
theorem q2170 : (Jvm.Cond.laysFinal "SlatCratesModel" "SlatCratesModel" "kept" "[I") ∈ lw_all := lw_g (lw_at lw_m9 173 rfl) rfl
theorem q2171 : (Jvm.Cond.soleField "SlatCratesModel" "kept") ∈ lw_all := lw_g (lw_at lw_m9 174 rfl) rfl
theorem q2172 : (Jvm.Cond.lays "SlatCratesModel" "SlatCratesModel" "isKept" "Z") ∈ lw_all := lw_g (lw_at lw_m9 175 rfl) rfl
theorem q2173 : (Jvm.Cond.soleField "SlatCratesModel" "isKept") ∈ lw_all := lw_g (lw_at lw_m9 176 rfl) rfl
theorem q2174 : (Jvm.Cond.laysFinal "SlatCratesModel" "SlatCratesModel" "pad" "[I") ∈ lw_all := lw_g (lw_at lw_m9 177 rfl) rfl
theorem q2175 : (Jvm.Cond.soleField "SlatCratesModel" "pad") ∈ lw_all := lw_g (lw_at lw_m9 178 rfl) rfl
theorem q2176 : (Jvm.Cond.lays "SlatCratesModel" "SlatCratesModel" "length" "I") ∈ lw_all := lw_g (lw_at lw_m9 179 rfl) rfl
theorem q2177 : (Jvm.Cond.soleField "SlatCratesModel" "length") ∈ lw_all := lw_g (lw_at lw_m9 180 rfl) rfl
theorem q2178 : (Jvm.Cond.lays "SlatCratesModel" "SlatCratesModel" "spot" "I") ∈ lw_all := lw_g (lw_at lw_m9 181 rfl) rfl
theorem q2179 : (Jvm.Cond.soleField "SlatCratesModel" "spot") ∈ lw_all := lw_g (lw_at lw_m9 182 rfl) rfl
theorem q2180 : (Jvm.Cond.lays "SlatCratesModel" "SlatCratesModel" "isForm" "Z") ∈ lw_all := lw_g (lw_at lw_m9 183 rfl) rfl
theorem q2181 : (Jvm.Cond.soleField "SlatCratesModel" "isForm") ∈ lw_all := lw_g (lw_at lw_m9 184 rfl) rfl
theorem q2182 : (Jvm.Cond.laysFinal "SlatCratesModel" "SlatCratesModel" "read" "[I") ∈ lw_all := lw_g (lw_at lw_m9 185 rfl) rfl
theorem q2183 : (Jvm.Cond.soleField "SlatCratesModel" "read") ∈ lw_all := lw_g (lw_at lw_m9 186 rfl) rfl
theorem q2184 : (Jvm.Cond.lays "SlatCratesModel" "SlatCratesModel" "reads" "I") ∈ lw_all := lw_g (lw_at lw_m9 187 rfl) rfl
theorem q2185 : (Jvm.Cond.soleField "SlatCratesModel" "reads") ∈ lw_all := lw_g (lw_at lw_m9 188 rfl) rfl
theorem q2186 : (Jvm.Cond.laysFinal "SlatCratesModel" "SlatCratesModel" "open" "[I") ∈ lw_all := lw_g (lw_at lw_m9 189 rfl) rfl
theorem q2187 : (Jvm.Cond.soleField "SlatCratesModel" "open") ∈ lw_all := lw_g (lw_at lw_m9 190 rfl) rfl
theorem q2188 : (Jvm.Cond.lays "SlatCratesModel" "SlatCratesModel" "opens" "I") ∈ lw_all := lw_g (lw_at lw_m9 191 rfl) rfl
theorem q2189 : (Jvm.Cond.soleField "SlatCratesModel" "opens") ∈ lw_all := lw_g (lw_at lw_m9 192 rfl) rfl
theorem q2190 : (Jvm.Cond.laysFinal "SlatCratesModel" "SlatCratesModel" "writing" "[I") ∈ lw_all := lw_g (lw_at lw_m9 193 rfl) rfl
theorem q2191 : (Jvm.Cond.soleField "SlatCratesModel" "writing") ∈ lw_all := lw_g (lw_at lw_m9 194 rfl) rfl
theorem q2192 : (Jvm.Cond.lays "SlatCratesModel" "SlatCratesModel" "written" "I") ∈ lw_all := lw_g (lw_at lw_m9 195 rfl) rfl
theorem q2193 : (Jvm.Cond.soleField "SlatCratesModel" "written") ∈ lw_all := lw_g (lw_at lw_m9 196 rfl) rfl
theorem q2194 : (Jvm.Cond.laysFinal "SlatCratesModel" "SlatCratesModel" "depth" "[I") ∈ lw_all := lw_g (lw_at lw_m9 197 rfl) rfl
theorem q2195 : (Jvm.Cond.soleField "SlatCratesModel" "depth") ∈ lw_all := lw_g (lw_at lw_m9 198 rfl) rfl
theorem q2196 : (Jvm.Cond.laysFinal "SlatCratesModel" "SlatCratesModel" "next" "[I") ∈ lw_all := lw_g (lw_at lw_m9 199 rfl) rfl
theorem q2197 : (Jvm.Cond.soleField "SlatCratesModel" "next") ∈ lw_all := lw_g (lw_at lw_m9 200 rfl) rfl
theorem q2198 : (Jvm.Cond.laysFinal "SlatCratesModel" "SlatCratesModel" "nests" "[I") ∈ lw_all := lw_g (lw_at lw_m9 201 rfl) rfl
theorem q2199 : (Jvm.Cond.soleField "SlatCratesModel" "nests") ∈ lw_all := lw_g (lw_at lw_m9 202 rfl) rfl
theorem q2200 : (Jvm.Cond.superclass "SlatCratesModel" "java/lang/Object") ∈ lw_all := lw_g (lw_at lw_m9 203 rfl) rfl
theorem q2202 : (Jvm.Cond.instanceMethod ({ cls := "SlatCratesModel", name := "make", desc := "(IIII)I" } : Jvm.MethodName)) ∈ lw_all := lw_g (lw_at lw_m9 205 rfl) rfl
theorem q2203 : (Jvm.Cond.selects "SlatCratesModel" ({ cls := "SlatCratesModel", name := "make", desc := "(IIII)I" } : Jvm.MethodName) ({ cls := "SlatCratesModel", name := "make", desc := "(IIII)I" } : Jvm.MethodName)) ∈ lw_all := lw_g (lw_at lw_m9 206 rfl) rfl
theorem q2204 : (Jvm.Cond.code ({ cls := "SlatCratesModel", name := "make", desc := "(IIII)I" } : Jvm.MethodName) prog_7_method_31_code (7 : Nat) (Option.some Jvm.ClassFile.FieldType.int)) ∈ lw_all := lw_g (lw_at lw_m9 207 rfl) rfl
theorem q2205 : (Jvm.Cond.methodLink "SlatCratesModel" (51 : Nat) ({ cls := "SlatCratesModel", name := "in", desc := "(III)Z" } : Jvm.MethodName)) ∈ lw_all := lw_g (lw_at lw_m9 208 rfl) rfl
theorem q2206 : (Jvm.Cond.static ({ cls := "SlatCratesModel", name := "in", desc := "(III)Z" } : Jvm.MethodName)) ∈ lw_all := lw_g (lw_at lw_m9 209 rfl) rfl
theorem q2207 : (Jvm.Cond.code ({ cls := "SlatCratesModel", name := "in", desc := "(III)Z" } : Jvm.MethodName) prog_7_method_3_code (3 : Nat) (Option.some Jvm.ClassFile.FieldType.boolean)) ∈ lw_all := lw_g (lw_at lw_m9 210 rfl) rfl
theorem q2208 : (Jvm.Cond.methodLink "SlatCratesModel" (98 : Nat) ({ cls := "SlatCratesModel", name := "isLabel", desc := "(I)Z" } : Jvm.MethodName)) ∈ lw_all := lw_g (lw_at lw_m9 211 rfl) rfl
theorem q2209 : (Jvm.Cond.static ({ cls := "SlatCratesModel", name := "isLabel", desc := "(I)Z" } : Jvm.MethodName)) ∈ lw_all := lw_g (lw_at lw_m9 212 rfl) rfl
theorem q2210 : (Jvm.Cond.code ({ cls := "SlatCratesModel", name := "isLabel", desc := "(I)Z" } : Jvm.MethodName) prog_7_method_30_code (4 : Nat) (Option.some Jvm.ClassFile.FieldType.boolean)) ∈ lw_all := lw_g (lw_at lw_m9 213 rfl) rfl
theorem q2211 : (Jvm.Cond.constant "SlatCratesModel" (97 : Nat) (531440 : Int32)) ∈ lw_all := lw_g (lw_at lw_m9 214 rfl) rfl
theorem q2212 : (Jvm.Cond.methodLink "SlatCratesModel" (101 : Nat) ({ cls := "SlatCratesModel", name := "records", desc := "()V" } : Jvm.MethodName)) ∈ lw_all := lw_g (lw_at lw_m9 215 rfl) rfl
theorem q2213 : (Jvm.Cond.privateMethod ({ cls := "SlatCratesModel", name := "records", desc := "()V" } : Jvm.MethodName)) ∈ lw_tbl := lw_at lw_m9 216 rfl
theorem q2214 : (Jvm.Cond.instanceMethod ({ cls := "SlatCratesModel", name := "records", desc := "()V" } : Jvm.MethodName)) ∈ lw_all := lw_g (lw_at lw_m9 217 rfl) rfl
theorem q2215 : (Jvm.Cond.code ({ cls := "SlatCratesModel", name := "records", desc := "()V" } : Jvm.MethodName) prog_7_method_5_code (2 : Nat) (Option.none : Option Jvm.ClassFile.FieldType)) ∈ lw_all := lw_g (lw_at lw_m9 218 rfl) rfl
theorem q2216 : (Jvm.Cond.methodLink "SlatCratesModel" (47 : Nat) ({ cls := "SlatCratesModel", name := "copies", desc := "([II[II)V" } : Jvm.MethodName)) ∈ lw_all := lw_g (lw_at lw_m9 219 rfl) rfl
theorem q2217 : (Jvm.Cond.static ({ cls := "SlatCratesModel", name := "copies", desc := "([II[II)V" } : Jvm.MethodName)) ∈ lw_all := lw_g (lw_at lw_m9 220 rfl) rfl
theorem q2218 : (Jvm.Cond.code ({ cls := "SlatCratesModel", name := "copies", desc := "([II[II)V" } : Jvm.MethodName) prog_7_method_4_code (5 : Nat) (Option.none : Option Jvm.ClassFile.FieldType)) ∈ lw_all := lw_g (lw_at lw_m9 221 rfl) rfl
theorem q2219 : (Jvm.Cond.methodLink "SlatCratesModel" (93 : Nat) ({ cls := "SlatCratesModel", name := "lays", desc := "(III)V" } : Jvm.MethodName)) ∈ lw_all := lw_g (lw_at lw_m9 222 rfl) rfl
theorem q2220 : (Jvm.Cond.privateMethod ({ cls := "SlatCratesModel", name := "lays", desc := "(III)V" } : Jvm.MethodName)) ∈ lw_tbl := lw_at lw_m9 223 rfl
theorem q2221 : (Jvm.Cond.instanceMethod ({ cls := "SlatCratesModel", name := "lays", desc := "(III)V" } : Jvm.MethodName)) ∈ lw_all := lw_g (lw_at lw_m9 224 rfl) rfl
theorem q2222 : (Jvm.Cond.code ({ cls := "SlatCratesModel", name := "lays", desc := "(III)V" } : Jvm.MethodName) prog_7_method_8_code (4 : Nat) (Option.none : Option Jvm.ClassFile.FieldType)) ∈ lw_all := lw_g (lw_at lw_m9 225 rfl) rfl
theorem q2223 : (Jvm.Cond.methodLink "SlatCratesModel" (104 : Nat) ({ cls := "SlatCratesModel", name := "adds", desc := "(IIIII)V" } : Jvm.MethodName)) ∈ lw_all := lw_g (lw_at lw_m9 226 rfl) rfl
theorem q2224 : (Jvm.Cond.privateMethod ({ cls := "SlatCratesModel", name := "adds", desc := "(IIIII)V" } : Jvm.MethodName)) ∈ lw_tbl := lw_at lw_m9 227 rfl
theorem q2225 : (Jvm.Cond.instanceMethod ({ cls := "SlatCratesModel", name := "adds", desc := "(IIIII)V" } : Jvm.MethodName)) ∈ lw_all := lw_g (lw_at lw_m9 228 rfl) rfl
theorem q2226 : (Jvm.Cond.code ({ cls := "SlatCratesModel", name := "adds", desc := "(IIIII)V" } : Jvm.MethodName) prog_7_method_29_code (7 : Nat) (Option.none : Option Jvm.ClassFile.FieldType)) ∈ lw_all := lw_g (lw_at lw_m9 229 rfl) rfl
theorem q2228 : (Jvm.Cond.instanceMethod ({ cls := "SlatCratesModel", name := "put", desc := "(II)I" } : Jvm.MethodName)) ∈ lw_all := lw_g (lw_at lw_m9 231 rfl) rfl
theorem q2229 : (Jvm.Cond.selects "SlatCratesModel" ({ cls := "SlatCratesModel", name := "put", desc := "(II)I" } : Jvm.MethodName) ({ cls := "SlatCratesModel", name := "put", desc := "(II)I" } : Jvm.MethodName)) ∈ lw_all := lw_g (lw_at lw_m9 232 rfl) rfl
theorem q2230 : (Jvm.Cond.code ({ cls := "SlatCratesModel", name := "put", desc := "(II)I" } : Jvm.MethodName) prog_7_method_32_code (4 : Nat) (Option.some Jvm.ClassFile.FieldType.int)) ∈ lw_all := lw_g (lw_at lw_m9 233 rfl) rfl
theorem q2231 : (Jvm.Cond.methodLink "SlatCratesModel" (108 : Nat) ({ cls := "SlatCratesModel", name := "isCrate", desc := "(I)Z" } : Jvm.MethodName)) ∈ lw_all := lw_g (lw_at lw_m9 234 rfl) rfl
theorem q2232 : (Jvm.Cond.privateMethod ({ cls := "SlatCratesModel", name := "isCrate", desc := "(I)Z" } : Jvm.MethodName)) ∈ lw_tbl := lw_at lw_m9 235 rfl
theorem q2233 : (Jvm.Cond.instanceMethod ({ cls := "SlatCratesModel", name := "isCrate", desc := "(I)Z" } : Jvm.MethodName)) ∈ lw_all := lw_g (lw_at lw_m9 236 rfl) rfl
theorem q2234 : (Jvm.Cond.code ({ cls := "SlatCratesModel", name := "isCrate", desc := "(I)Z" } : Jvm.MethodName) prog_7_method_6_code (2 : Nat) (Option.some Jvm.ClassFile.FieldType.boolean)) ∈ lw_all := lw_g (lw_at lw_m9 237 rfl) rfl
theorem q2235 : (Jvm.Cond.methodLink "SlatCratesModel" (111 : Nat) ({ cls := "SlatCratesModel", name := "reasonPut", desc := "(II)I" } : Jvm.MethodName)) ∈ lw_all := lw_g (lw_at lw_m9 238 rfl) rfl
theorem q2236 : (Jvm.Cond.privateMethod ({ cls := "SlatCratesModel", name := "reasonPut", desc := "(II)I" } : Jvm.MethodName)) ∈ lw_tbl := lw_at lw_m9 239 rfl
theorem q2237 : (Jvm.Cond.instanceMethod ({ cls := "SlatCratesModel", name := "reasonPut", desc := "(II)I" } : Jvm.MethodName)) ∈ lw_all := lw_g (lw_at lw_m10 0 rfl) rfl
theorem q2238 : (Jvm.Cond.code ({ cls := "SlatCratesModel", name := "reasonPut", desc := "(II)I" } : Jvm.MethodName) prog_7_method_25_code (4 : Nat) (Option.some Jvm.ClassFile.FieldType.int)) ∈ lw_all := lw_g (lw_at lw_m10 1 rfl) rfl
theorem q2239 : (Jvm.Cond.methodLink "SlatCratesModel" (86 : Nat) ({ cls := "SlatCratesModel", name := "isTop", desc := "(I)Z" } : Jvm.MethodName)) ∈ lw_all := lw_g (lw_at lw_m10 2 rfl) rfl
theorem q2240 : (Jvm.Cond.privateMethod ({ cls := "SlatCratesModel", name := "isTop", desc := "(I)Z" } : Jvm.MethodName)) ∈ lw_tbl := lw_at lw_m10 3 rfl
theorem q2241 : (Jvm.Cond.instanceMethod ({ cls := "SlatCratesModel", name := "isTop", desc := "(I)Z" } : Jvm.MethodName)) ∈ lw_all := lw_g (lw_at lw_m10 4 rfl) rfl
theorem q2242 : (Jvm.Cond.code ({ cls := "SlatCratesModel", name := "isTop", desc := "(I)Z" } : Jvm.MethodName) prog_7_method_16_code (2 : Nat) (Option.some Jvm.ClassFile.FieldType.boolean)) ∈ lw_all := lw_g (lw_at lw_m10 5 rfl) rfl
theorem q2243 : (Jvm.Cond.methodLink "SlatCratesModel" (59 : Nat) ({ cls := "SlatCratesModel", name := "around", desc := "(I)I" } : Jvm.MethodName)) ∈ lw_all := lw_g (lw_at lw_m10 6 rfl) rfl
theorem q2244 : (Jvm.Cond.privateMethod ({ cls := "SlatCratesModel", name := "around", desc := "(I)I" } : Jvm.MethodName)) ∈ lw_tbl := lw_at lw_m10 7 rfl
theorem q2245 : (Jvm.Cond.instanceMethod ({ cls := "SlatCratesModel", name := "around", desc := "(I)I" } : Jvm.MethodName)) ∈ lw_all := lw_g (lw_at lw_m10 8 rfl) rfl
theorem q2246 : (Jvm.Cond.code ({ cls := "SlatCratesModel", name := "around", desc := "(I)I" } : Jvm.MethodName) prog_7_method_9_code (2 : Nat) (Option.some Jvm.ClassFile.FieldType.int)) ∈ lw_all := lw_g (lw_at lw_m10 9 rfl) rfl
theorem q2247 : (Jvm.Cond.methodLink "SlatCratesModel" (55 : Nat) ({ cls := "SlatCratesModel", name := "of", desc := "(II)I" } : Jvm.MethodName)) ∈ lw_all := lw_g (lw_at lw_m10 10 rfl) rfl
theorem q2248 : (Jvm.Cond.privateMethod ({ cls := "SlatCratesModel", name := "of", desc := "(II)I" } : Jvm.MethodName)) ∈ lw_tbl := lw_at lw_m10 11 rfl
theorem q2249 : (Jvm.Cond.instanceMethod ({ cls := "SlatCratesModel", name := "of", desc := "(II)I" } : Jvm.MethodName)) ∈ lw_all := lw_g (lw_at lw_m10 12 rfl) rfl
theorem q2250 : (Jvm.Cond.code ({ cls := "SlatCratesModel", name := "of", desc := "(II)I" } : Jvm.MethodName) prog_7_method_7_code (3 : Nat) (Option.some Jvm.ClassFile.FieldType.int)) ∈ lw_all := lw_g (lw_at lw_m10 13 rfl) rfl
theorem q2251 : (Jvm.Cond.methodLink "SlatCratesModel" (67 : Nat) ({ cls := "SlatCratesModel", name := "pile", desc := "(I)I" } : Jvm.MethodName)) ∈ lw_all := lw_g (lw_at lw_m10 14 rfl) rfl
theorem q2252 : (Jvm.Cond.privateMethod ({ cls := "SlatCratesModel", name := "pile", desc := "(I)I" } : Jvm.MethodName)) ∈ lw_tbl := lw_at lw_m10 15 rfl
theorem q2253 : (Jvm.Cond.instanceMethod ({ cls := "SlatCratesModel", name := "pile", desc := "(I)I" } : Jvm.MethodName)) ∈ lw_all := lw_g (lw_at lw_m10 16 rfl) rfl
theorem q2254 : (Jvm.Cond.code ({ cls := "SlatCratesModel", name := "pile", desc := "(I)I" } : Jvm.MethodName) prog_7_method_10_code (4 : Nat) (Option.some Jvm.ClassFile.FieldType.int)) ∈ lw_all := lw_g (lw_at lw_m10 17 rfl) rfl
theorem q2255 : (Jvm.Cond.methodLink "SlatCratesModel" (63 : Nat) ({ cls := "SlatCratesModel", name := "holds", desc := "(II)Z" } : Jvm.MethodName)) ∈ lw_all := lw_g (lw_at lw_m10 18 rfl) rfl
theorem q2256 : (Jvm.Cond.privateMethod ({ cls := "SlatCratesModel", name := "holds", desc := "(II)Z" } : Jvm.MethodName)) ∈ lw_tbl := lw_at lw_m10 19 rfl
theorem q2257 : (Jvm.Cond.instanceMethod ({ cls := "SlatCratesModel", name := "holds", desc := "(II)Z" } : Jvm.MethodName)) ∈ lw_all := lw_g (lw_at lw_m10 20 rfl) rfl
theorem q2258 : (Jvm.Cond.code ({ cls := "SlatCratesModel", name := "holds", desc := "(II)Z" } : Jvm.MethodName) prog_7_method_14_code (4 : Nat) (Option.some Jvm.ClassFile.FieldType.boolean)) ∈ lw_all := lw_g (lw_at lw_m10 21 rfl) rfl
theorem q2259 : (Jvm.Cond.methodLink "SlatCratesModel" (90 : Nat) ({ cls := "SlatCratesModel", name := "roomLeft", desc := "(I)I" } : Jvm.MethodName)) ∈ lw_all := lw_g (lw_at lw_m10 22 rfl) rfl
theorem q2260 : (Jvm.Cond.privateMethod ({ cls := "SlatCratesModel", name := "roomLeft", desc := "(I)I" } : Jvm.MethodName)) ∈ lw_tbl := lw_at lw_m10 23 rfl
theorem q2261 : (Jvm.Cond.instanceMethod ({ cls := "SlatCratesModel", name := "roomLeft", desc := "(I)I" } : Jvm.MethodName)) ∈ lw_all := lw_g (lw_at lw_m10 24 rfl) rfl
theorem q2262 : (Jvm.Cond.code ({ cls := "SlatCratesModel", name := "roomLeft", desc := "(I)I" } : Jvm.MethodName) prog_7_method_12_code (4 : Nat) (Option.some Jvm.ClassFile.FieldType.int)) ∈ lw_all := lw_g (lw_at lw_m10 25 rfl) rfl
theorem q2263 : (Jvm.Cond.methodLink "SlatCratesModel" (114 : Nat) ({ cls := "SlatCratesModel", name := "refuses", desc := "(I)I" } : Jvm.MethodName)) ∈ lw_all := lw_g (lw_at lw_m10 26 rfl) rfl
theorem q2264 : (Jvm.Cond.privateMethod ({ cls := "SlatCratesModel", name := "refuses", desc := "(I)I" } : Jvm.MethodName)) ∈ lw_tbl := lw_at lw_m10 27 rfl
theorem q2265 : (Jvm.Cond.instanceMethod ({ cls := "SlatCratesModel", name := "refuses", desc := "(I)I" } : Jvm.MethodName)) ∈ lw_all := lw_g (lw_at lw_m10 28 rfl) rfl
theorem q2266 : (Jvm.Cond.code ({ cls := "SlatCratesModel", name := "refuses", desc := "(I)I" } : Jvm.MethodName) prog_7_method_28_code (2 : Nat) (Option.some Jvm.ClassFile.FieldType.int)) ∈ lw_all := lw_g (lw_at lw_m10 29 rfl) rfl
theorem q2267 : (Jvm.Cond.methodLink "SlatCratesModel" (80 : Nat) ({ cls := "SlatCratesModel", name := "depthOf", desc := "(I)I" } : Jvm.MethodName)) ∈ lw_all := lw_g (lw_at lw_m10 30 rfl) rfl
theorem q2268 : (Jvm.Cond.privateMethod ({ cls := "SlatCratesModel", name := "depthOf", desc := "(I)I" } : Jvm.MethodName)) ∈ lw_tbl := lw_at lw_m10 31 rfl
theorem q2269 : (Jvm.Cond.instanceMethod ({ cls := "SlatCratesModel", name := "depthOf", desc := "(I)I" } : Jvm.MethodName)) ∈ lw_all := lw_g (lw_at lw_m10 32 rfl) rfl
theorem q2270 : (Jvm.Cond.code ({ cls := "SlatCratesModel", name := "depthOf", desc := "(I)I" } : Jvm.MethodName) prog_7_method_13_code (4 : Nat) (Option.some Jvm.ClassFile.FieldType.int)) ∈ lw_all := lw_g (lw_at lw_m10 33 rfl) rfl
theorem q2272 : (Jvm.Cond.instanceMethod ({ cls := "SlatCratesModel", name := "ground", desc := "(I)I" } : Jvm.MethodName)) ∈ lw_all := lw_g (lw_at lw_m10 35 rfl) rfl
theorem q2273 : (Jvm.Cond.selects "SlatCratesModel" ({ cls := "SlatCratesModel", name := "ground", desc := "(I)I" } : Jvm.MethodName) ({ cls := "SlatCratesModel", name := "ground", desc := "(I)I" } : Jvm.MethodName)) ∈ lw_all := lw_g (lw_at lw_m10 36 rfl) rfl
theorem q2274 : (Jvm.Cond.code ({ cls := "SlatCratesModel", name := "ground", desc := "(I)I" } : Jvm.MethodName) prog_7_method_33_code (3 : Nat) (Option.some Jvm.ClassFile.FieldType.int)) ∈ lw_all := lw_g (lw_at lw_m10 37 rfl) rfl
theorem q2275 : (Jvm.Cond.methodLink "SlatCratesModel" (117 : Nat) ({ cls := "SlatCratesModel", name := "reasonGround", desc := "(I)I" } : Jvm.MethodName)) ∈ lw_all := lw_g (lw_at lw_m10 38 rfl) rfl
theorem q2276 : (Jvm.Cond.privateMethod ({ cls := "SlatCratesModel", name := "reasonGround", desc := "(I)I" } : Jvm.MethodName)) ∈ lw_tbl := lw_at lw_m10 39 rfl
theorem q2277 : (Jvm.Cond.instanceMethod ({ cls := "SlatCratesModel", name := "reasonGround", desc := "(I)I" } : Jvm.MethodName)) ∈ lw_all := lw_g (lw_at lw_m10 40 rfl) rfl
theorem q2278 : (Jvm.Cond.code ({ cls := "SlatCratesModel", name := "reasonGround", desc := "(I)I" } : Jvm.MethodName) prog_7_method_26_code (2 : Nat) (Option.some Jvm.ClassFile.FieldType.int)) ∈ lw_all := lw_g (lw_at lw_m10 41 rfl) rfl
theorem q2280 : (Jvm.Cond.instanceMethod ({ cls := "SlatCratesModel", name := "turn", desc := "(I)I" } : Jvm.MethodName)) ∈ lw_all := lw_g (lw_at lw_m10 43 rfl) rfl
theorem q2281 : (Jvm.Cond.selects "SlatCratesModel" ({ cls := "SlatCratesModel", name := "turn", desc := "(I)I" } : Jvm.MethodName) ({ cls := "SlatCratesModel", name := "turn", desc := "(I)I" } : Jvm.MethodName)) ∈ lw_all := lw_g (lw_at lw_m10 44 rfl) rfl
theorem q2282 : (Jvm.Cond.code ({ cls := "SlatCratesModel", name := "turn", desc := "(I)I" } : Jvm.MethodName) prog_7_method_35_code (2 : Nat) (Option.some Jvm.ClassFile.FieldType.int)) ∈ lw_all := lw_g (lw_at lw_m10 45 rfl) rfl
theorem q2283 : (Jvm.Cond.methodLink "SlatCratesModel" (120 : Nat) ({ cls := "SlatCratesModel", name := "turned", desc := "(I)I" } : Jvm.MethodName)) ∈ lw_all := lw_g (lw_at lw_m10 46 rfl) rfl
theorem q2284 : (Jvm.Cond.static ({ cls := "SlatCratesModel", name := "turned", desc := "(I)I" } : Jvm.MethodName)) ∈ lw_all := lw_g (lw_at lw_m10 47 rfl) rfl
theorem q2285 : (Jvm.Cond.code ({ cls := "SlatCratesModel", name := "turned", desc := "(I)I" } : Jvm.MethodName) prog_7_method_34_code (1 : Nat) (Option.some Jvm.ClassFile.FieldType.int)) ∈ lw_all := lw_g (lw_at lw_m10 48 rfl) rfl
theorem q2287 : (Jvm.Cond.instanceMethod ({ cls := "SlatCratesModel", name := "breakUp", desc := "(I)I" } : Jvm.MethodName)) ∈ lw_all := lw_g (lw_at lw_m10 50 rfl) rfl
theorem q2288 : (Jvm.Cond.selects "SlatCratesModel" ({ cls := "SlatCratesModel", name := "breakUp", desc := "(I)I" } : Jvm.MethodName) ({ cls := "SlatCratesModel", name := "breakUp", desc := "(I)I" } : Jvm.MethodName)) ∈ lw_all := lw_g (lw_at lw_m10 51 rfl) rfl
theorem q2289 : (Jvm.Cond.code ({ cls := "SlatCratesModel", name := "breakUp", desc := "(I)I" } : Jvm.MethodName) prog_7_method_36_code (4 : Nat) (Option.some Jvm.ClassFile.FieldType.int)) ∈ lw_all := lw_g (lw_at lw_m10 52 rfl) rfl
theorem q2290 : (Jvm.Cond.methodLink "SlatCratesModel" (123 : Nat) ({ cls := "SlatCratesModel", name := "reasonBreak", desc := "(I)I" } : Jvm.MethodName)) ∈ lw_all := lw_g (lw_at lw_m10 53 rfl) rfl
theorem q2291 : (Jvm.Cond.privateMethod ({ cls := "SlatCratesModel", name := "reasonBreak", desc := "(I)I" } : Jvm.MethodName)) ∈ lw_tbl := lw_at lw_m10 54 rfl
theorem q2292 : (Jvm.Cond.instanceMethod ({ cls := "SlatCratesModel", name := "reasonBreak", desc := "(I)I" } : Jvm.MethodName)) ∈ lw_all := lw_g (lw_at lw_m10 55 rfl) rfl
theorem q2293 : (Jvm.Cond.code ({ cls := "SlatCratesModel", name := "reasonBreak", desc := "(I)I" } : Jvm.MethodName) prog_7_method_27_code (2 : Nat) (Option.some Jvm.ClassFile.FieldType.int)) ∈ lw_all := lw_g (lw_at lw_m10 56 rfl) rfl
theorem q2295 : (Jvm.Cond.instanceMethod ({ cls := "SlatCratesModel", name := "append", desc := "(I)I" } : Jvm.MethodName)) ∈ lw_all := lw_g (lw_at lw_m10 58 rfl) rfl
theorem q2296 : (Jvm.Cond.selects "SlatCratesModel" ({ cls := "SlatCratesModel", name := "append", desc := "(I)I" } : Jvm.MethodName) ({ cls := "SlatCratesModel", name := "append", desc := "(I)I" } : Jvm.MethodName)) ∈ lw_all := lw_g (lw_at lw_m10 59 rfl) rfl
theorem q2297 : (Jvm.Cond.code ({ cls := "SlatCratesModel", name := "append", desc := "(I)I" } : Jvm.MethodName) prog_7_method_37_code (2 : Nat) (Option.some Jvm.ClassFile.FieldType.int)) ∈ lw_all := lw_g (lw_at lw_m10 60 rfl) rfl
theorem q2299 : (Jvm.Cond.instanceMethod ({ cls := "SlatCratesModel", name := "clear", desc := "()I" } : Jvm.MethodName)) ∈ lw_all := lw_g (lw_at lw_m10 62 rfl) rfl
theorem q2300 : (Jvm.Cond.selects "SlatCratesModel" ({ cls := "SlatCratesModel", name := "clear", desc := "()I" } : Jvm.MethodName) ({ cls := "SlatCratesModel", name := "clear", desc := "()I" } : Jvm.MethodName)) ∈ lw_all := lw_g (lw_at lw_m10 63 rfl) rfl
theorem q2301 : (Jvm.Cond.code ({ cls := "SlatCratesModel", name := "clear", desc := "()I" } : Jvm.MethodName) prog_7_method_38_code (2 : Nat) (Option.some Jvm.ClassFile.FieldType.int)) ∈ lw_all := lw_g (lw_at lw_m10 64 rfl) rfl
theorem q2303 : (Jvm.Cond.instanceMethod ({ cls := "SlatCratesModel", name := "fault", desc := "()I" } : Jvm.MethodName)) ∈ lw_all := lw_g (lw_at lw_m10 66 rfl) rfl
theorem q2304 : (Jvm.Cond.selects "SlatCratesModel" ({ cls := "SlatCratesModel", name := "fault", desc := "()I" } : Jvm.MethodName) ({ cls := "SlatCratesModel", name := "fault", desc := "()I" } : Jvm.MethodName)) ∈ lw_all := lw_g (lw_at lw_m10 67 rfl) rfl
theorem q2305 : (Jvm.Cond.code ({ cls := "SlatCratesModel", name := "fault", desc := "()I" } : Jvm.MethodName) prog_7_method_45_code (1 : Nat) (Option.some Jvm.ClassFile.FieldType.int)) ∈ lw_all := lw_g (lw_at lw_m10 68 rfl) rfl
theorem q2306 : (Jvm.Cond.methodLink "SlatCratesModel" (160 : Nat) ({ cls := "SlatCratesModel", name := "areNests", desc := "()Z" } : Jvm.MethodName)) ∈ lw_all := lw_g (lw_at lw_m10 69 rfl) rfl
theorem q2307 : (Jvm.Cond.privateMethod ({ cls := "SlatCratesModel", name := "areNests", desc := "()Z" } : Jvm.MethodName)) ∈ lw_tbl := lw_at lw_m10 70 rfl
theorem q2308 : (Jvm.Cond.instanceMethod ({ cls := "SlatCratesModel", name := "areNests", desc := "()Z" } : Jvm.MethodName)) ∈ lw_all := lw_g (lw_at lw_m10 71 rfl) rfl
theorem q2309 : (Jvm.Cond.code ({ cls := "SlatCratesModel", name := "areNests", desc := "()Z" } : Jvm.MethodName) prog_7_method_44_code (1 : Nat) (Option.some Jvm.ClassFile.FieldType.boolean)) ∈ lw_all := lw_g (lw_at lw_m10 72 rfl) rfl
theorem q2310 : (Jvm.Cond.methodLink "SlatCratesModel" (157 : Nat) ({ cls := "SlatCratesModel", name := "takesCrate", desc := "()V" } : Jvm.MethodName)) ∈ lw_all := lw_g (lw_at lw_m10 73 rfl) rfl
theorem q2311 : (Jvm.Cond.privateMethod ({ cls := "SlatCratesModel", name := "takesCrate", desc := "()V" } : Jvm.MethodName)) ∈ lw_tbl := lw_at lw_m10 74 rfl
theorem q2312 : (Jvm.Cond.instanceMethod ({ cls := "SlatCratesModel", name := "takesCrate", desc := "()V" } : Jvm.MethodName)) ∈ lw_all := lw_g (lw_at lw_m10 75 rfl) rfl
theorem q2313 : (Jvm.Cond.code ({ cls := "SlatCratesModel", name := "takesCrate", desc := "()V" } : Jvm.MethodName) prog_7_method_43_code (5 : Nat) (Option.none : Option Jvm.ClassFile.FieldType)) ∈ lw_all := lw_g (lw_at lw_m10 76 rfl) rfl
theorem q2314 : (Jvm.Cond.methodLink "SlatCratesModel" (136 : Nat) ({ cls := "SlatCratesModel", name := "here", desc := "()I" } : Jvm.MethodName)) ∈ lw_all := lw_g (lw_at lw_m10 77 rfl) rfl
theorem q2315 : (Jvm.Cond.privateMethod ({ cls := "SlatCratesModel", name := "here", desc := "()I" } : Jvm.MethodName)) ∈ lw_tbl := lw_at lw_m10 78 rfl
theorem q2316 : (Jvm.Cond.instanceMethod ({ cls := "SlatCratesModel", name := "here", desc := "()I" } : Jvm.MethodName)) ∈ lw_all := lw_g (lw_at lw_m10 79 rfl) rfl
theorem q2317 : (Jvm.Cond.code ({ cls := "SlatCratesModel", name := "here", desc := "()I" } : Jvm.MethodName) prog_7_method_39_code (1 : Nat) (Option.some Jvm.ClassFile.FieldType.int)) ∈ lw_all := lw_g (lw_at lw_m10 80 rfl) rfl
theorem q2318 : (Jvm.Cond.methodLink "SlatCratesModel" (140 : Nat) ({ cls := "SlatCratesModel", name := "takes", desc := "(Z)V" } : Jvm.MethodName)) ∈ lw_all := lw_g (lw_at lw_m10 81 rfl) rfl
theorem q2319 : (Jvm.Cond.privateMethod ({ cls := "SlatCratesModel", name := "takes", desc := "(Z)V" } : Jvm.MethodName)) ∈ lw_tbl := lw_at lw_m10 82 rfl
theorem q2320 : (Jvm.Cond.instanceMethod ({ cls := "SlatCratesModel", name := "takes", desc := "(Z)V" } : Jvm.MethodName)) ∈ lw_all := lw_g (lw_at lw_m10 83 rfl) rfl
theorem q2321 : (Jvm.Cond.code ({ cls := "SlatCratesModel", name := "takes", desc := "(Z)V" } : Jvm.MethodName) prog_7_method_40_code (2 : Nat) (Option.none : Option Jvm.ClassFile.FieldType)) ∈ lw_all := lw_g (lw_at lw_m10 84 rfl) rfl
theorem q2322 : (Jvm.Cond.methodLink "SlatCratesModel" (150 : Nat) ({ cls := "SlatCratesModel", name := "takesNumber", desc := "(III)I" } : Jvm.MethodName)) ∈ lw_all := lw_g (lw_at lw_m10 85 rfl) rfl
theorem q2323 : (Jvm.Cond.privateMethod ({ cls := "SlatCratesModel", name := "takesNumber", desc := "(III)I" } : Jvm.MethodName)) ∈ lw_tbl := lw_at lw_m10 86 rfl
theorem q2324 : (Jvm.Cond.instanceMethod ({ cls := "SlatCratesModel", name := "takesNumber", desc := "(III)I" } : Jvm.MethodName)) ∈ lw_all := lw_g (lw_at lw_m10 87 rfl) rfl
theorem q2325 : (Jvm.Cond.code ({ cls := "SlatCratesModel", name := "takesNumber", desc := "(III)I" } : Jvm.MethodName) prog_7_method_41_code (5 : Nat) (Option.some Jvm.ClassFile.FieldType.int)) ∈ lw_all := lw_g (lw_at lw_m10 88 rfl) rfl
theorem q2326 : (Jvm.Cond.methodLink "SlatCratesModel" (154 : Nat) ({ cls := "SlatCratesModel", name := "placeIn", desc := "(I)I" } : Jvm.MethodName)) ∈ lw_all := lw_g (lw_at lw_m10 89 rfl) rfl
theorem q2327 : (Jvm.Cond.privateMethod ({ cls := "SlatCratesModel", name := "placeIn", desc := "(I)I" } : Jvm.MethodName)) ∈ lw_tbl := lw_at lw_m10 90 rfl
theorem q2328 : (Jvm.Cond.instanceMethod ({ cls := "SlatCratesModel", name := "placeIn", desc := "(I)I" } : Jvm.MethodName)) ∈ lw_all := lw_g (lw_at lw_m10 91 rfl) rfl
theorem q2329 : (Jvm.Cond.code ({ cls := "SlatCratesModel", name := "placeIn", desc := "(I)I" } : Jvm.MethodName) prog_7_method_42_code (4 : Nat) (Option.some Jvm.ClassFile.FieldType.int)) ∈ lw_all := lw_g (lw_at lw_m10 92 rfl) rfl
theorem q2331 : (Jvm.Cond.instanceMethod ({ cls := "SlatCratesModel", name := "load", desc := "()I" } : Jvm.MethodName)) ∈ lw_all := lw_g (lw_at lw_m10 94 rfl) rfl
theorem q2332 : (Jvm.Cond.selects "SlatCratesModel" ({ cls := "SlatCratesModel", name := "load", desc := "()I" } : Jvm.MethodName) ({ cls := "SlatCratesModel", name := "load", desc := "()I" } : Jvm.MethodName)) ∈ lw_all := lw_g (lw_at lw_m10 95 rfl) rfl
theorem q2333 : (Jvm.Cond.code ({ cls := "SlatCratesModel", name := "load", desc := "()I" } : Jvm.MethodName) prog_7_method_47_code (5 : Nat) (Option.some Jvm.ClassFile.FieldType.int)) ∈ lw_all := lw_g (lw_at lw_m10 96 rfl) rfl
theorem q2334 : (Jvm.Cond.methodLink "SlatCratesModel" (164 : Nat) ({ cls := "SlatCratesModel", name := "doFit", desc := "()Z" } : Jvm.MethodName)) ∈ lw_all := lw_g (lw_at lw_m10 97 rfl) rfl
theorem q2335 : (Jvm.Cond.privateMethod ({ cls := "SlatCratesModel", name := "doFit", desc := "()Z" } : Jvm.MethodName)) ∈ lw_tbl := lw_at lw_m10 98 rfl
theorem q2336 : (Jvm.Cond.instanceMethod ({ cls := "SlatCratesModel", name := "doFit", desc := "()Z" } : Jvm.MethodName)) ∈ lw_all := lw_g (lw_at lw_m10 99 rfl) rfl
theorem q2337 : (Jvm.Cond.code ({ cls := "SlatCratesModel", name := "doFit", desc := "()Z" } : Jvm.MethodName) prog_7_method_46_code (5 : Nat) (Option.some Jvm.ClassFile.FieldType.boolean)) ∈ lw_all := lw_g (lw_at lw_m10 100 rfl) rfl
theorem q2339 : (Jvm.Cond.instanceMethod ({ cls := "SlatCratesModel", name := "sign", desc := "(II)I" } : Jvm.MethodName)) ∈ lw_all := lw_g (lw_at lw_m10 102 rfl) rfl
theorem q2340 : (Jvm.Cond.selects "SlatCratesModel" ({ cls := "SlatCratesModel", name := "sign", desc := "(II)I" } : Jvm.MethodName) ({ cls := "SlatCratesModel", name := "sign", desc := "(II)I" } : Jvm.MethodName)) ∈ lw_all := lw_g (lw_at lw_m10 103 rfl) rfl
theorem q2341 : (Jvm.Cond.code ({ cls := "SlatCratesModel", name := "sign", desc := "(II)I" } : Jvm.MethodName) prog_7_method_52_code (3 : Nat) (Option.some Jvm.ClassFile.FieldType.int)) ∈ lw_all := lw_g (lw_at lw_m10 104 rfl) rfl
theorem q2342 : (Jvm.Cond.methodLink "SlatCratesModel" (187 : Nat) ({ cls := "SlatCratesModel", name := "writesNest", desc := "(I)V" } : Jvm.MethodName)) ∈ lw_all := lw_g (lw_at lw_m10 105 rfl) rfl
theorem q2343 : (Jvm.Cond.privateMethod ({ cls := "SlatCratesModel", name := "writesNest", desc := "(I)V" } : Jvm.MethodName)) ∈ lw_tbl := lw_at lw_m10 106 rfl
theorem q2344 : (Jvm.Cond.instanceMethod ({ cls := "SlatCratesModel", name := "writesNest", desc := "(I)V" } : Jvm.MethodName)) ∈ lw_all := lw_g (lw_at lw_m10 107 rfl) rfl
theorem q2345 : (Jvm.Cond.code ({ cls := "SlatCratesModel", name := "writesNest", desc := "(I)V" } : Jvm.MethodName) prog_7_method_51_code (5 : Nat) (Option.none : Option Jvm.ClassFile.FieldType)) ∈ lw_all := lw_g (lw_at lw_m10 108 rfl) rfl
theorem q2346 : (Jvm.Cond.methodLink "SlatCratesModel" (181 : Nat) ({ cls := "SlatCratesModel", name := "writesHead", desc := "(I)Z" } : Jvm.MethodName)) ∈ lw_all := lw_g (lw_at lw_m10 109 rfl) rfl
theorem q2347 : (Jvm.Cond.privateMethod ({ cls := "SlatCratesModel", name := "writesHead", desc := "(I)Z" } : Jvm.MethodName)) ∈ lw_tbl := lw_at lw_m10 110 rfl
theorem q2348 : (Jvm.Cond.instanceMethod ({ cls := "SlatCratesModel", name := "writesHead", desc := "(I)Z" } : Jvm.MethodName)) ∈ lw_all := lw_g (lw_at lw_m10 111 rfl) rfl
theorem q2349 : (Jvm.Cond.code ({ cls := "SlatCratesModel", name := "writesHead", desc := "(I)Z" } : Jvm.MethodName) prog_7_method_50_code (3 : Nat) (Option.some Jvm.ClassFile.FieldType.boolean)) ∈ lw_all := lw_g (lw_at lw_m10 112 rfl) rfl
theorem q2350 : (Jvm.Cond.methodLink "SlatCratesModel" (174 : Nat) ({ cls := "SlatCratesModel", name := "letters", desc := "(I)I" } : Jvm.MethodName)) ∈ lw_all := lw_g (lw_at lw_m10 113 rfl) rfl
theorem q2351 : (Jvm.Cond.privateMethod ({ cls := "SlatCratesModel", name := "letters", desc := "(I)I" } : Jvm.MethodName)) ∈ lw_tbl := lw_at lw_m10 114 rfl
theorem q2352 : (Jvm.Cond.instanceMethod ({ cls := "SlatCratesModel", name := "letters", desc := "(I)I" } : Jvm.MethodName)) ∈ lw_all := lw_g (lw_at lw_m10 115 rfl) rfl
theorem q2353 : (Jvm.Cond.code ({ cls := "SlatCratesModel", name := "letters", desc := "(I)I" } : Jvm.MethodName) prog_7_method_17_code (4 : Nat) (Option.some Jvm.ClassFile.FieldType.int)) ∈ lw_all := lw_g (lw_at lw_m10 116 rfl) rfl
theorem q2354 : (Jvm.Cond.methodLink "SlatCratesModel" (170 : Nat) ({ cls := "SlatCratesModel", name := "writes", desc := "(I)V" } : Jvm.MethodName)) ∈ lw_all := lw_g (lw_at lw_m10 117 rfl) rfl
theorem q2355 : (Jvm.Cond.privateMethod ({ cls := "SlatCratesModel", name := "writes", desc := "(I)V" } : Jvm.MethodName)) ∈ lw_tbl := lw_at lw_m10 118 rfl
theorem q2356 : (Jvm.Cond.instanceMethod ({ cls := "SlatCratesModel", name := "writes", desc := "(I)V" } : Jvm.MethodName)) ∈ lw_all := lw_g (lw_at lw_m10 119 rfl) rfl
theorem q2357 : (Jvm.Cond.code ({ cls := "SlatCratesModel", name := "writes", desc := "(I)V" } : Jvm.MethodName) prog_7_method_48_code (2 : Nat) (Option.none : Option Jvm.ClassFile.FieldType)) ∈ lw_all := lw_g (lw_at lw_m10 120 rfl) rfl
theorem q2358 : (Jvm.Cond.methodLink "SlatCratesModel" (177 : Nat) ({ cls := "SlatCratesModel", name := "writesNumber", desc := "(II)V" } : Jvm.MethodName)) ∈ lw_all := lw_g (lw_at lw_m10 121 rfl) rfl
theorem q2359 : (Jvm.Cond.privateMethod ({ cls := "SlatCratesModel", name := "writesNumber", desc := "(II)V" } : Jvm.MethodName)) ∈ lw_tbl := lw_at lw_m10 122 rfl
theorem q2360 : (Jvm.Cond.instanceMethod ({ cls := "SlatCratesModel", name := "writesNumber", desc := "(II)V" } : Jvm.MethodName)) ∈ lw_all := lw_g (lw_at lw_m10 123 rfl) rfl
theorem q2361 : (Jvm.Cond.code ({ cls := "SlatCratesModel", name := "writesNumber", desc := "(II)V" } : Jvm.MethodName) prog_7_method_49_code (3 : Nat) (Option.none : Option Jvm.ClassFile.FieldType)) ∈ lw_all := lw_g (lw_at lw_m10 124 rfl) rfl
theorem q2362 : (Jvm.Cond.methodLink "SlatCratesModel" (184 : Nat) ({ cls := "SlatCratesModel", name := "piled", desc := "(II)I" } : Jvm.MethodName)) ∈ lw_all := lw_g (lw_at lw_m10 125 rfl) rfl
theorem q2363 : (Jvm.Cond.privateMethod ({ cls := "SlatCratesModel", name := "piled", desc := "(II)I" } : Jvm.MethodName)) ∈ lw_tbl := lw_at lw_m10 126 rfl
theorem q2364 : (Jvm.Cond.instanceMethod ({ cls := "SlatCratesModel", name := "piled", desc := "(II)I" } : Jvm.MethodName)) ∈ lw_all := lw_g (lw_at lw_m10 127 rfl) rfl
theorem q2365 : (Jvm.Cond.code ({ cls := "SlatCratesModel", name := "piled", desc := "(II)I" } : Jvm.MethodName) prog_7_method_11_code (5 : Nat) (Option.some Jvm.ClassFile.FieldType.int)) ∈ lw_all := lw_g (lw_at lw_m10 128 rfl) rfl
theorem q2367 : (Jvm.Cond.instanceMethod ({ cls := "SlatCratesModel", name := "crate", desc := "(II)I" } : Jvm.MethodName)) ∈ lw_all := lw_g (lw_at lw_m10 130 rfl) rfl
theorem q2368 : (Jvm.Cond.selects "SlatCratesModel" ({ cls := "SlatCratesModel", name := "crate", desc := "(II)I" } : Jvm.MethodName) ({ cls := "SlatCratesModel", name := "crate", desc := "(II)I" } : Jvm.MethodName)) ∈ lw_all := lw_g (lw_at lw_m10 131 rfl) rfl
theorem q2369 : (Jvm.Cond.code ({ cls := "SlatCratesModel", name := "crate", desc := "(II)I" } : Jvm.MethodName) prog_7_method_54_code (3 : Nat) (Option.some Jvm.ClassFile.FieldType.int)) ∈ lw_all := lw_g (lw_at lw_m10 132 rfl) rfl
theorem q2370 : (Jvm.Cond.methodLink "SlatCratesModel" (190 : Nat) ({ cls := "SlatCratesModel", name := "loadOf", desc := "(I)I" } : Jvm.MethodName)) ∈ lw_all := lw_g (lw_at lw_m10 133 rfl) rfl
theorem q2371 : (Jvm.Cond.privateMethod ({ cls := "SlatCratesModel", name := "loadOf", desc := "(I)I" } : Jvm.MethodName)) ∈ lw_tbl := lw_at lw_m10 134 rfl
theorem q2372 : (Jvm.Cond.instanceMethod ({ cls := "SlatCratesModel", name := "loadOf", desc := "(I)I" } : Jvm.MethodName)) ∈ lw_all := lw_g (lw_at lw_m10 135 rfl) rfl
theorem q2373 : (Jvm.Cond.code ({ cls := "SlatCratesModel", name := "loadOf", desc := "(I)I" } : Jvm.MethodName) prog_7_method_15_code (4 : Nat) (Option.some Jvm.ClassFile.FieldType.int)) ∈ lw_all := lw_g (lw_at lw_m10 136 rfl) rfl
theorem q2374 : (Jvm.Cond.methodLink "SlatCratesModel" (193 : Nat) ({ cls := "SlatCratesModel", name := "effortTo", desc := "(I)I" } : Jvm.MethodName)) ∈ lw_all := lw_g (lw_at lw_m10 137 rfl) rfl
theorem q2375 : (Jvm.Cond.privateMethod ({ cls := "SlatCratesModel", name := "effortTo", desc := "(I)I" } : Jvm.MethodName)) ∈ lw_tbl := lw_at lw_m10 138 rfl
theorem q2376 : (Jvm.Cond.instanceMethod ({ cls := "SlatCratesModel", name := "effortTo", desc := "(I)I" } : Jvm.MethodName)) ∈ lw_all := lw_g (lw_at lw_m10 139 rfl) rfl
theorem q2377 : (Jvm.Cond.code ({ cls := "SlatCratesModel", name := "effortTo", desc := "(I)I" } : Jvm.MethodName) prog_7_method_24_code (4 : Nat) (Option.some Jvm.ClassFile.FieldType.int)) ∈ lw_all := lw_g (lw_at lw_m10 140 rfl) rfl
theorem q2378 : (Jvm.Cond.methodLink "SlatCratesModel" (196 : Nat) ({ cls := "SlatCratesModel", name := "isTold", desc := "(I)Z" } : Jvm.MethodName)) ∈ lw_all := lw_g (lw_at lw_m10 141 rfl) rfl
theorem q2379 : (Jvm.Cond.privateMethod ({ cls := "SlatCratesModel", name := "isTold", desc := "(I)Z" } : Jvm.MethodName)) ∈ lw_tbl := lw_at lw_m10 142 rfl
theorem q2380 : (Jvm.Cond.instanceMethod ({ cls := "SlatCratesModel", name := "isTold", desc := "(I)Z" } : Jvm.MethodName)) ∈ lw_all := lw_g (lw_at lw_m10 143 rfl) rfl
theorem q2381 : (Jvm.Cond.code ({ cls := "SlatCratesModel", name := "isTold", desc := "(I)Z" } : Jvm.MethodName) prog_7_method_23_code (5 : Nat) (Option.some Jvm.ClassFile.FieldType.boolean)) ∈ lw_all := lw_g (lw_at lw_m10 144 rfl) rfl
theorem q2382 : (Jvm.Cond.methodLink "SlatCratesModel" (83 : Nat) ({ cls := "SlatCratesModel", name := "signsOf", desc := "(I)I" } : Jvm.MethodName)) ∈ lw_all := lw_g (lw_at lw_m10 145 rfl) rfl
theorem q2383 : (Jvm.Cond.privateMethod ({ cls := "SlatCratesModel", name := "signsOf", desc := "(I)I" } : Jvm.MethodName)) ∈ lw_tbl := lw_at lw_m10 146 rfl
theorem q2384 : (Jvm.Cond.instanceMethod ({ cls := "SlatCratesModel", name := "signsOf", desc := "(I)I" } : Jvm.MethodName)) ∈ lw_all := lw_g (lw_at lw_m10 147 rfl) rfl
theorem q2385 : (Jvm.Cond.code ({ cls := "SlatCratesModel", name := "signsOf", desc := "(I)I" } : Jvm.MethodName) prog_7_method_21_code (4 : Nat) (Option.some Jvm.ClassFile.FieldType.int)) ∈ lw_all := lw_g (lw_at lw_m10 148 rfl) rfl
theorem q2386 : (Jvm.Cond.methodLink "SlatCratesModel" (77 : Nat) ({ cls := "SlatCratesModel", name := "signOf", desc := "(II)I" } : Jvm.MethodName)) ∈ lw_all := lw_g (lw_at lw_m10 149 rfl) rfl
theorem q2387 : (Jvm.Cond.privateMethod ({ cls := "SlatCratesModel", name := "signOf", desc := "(II)I" } : Jvm.MethodName)) ∈ lw_tbl := lw_at lw_m10 150 rfl
theorem q2388 : (Jvm.Cond.instanceMethod ({ cls := "SlatCratesModel", name := "signOf", desc := "(II)I" } : Jvm.MethodName)) ∈ lw_all := lw_g (lw_at lw_m10 151 rfl) rfl
theorem q2389 : (Jvm.Cond.code ({ cls := "SlatCratesModel", name := "signOf", desc := "(II)I" } : Jvm.MethodName) prog_7_method_20_code (3 : Nat) (Option.some Jvm.ClassFile.FieldType.int)) ∈ lw_all := lw_g (lw_at lw_m10 152 rfl) rfl
theorem q2390 : (Jvm.Cond.methodLink "SlatCratesModel" (70 : Nat) ({ cls := "SlatCratesModel", name := "isOpen", desc := "(II)Z" } : Jvm.MethodName)) ∈ lw_all := lw_g (lw_at lw_m10 153 rfl) rfl
theorem q2391 : (Jvm.Cond.privateMethod ({ cls := "SlatCratesModel", name := "isOpen", desc := "(II)Z" } : Jvm.MethodName)) ∈ lw_tbl := lw_at lw_m10 154 rfl
theorem q2392 : (Jvm.Cond.instanceMethod ({ cls := "SlatCratesModel", name := "isOpen", desc := "(II)Z" } : Jvm.MethodName)) ∈ lw_all := lw_g (lw_at lw_m10 155 rfl) rfl
theorem q2393 : (Jvm.Cond.code ({ cls := "SlatCratesModel", name := "isOpen", desc := "(II)Z" } : Jvm.MethodName) prog_7_method_18_code (5 : Nat) (Option.some Jvm.ClassFile.FieldType.boolean)) ∈ lw_all := lw_g (lw_at lw_m10 156 rfl) rfl
theorem q2394 : (Jvm.Cond.methodLink "SlatCratesModel" (73 : Nat) ({ cls := "SlatCratesModel", name := "signBy", desc := "(IIZ)I" } : Jvm.MethodName)) ∈ lw_all := lw_g (lw_at lw_m10 157 rfl) rfl
theorem q2395 : (Jvm.Cond.privateMethod ({ cls := "SlatCratesModel", name := "signBy", desc := "(IIZ)I" } : Jvm.MethodName)) ∈ lw_tbl := lw_at lw_m10 158 rfl
theorem q2396 : (Jvm.Cond.instanceMethod ({ cls := "SlatCratesModel", name := "signBy", desc := "(IIZ)I" } : Jvm.MethodName)) ∈ lw_all := lw_g (lw_at lw_m10 159 rfl) rfl
theorem q2397 : (Jvm.Cond.code ({ cls := "SlatCratesModel", name := "signBy", desc := "(IIZ)I" } : Jvm.MethodName) prog_7_method_19_code (5 : Nat) (Option.some Jvm.ClassFile.FieldType.int)) ∈ lw_all := lw_g (lw_at lw_m10 160 rfl) rfl
theorem q2398 : (Jvm.Cond.methodLink "SlatCratesModel" (199 : Nat) ({ cls := "SlatCratesModel", name := "lettersSeen", desc := "(I)I" } : Jvm.MethodName)) ∈ lw_all := lw_g (lw_at lw_m10 161 rfl) rfl
theorem q2399 : (Jvm.Cond.privateMethod ({ cls := "SlatCratesModel", name := "lettersSeen", desc := "(I)I" } : Jvm.MethodName)) ∈ lw_tbl := lw_at lw_m10 162 rfl
theorem q2400 : (Jvm.Cond.instanceMethod ({ cls := "SlatCratesModel", name := "lettersSeen", desc := "(I)I" } : Jvm.MethodName)) ∈ lw_all := lw_g (lw_at lw_m10 163 rfl) rfl
theorem q2401 : (Jvm.Cond.code ({ cls := "SlatCratesModel", name := "lettersSeen", desc := "(I)I" } : Jvm.MethodName) prog_7_method_22_code (4 : Nat) (Option.some Jvm.ClassFile.FieldType.int)) ∈ lw_all := lw_g (lw_at lw_m10 164 rfl) rfl
theorem q2402 : (Jvm.Cond.methodLink "SlatCratesModel" (202 : Nat) ({ cls := "SlatCratesModel", name := "bestFor", desc := "(I)I" } : Jvm.MethodName)) ∈ lw_all := lw_g (lw_at lw_m10 165 rfl) rfl
theorem q2403 : (Jvm.Cond.privateMethod ({ cls := "SlatCratesModel", name := "bestFor", desc := "(I)I" } : Jvm.MethodName)) ∈ lw_tbl := lw_at lw_m10 166 rfl
theorem q2404 : (Jvm.Cond.instanceMethod ({ cls := "SlatCratesModel", name := "bestFor", desc := "(I)I" } : Jvm.MethodName)) ∈ lw_all := lw_g (lw_at lw_m10 167 rfl) rfl
theorem q2405 : (Jvm.Cond.code ({ cls := "SlatCratesModel", name := "bestFor", desc := "(I)I" } : Jvm.MethodName) prog_7_method_53_code (7 : Nat) (Option.some Jvm.ClassFile.FieldType.int)) ∈ lw_all := lw_g (lw_at lw_m10 168 rfl) rfl
theorem q2407 : (Jvm.Cond.instanceMethod ({ cls := "SlatCratesModel", name := "letter", desc := "(II)I" } : Jvm.MethodName)) ∈ lw_all := lw_g (lw_at lw_m10 170 rfl) rfl
theorem q2408 : (Jvm.Cond.selects "SlatCratesModel" ({ cls := "SlatCratesModel", name := "letter", desc := "(II)I" } : Jvm.MethodName) ({ cls := "SlatCratesModel", name := "letter", desc := "(II)I" } : Jvm.MethodName)) ∈ lw_all := lw_g (lw_at lw_m10 171 rfl) rfl
theorem q2409 : (Jvm.Cond.code ({ cls := "SlatCratesModel", name := "letter", desc := "(II)I" } : Jvm.MethodName) prog_7_method_56_code (3 : Nat) (Option.some Jvm.ClassFile.FieldType.int)) ∈ lw_all := lw_g (lw_at lw_m10 172 rfl) rfl
theorem q2410 : (Jvm.Cond.methodLink "SlatCratesModel" (205 : Nat) ({ cls := "SlatCratesModel", name := "isPlace", desc := "(I)Z" } : Jvm.MethodName)) ∈ lw_all := lw_g (lw_at lw_m10 173 rfl) rfl
theorem q2411 : (Jvm.Cond.static ({ cls := "SlatCratesModel", name := "isPlace", desc := "(I)Z" } : Jvm.MethodName)) ∈ lw_all := lw_g (lw_at lw_m10 174 rfl) rfl
theorem q2412 : (Jvm.Cond.code ({ cls := "SlatCratesModel", name := "isPlace", desc := "(I)Z" } : Jvm.MethodName) prog_7_method_55_code (1 : Nat) (Option.some Jvm.ClassFile.FieldType.boolean)) ∈ lw_all := lw_g (lw_at lw_m10 175 rfl) rfl
theorem q2414 : (Jvm.Cond.instanceMethod ({ cls := "SlatCratesModel", name := "seen", desc := "(II)I" } : Jvm.MethodName)) ∈ lw_all := lw_g (lw_at lw_m10 177 rfl) rfl
theorem q2415 : (Jvm.Cond.selects "SlatCratesModel" ({ cls := "SlatCratesModel", name := "seen", desc := "(II)I" } : Jvm.MethodName) ({ cls := "SlatCratesModel", name := "seen", desc := "(II)I" } : Jvm.MethodName)) ∈ lw_all := lw_g (lw_at lw_m10 178 rfl) rfl
theorem q2416 : (Jvm.Cond.code ({ cls := "SlatCratesModel", name := "seen", desc := "(II)I" } : Jvm.MethodName) prog_7_method_57_code (3 : Nat) (Option.some Jvm.ClassFile.FieldType.int)) ∈ lw_all := lw_g (lw_at lw_m10 179 rfl) rfl
theorem q2418 : (Jvm.Cond.instanceMethod ({ cls := "SlatCratesModel", name := "whyNot", desc := "(II)I" } : Jvm.MethodName)) ∈ lw_all := lw_g (lw_at lw_m10 181 rfl) rfl
theorem q2419 : (Jvm.Cond.selects "SlatCratesModel" ({ cls := "SlatCratesModel", name := "whyNot", desc := "(II)I" } : Jvm.MethodName) ({ cls := "SlatCratesModel", name := "whyNot", desc := "(II)I" } : Jvm.MethodName)) ∈ lw_all := lw_g (lw_at lw_m10 182 rfl) rfl
theorem q2420 : (Jvm.Cond.code ({ cls := "SlatCratesModel", name := "whyNot", desc := "(II)I" } : Jvm.MethodName) prog_7_method_58_code (3 : Nat) (Option.some Jvm.ClassFile.FieldType.int)) ∈ lw_all := lw_g (lw_at lw_m10 183 rfl) rfl
theorem q2422 : (Jvm.Cond.instanceMethod ({ cls := "SlatCratesModel", name := "effort", desc := "(II)I" } : Jvm.MethodName)) ∈ lw_all := lw_g (lw_at lw_m10 185 rfl) rfl
theorem q2423 : (Jvm.Cond.selects "SlatCratesModel" ({ cls := "SlatCratesModel", name := "effort", desc := "(II)I" } : Jvm.MethodName) ({ cls := "SlatCratesModel", name := "effort", desc := "(II)I" } : Jvm.MethodName)) ∈ lw_all := lw_g (lw_at lw_m10 186 rfl) rfl
theorem q2424 : (Jvm.Cond.code ({ cls := "SlatCratesModel", name := "effort", desc := "(II)I" } : Jvm.MethodName) prog_7_method_59_code (5 : Nat) (Option.some Jvm.ClassFile.FieldType.int)) ∈ lw_all := lw_g (lw_at lw_m10 187 rfl) rfl
theorem q2426 : (Jvm.Cond.instanceMethod ({ cls := "SlatCratesModel", name := "alike", desc := "(IIII)I" } : Jvm.MethodName)) ∈ lw_all := lw_g (lw_at lw_m10 189 rfl) rfl
theorem q2427 : (Jvm.Cond.selects "SlatCratesModel" ({ cls := "SlatCratesModel", name := "alike", desc := "(IIII)I" } : Jvm.MethodName) ({ cls := "SlatCratesModel", name := "alike", desc := "(IIII)I" } : Jvm.MethodName)) ∈ lw_all := lw_g (lw_at lw_m10 190 rfl) rfl
theorem q2428 : (Jvm.Cond.code ({ cls := "SlatCratesModel", name := "alike", desc := "(IIII)I" } : Jvm.MethodName) prog_7_method_61_code (7 : Nat) (Option.some Jvm.ClassFile.FieldType.int)) ∈ lw_all := lw_g (lw_at lw_m10 191 rfl) rfl
theorem q2429 : (Jvm.Cond.methodLink "SlatCratesModel" (208 : Nat) ({ cls := "SlatCratesModel", name := "isAs", desc := "(III)Z" } : Jvm.MethodName)) ∈ lw_all := lw_g (lw_at lw_m10 192 rfl) rfl
theorem q2430 : (Jvm.Cond.privateMethod ({ cls := "SlatCratesModel", name := "isAs", desc := "(III)Z" } : Jvm.MethodName)) ∈ lw_tbl := lw_at lw_m10 193 rfl
theorem q2431 : (Jvm.Cond.instanceMethod ({ cls := "SlatCratesModel", name := "isAs", desc := "(III)Z" } : Jvm.MethodName)) ∈ lw_all := lw_g (lw_at lw_m10 194 rfl) rfl
theorem q2432 : (Jvm.Cond.code ({ cls := "SlatCratesModel", name := "isAs", desc := "(III)Z" } : Jvm.MethodName) prog_7_method_60_code (4 : Nat) (Option.some Jvm.ClassFile.FieldType.boolean)) ∈ lw_all := lw_g (lw_at lw_m10 195 rfl) rfl
theorem q2434 : (Jvm.Cond.instanceMethod ({ cls := "SlatCratesModel", name := "nest", desc := "(I)I" } : Jvm.MethodName)) ∈ lw_all := lw_g (lw_at lw_m10 197 rfl) rfl
theorem q2435 : (Jvm.Cond.selects "SlatCratesModel" ({ cls := "SlatCratesModel", name := "nest", desc := "(I)I" } : Jvm.MethodName) ({ cls := "SlatCratesModel", name := "nest", desc := "(I)I" } : Jvm.MethodName)) ∈ lw_all := lw_g (lw_at lw_m10 198 rfl) rfl
theorem q2436 : (Jvm.Cond.code ({ cls := "SlatCratesModel", name := "nest", desc := "(I)I" } : Jvm.MethodName) prog_7_method_65_code (8 : Nat) (Option.some Jvm.ClassFile.FieldType.int)) ∈ lw_all := lw_g (lw_at lw_m10 199 rfl) rfl
theorem q2437 : (Jvm.Cond.methodLink "SlatCratesModel" (217 : Nat) ({ cls := "SlatCratesModel", name := "longestNest", desc := "()I" } : Jvm.MethodName)) ∈ lw_all := lw_g (lw_at lw_m10 200 rfl) rfl
theorem q2438 : (Jvm.Cond.privateMethod ({ cls := "SlatCratesModel", name := "longestNest", desc := "()I" } : Jvm.MethodName)) ∈ lw_tbl := lw_at lw_m10 201 rfl
theorem q2439 : (Jvm.Cond.instanceMethod ({ cls := "SlatCratesModel", name := "longestNest", desc := "()I" } : Jvm.MethodName)) ∈ lw_all := lw_g (lw_at lw_m10 202 rfl) rfl
theorem q2440 : (Jvm.Cond.code ({ cls := "SlatCratesModel", name := "longestNest", desc := "()I" } : Jvm.MethodName) prog_7_method_64_code (3 : Nat) (Option.some Jvm.ClassFile.FieldType.int)) ∈ lw_all := lw_g (lw_at lw_m10 203 rfl) rfl
theorem q2441 : (Jvm.Cond.methodLink "SlatCratesModel" (214 : Nat) ({ cls := "SlatCratesModel", name := "laysNests", desc := "()V" } : Jvm.MethodName)) ∈ lw_all := lw_g (lw_at lw_m10 204 rfl) rfl
theorem q2442 : (Jvm.Cond.privateMethod ({ cls := "SlatCratesModel", name := "laysNests", desc := "()V" } : Jvm.MethodName)) ∈ lw_tbl := lw_at lw_m10 205 rfl
theorem q2443 : (Jvm.Cond.instanceMethod ({ cls := "SlatCratesModel", name := "laysNests", desc := "()V" } : Jvm.MethodName)) ∈ lw_all := lw_g (lw_at lw_m10 206 rfl) rfl
theorem q2444 : (Jvm.Cond.code ({ cls := "SlatCratesModel", name := "laysNests", desc := "()V" } : Jvm.MethodName) prog_7_method_63_code (5 : Nat) (Option.none : Option Jvm.ClassFile.FieldType)) ∈ lw_all := lw_g (lw_at lw_m10 207 rfl) rfl
theorem q2445 : (Jvm.Cond.methodLink "SlatCratesModel" (211 : Nat) ({ cls := "SlatCratesModel", name := "isLoose", desc := "(I)Z" } : Jvm.MethodName)) ∈ lw_all := lw_g (lw_at lw_m10 208 rfl) rfl
theorem q2446 : (Jvm.Cond.privateMethod ({ cls := "SlatCratesModel", name := "isLoose", desc := "(I)Z" } : Jvm.MethodName)) ∈ lw_tbl := lw_at lw_m10 209 rfl
theorem q2447 : (Jvm.Cond.instanceMethod ({ cls := "SlatCratesModel", name := "isLoose", desc := "(I)Z" } : Jvm.MethodName)) ∈ lw_all := lw_g (lw_at lw_m10 210 rfl) rfl
theorem q2448 : (Jvm.Cond.code ({ cls := "SlatCratesModel", name := "isLoose", desc := "(I)Z" } : Jvm.MethodName) prog_7_method_62_code (2 : Nat) (Option.some Jvm.ClassFile.FieldType.boolean)) ∈ lw_all := lw_g (lw_at lw_m10 211 rfl) rfl
theorem q2450 : (Jvm.Cond.instanceMethod ({ cls := "SlatCratesModel", name := "count", desc := "(I)I" } : Jvm.MethodName)) ∈ lw_all := lw_g (lw_at lw_m10 213 rfl) rfl
theorem q2451 : (Jvm.Cond.selects "SlatCratesModel" ({ cls := "SlatCratesModel", name := "count", desc := "(I)I" } : Jvm.MethodName) ({ cls := "SlatCratesModel", name := "count", desc := "(I)I" } : Jvm.MethodName)) ∈ lw_all := lw_g (lw_at lw_m10 214 rfl) rfl
theorem q2452 : (Jvm.Cond.code ({ cls := "SlatCratesModel", name := "count", desc := "(I)I" } : Jvm.MethodName) prog_7_method_70_code (2 : Nat) (Option.some Jvm.ClassFile.FieldType.int)) ∈ lw_all := lw_g (lw_at lw_m10 215 rfl) rfl
theorem q2453 : (Jvm.Cond.methodLink "SlatCratesModel" (223 : Nat) ({ cls := "SlatCratesModel", name := "onGround", desc := "(Z)I" } : Jvm.MethodName)) ∈ lw_all := lw_g (lw_at lw_m10 216 rfl) rfl
theorem q2454 : (Jvm.Cond.privateMethod ({ cls := "SlatCratesModel", name := "onGround", desc := "(Z)I" } : Jvm.MethodName)) ∈ lw_tbl := lw_at lw_m10 217 rfl
theorem q2455 : (Jvm.Cond.instanceMethod ({ cls := "SlatCratesModel", name := "onGround", desc := "(Z)I" } : Jvm.MethodName)) ∈ lw_all := lw_g (lw_at lw_m10 218 rfl) rfl
theorem q2456 : (Jvm.Cond.code ({ cls := "SlatCratesModel", name := "onGround", desc := "(Z)I" } : Jvm.MethodName) prog_7_method_68_code (4 : Nat) (Option.some Jvm.ClassFile.FieldType.int)) ∈ lw_all := lw_g (lw_at lw_m10 219 rfl) rfl
theorem q2457 : (Jvm.Cond.methodLink "SlatCratesModel" (227 : Nat) ({ cls := "SlatCratesModel", name := "deepest", desc := "()I" } : Jvm.MethodName)) ∈ lw_all := lw_g (lw_at lw_m10 220 rfl) rfl
theorem q2458 : (Jvm.Cond.privateMethod ({ cls := "SlatCratesModel", name := "deepest", desc := "()I" } : Jvm.MethodName)) ∈ lw_tbl := lw_at lw_m10 221 rfl
theorem q2459 : (Jvm.Cond.instanceMethod ({ cls := "SlatCratesModel", name := "deepest", desc := "()I" } : Jvm.MethodName)) ∈ lw_all := lw_g (lw_at lw_m10 222 rfl) rfl
theorem q2460 : (Jvm.Cond.code ({ cls := "SlatCratesModel", name := "deepest", desc := "()I" } : Jvm.MethodName) prog_7_method_67_code (3 : Nat) (Option.some Jvm.ClassFile.FieldType.int)) ∈ lw_all := lw_g (lw_at lw_m10 223 rfl) rfl
theorem q2461 : (Jvm.Cond.methodLink "SlatCratesModel" (230 : Nat) ({ cls := "SlatCratesModel", name := "sum", desc := "(I)I" } : Jvm.MethodName)) ∈ lw_all := lw_g (lw_at lw_m10 224 rfl) rfl
theorem q2462 : (Jvm.Cond.privateMethod ({ cls := "SlatCratesModel", name := "sum", desc := "(I)I" } : Jvm.MethodName)) ∈ lw_tbl := lw_at lw_m10 225 rfl
theorem q2463 : (Jvm.Cond.instanceMethod ({ cls := "SlatCratesModel", name := "sum", desc := "(I)I" } : Jvm.MethodName)) ∈ lw_all := lw_g (lw_at lw_m10 226 rfl) rfl
theorem q2464 : (Jvm.Cond.code ({ cls := "SlatCratesModel", name := "sum", desc := "(I)I" } : Jvm.MethodName) prog_7_method_66_code (4 : Nat) (Option.some Jvm.ClassFile.FieldType.int)) ∈ lw_all := lw_g (lw_at lw_m10 227 rfl) rfl
theorem q2465 : (Jvm.Cond.methodLink "SlatCratesModel" (220 : Nat) ({ cls := "SlatCratesModel", name := "crate", desc := "(II)I" } : Jvm.MethodName)) ∈ lw_all := lw_g (lw_at lw_m10 228 rfl) rfl
theorem q2466 : (Jvm.Cond.methodLink "SlatCratesModel" (233 : Nat) ({ cls := "SlatCratesModel", name := "rowsSeen", desc := "()I" } : Jvm.MethodName)) ∈ lw_all := lw_g (lw_at lw_m10 229 rfl) rfl
theorem q2467 : (Jvm.Cond.privateMethod ({ cls := "SlatCratesModel", name := "rowsSeen", desc := "()I" } : Jvm.MethodName)) ∈ lw_tbl := lw_at lw_m10 230 rfl
theorem q2468 : (Jvm.Cond.instanceMethod ({ cls := "SlatCratesModel", name := "rowsSeen", desc := "()I" } : Jvm.MethodName)) ∈ lw_all := lw_g (lw_at lw_m10 231 rfl) rfl
theorem q2469 : (Jvm.Cond.code ({ cls := "SlatCratesModel", name := "rowsSeen", desc := "()I" } : Jvm.MethodName) prog_7_method_69_code (5 : Nat) (Option.some Jvm.ClassFile.FieldType.int)) ∈ lw_all := lw_g (lw_at lw_m10 232 rfl) rfl
theorem q2471 : (Jvm.Cond.instanceMethod ({ cls := "SlatCratesModel", name := "full", desc := "()D" } : Jvm.MethodName)) ∈ lw_all := lw_g (lw_at lw_m10 234 rfl) rfl
theorem q2472 : (Jvm.Cond.selects "SlatCratesModel" ({ cls := "SlatCratesModel", name := "full", desc := "()D" } : Jvm.MethodName) ({ cls := "SlatCratesModel", name := "full", desc := "()D" } : Jvm.MethodName)) ∈ lw_all := lw_g (lw_at lw_m10 235 rfl) rfl
theorem q2473 : (Jvm.Cond.code ({ cls := "SlatCratesModel", name := "full", desc := "()D" } : Jvm.MethodName) prog_7_method_71_code (2 : Nat) (Option.some Jvm.ClassFile.FieldType.double)) ∈ lw_all := lw_g (lw_at lw_m10 236 rfl) rfl
theorem q2475 : (Jvm.Cond.instanceMethod ({ cls := "SlatCratesModel", name := "ifTurned", desc := "(II)I" } : Jvm.MethodName)) ∈ lw_all := lw_g (lw_at lw_m10 238 rfl) rfl
theorem q2476 : (Jvm.Cond.selects "SlatCratesModel" ({ cls := "SlatCratesModel", name := "ifTurned", desc := "(II)I" } : Jvm.MethodName) ({ cls := "SlatCratesModel", name := "ifTurned", desc := "(II)I" } : Jvm.MethodName)) ∈ lw_all := lw_g (lw_at lw_m10 239 rfl) rfl
theorem q2477 : (Jvm.Cond.code ({ cls := "SlatCratesModel", name := "ifTurned", desc := "(II)I" } : Jvm.MethodName) prog_7_method_72_code (5 : Nat) (Option.some Jvm.ClassFile.FieldType.int)) ∈ lw_all := lw_g (lw_at lw_m11 0 rfl) rfl
theorem q2479 : (Jvm.Cond.instanceMethod ({ cls := "SlatCratesModel", name := "bestTurn", desc := "()I" } : Jvm.MethodName)) ∈ lw_all := lw_g (lw_at lw_m11 2 rfl) rfl
theorem q2480 : (Jvm.Cond.selects "SlatCratesModel" ({ cls := "SlatCratesModel", name := "bestTurn", desc := "()I" } : Jvm.MethodName) ({ cls := "SlatCratesModel", name := "bestTurn", desc := "()I" } : Jvm.MethodName)) ∈ lw_all := lw_g (lw_at lw_m11 3 rfl) rfl
theorem q2481 : (Jvm.Cond.code ({ cls := "SlatCratesModel", name := "bestTurn", desc := "()I" } : Jvm.MethodName) prog_7_method_73_code (5 : Nat) (Option.some Jvm.ClassFile.FieldType.int)) ∈ lw_all := lw_g (lw_at lw_m11 4 rfl) rfl
theorem q2482 : (Jvm.Cond.methodLink "SlatCratesModel" (236 : Nat) ({ cls := "SlatCratesModel", name := "ifTurned", desc := "(II)I" } : Jvm.MethodName)) ∈ lw_all := lw_g (lw_at lw_m11 5 rfl) rfl
theorem q2484 : (Jvm.Cond.instanceMethod ({ cls := "SlatCratesModel", name := "undo", desc := "()I" } : Jvm.MethodName)) ∈ lw_all := lw_g (lw_at lw_m11 7 rfl) rfl
theorem q2485 : (Jvm.Cond.selects "SlatCratesModel" ({ cls := "SlatCratesModel", name := "undo", desc := "()I" } : Jvm.MethodName) ({ cls := "SlatCratesModel", name := "undo", desc := "()I" } : Jvm.MethodName)) ∈ lw_all := lw_g (lw_at lw_m11 8 rfl) rfl
theorem q2486 : (Jvm.Cond.code ({ cls := "SlatCratesModel", name := "undo", desc := "()I" } : Jvm.MethodName) prog_7_method_74_code (1 : Nat) (Option.some Jvm.ClassFile.FieldType.int)) ∈ lw_all := lw_g (lw_at lw_m11 9 rfl) rfl
theorem q2488 : (Jvm.Cond.instanceMethod ({ cls := "SlatCratesModel", name := "save", desc := "()I" } : Jvm.MethodName)) ∈ lw_all := lw_g (lw_at lw_m11 11 rfl) rfl
theorem q2489 : (Jvm.Cond.selects "SlatCratesModel" ({ cls := "SlatCratesModel", name := "save", desc := "()I" } : Jvm.MethodName) ({ cls := "SlatCratesModel", name := "save", desc := "()I" } : Jvm.MethodName)) ∈ lw_all := lw_g (lw_at lw_m11 12 rfl) rfl
theorem q2490 : (Jvm.Cond.code ({ cls := "SlatCratesModel", name := "save", desc := "()I" } : Jvm.MethodName) prog_7_method_75_code (1 : Nat) (Option.some Jvm.ClassFile.FieldType.int)) ∈ lw_all := lw_g (lw_at lw_m11 13 rfl) rfl
theorem q2492 : (Jvm.Cond.instanceMethod ({ cls := "SlatCratesModel", name := "restore", desc := "()I" } : Jvm.MethodName)) ∈ lw_all := lw_g (lw_at lw_m11 15 rfl) rfl
theorem q2493 : (Jvm.Cond.selects "SlatCratesModel" ({ cls := "SlatCratesModel", name := "restore", desc := "()I" } : Jvm.MethodName) ({ cls := "SlatCratesModel", name := "restore", desc := "()I" } : Jvm.MethodName)) ∈ lw_all := lw_g (lw_at lw_m11 16 rfl) rfl
theorem q2494 : (Jvm.Cond.code ({ cls := "SlatCratesModel", name := "restore", desc := "()I" } : Jvm.MethodName) prog_7_method_76_code (1 : Nat) (Option.some Jvm.ClassFile.FieldType.int)) ∈ lw_all := lw_g (lw_at lw_m11 17 rfl) rfl
theorem q2525 : (Jvm.Cond.castable "SlatCratesModel" "java/lang/Object") ∈ lw_tbl := lw_at lw_m11 48 rfl
theorem in_X2 : ∀ w ∈ wsX20, w ∈ lw_all := lw_in wsX20 [2162, 2164, 2166, 2168, 2170, 2172, 2174, 2176, 2178, 2180, 2182, 2184, 2186, 2188, 2190, 2192, 2194, 2196, 2198] (by decide +kernel) (by decide +kernel)

/-! the law's own entry -/
abbrev cL_law : ByteArray := code
def dkwL_law_30 : List UInt8 := [167, 252, 255, 4, 172]
abbrev dktL_law_30 : List UInt8 := dkwL_law_30 ++ []
def dkwL_law_29 : List UInt8 := [182, 0, 109, 159, 0, 18, 3, 172, 43, 182, 0, 110, 44, 182, 0, 113, 159, 0, 5, 3, 172, 132, 3, 5]
abbrev dktL_law_29 : List UInt8 := dkwL_law_29 ++ dktL_law_30
def dkwL_law_28 : List UInt8 := [159, 0, 44, 3, 172, 43, 182, 0, 102, 44, 182, 0, 105, 159, 0, 31, 3, 172, 43, 182, 0, 106, 44]
abbrev dktL_law_28 : List UInt8 := dkwL_law_28 ++ dktL_law_29
def dkwL_law_27 : List UInt8 := [46, 42, 29, 5, 96, 46, 182, 0, 97, 159, 0, 57, 3, 172, 43, 182, 0, 98, 44, 182, 0, 101]
abbrev dktL_law_27 : List UInt8 := dkwL_law_27 ++ dktL_law_28
def dkwL_law_26 : List UInt8 := [3, 172, 167, 0, 88, 43, 42, 29, 4, 96, 46, 42, 29, 5, 96, 46, 182, 0, 94, 44, 42, 29, 4, 96]
abbrev dktL_law_26 : List UInt8 := dkwL_law_26 ++ dktL_law_27
def dkwL_law_25 : List UInt8 := [24, 4, 24, 6, 151, 153, 0, 21, 24, 4, 24, 4, 151, 153, 0, 11, 24, 6, 24, 6, 151, 154, 0, 5]
abbrev dktL_law_25 : List UInt8 := dkwL_law_25 ++ dktL_law_26
def dkwL_law_24 : List UInt8 := [4, 96, 46, 182, 0, 88, 159, 0, 131, 3, 172, 43, 182, 0, 89, 57, 4, 44, 182, 0, 93, 57, 6]
abbrev dktL_law_24 : List UInt8 := dkwL_law_24 ++ dktL_law_25
def dkwL_law_23 : List UInt8 := [29, 4, 96, 46, 182, 0, 84, 159, 0, 154, 3, 172, 43, 42, 29, 4, 96, 46, 182, 0, 85, 44, 42, 29]
abbrev dktL_law_23 : List UInt8 := dkwL_law_23 ++ dktL_law_24
def dkwL_law_22 : List UInt8 := [42, 29, 7, 96, 46, 182, 0, 80, 159, 0, 177, 3, 172, 43, 42, 29, 4, 96, 46, 182, 0, 81, 44, 42]
abbrev dktL_law_22 : List UInt8 := dkwL_law_22 ++ dktL_law_23
def dkwL_law_21 : List UInt8 := [42, 29, 7, 96, 46, 182, 0, 77, 44, 42, 29, 4, 96, 46, 42, 29, 5, 96, 46, 42, 29, 6, 96, 46]
abbrev dktL_law_21 : List UInt8 := dkwL_law_21 ++ dktL_law_22
def dkwL_law_20 : List UInt8 := [182, 0, 76, 159, 0, 230, 3, 172, 43, 42, 29, 4, 96, 46, 42, 29, 5, 96, 46, 42, 29, 6, 96, 46]
abbrev dktL_law_20 : List UInt8 := dkwL_law_20 ++ dktL_law_21
def dkwL_law_19 : List UInt8 := [42, 29, 4, 96, 46, 42, 29, 5, 96, 46, 182, 0, 73, 44, 42, 29, 4, 96, 46, 42, 29, 5, 96, 46]
abbrev dktL_law_19 : List UInt8 := dkwL_law_19 ++ dktL_law_20
def dkwL_law_18 : List UInt8 := [46, 182, 0, 69, 44, 42, 29, 4, 96, 46, 42, 29, 5, 96, 46, 182, 0, 72, 159, 1, 7, 3, 172, 43]
abbrev dktL_law_18 : List UInt8 := dkwL_law_18 ++ dktL_law_19
def dkwL_law_17 : List UInt8 := [46, 42, 29, 5, 96, 46, 182, 0, 68, 159, 1, 40, 3, 172, 43, 42, 29, 4, 96, 46, 42, 29, 5, 96]
abbrev dktL_law_17 : List UInt8 := dkwL_law_17 ++ dktL_law_18
def dkwL_law_16 : List UInt8 := [159, 1, 73, 3, 172, 43, 42, 29, 4, 96, 46, 42, 29, 5, 96, 46, 182, 0, 65, 44, 42, 29, 4, 96]
abbrev dktL_law_16 : List UInt8 := dkwL_law_16 ++ dktL_law_17
def dkwL_law_15 : List UInt8 := [46, 42, 29, 5, 96, 46, 182, 0, 61, 44, 42, 29, 4, 96, 46, 42, 29, 5, 96, 46, 182, 0, 64]
abbrev dktL_law_15 : List UInt8 := dkwL_law_15 ++ dktL_law_16
def dkwL_law_14 : List UInt8 := [44, 42, 29, 4, 96, 46, 42, 29, 5, 96, 46, 182, 0, 60, 159, 1, 106, 3, 172, 43, 42, 29, 4, 96]
abbrev dktL_law_14 : List UInt8 := dkwL_law_14 ++ dktL_law_15
def dkwL_law_13 : List UInt8 := [96, 46, 182, 0, 56, 159, 1, 139, 3, 172, 43, 42, 29, 4, 96, 46, 42, 29, 5, 96, 46, 182, 0, 57]
abbrev dktL_law_13 : List UInt8 := dkwL_law_13 ++ dktL_law_14
def dkwL_law_12 : List UInt8 := [172, 43, 42, 29, 4, 96, 46, 42, 29, 5, 96, 46, 182, 0, 53, 44, 42, 29, 4, 96, 46, 42, 29, 5]
abbrev dktL_law_12 : List UInt8 := dkwL_law_12 ++ dktL_law_13
def dkwL_law_11 : List UInt8 := [182, 0, 45, 44, 182, 0, 48, 159, 1, 185, 3, 172, 43, 182, 0, 49, 44, 182, 0, 52, 159, 1, 172, 3]
abbrev dktL_law_11 : List UInt8 := dkwL_law_11 ++ dktL_law_12
def dkwL_law_10 : List UInt8 := [96, 46, 182, 0, 39, 159, 1, 211, 3, 172, 43, 182, 0, 40, 44, 182, 0, 44, 159, 1, 198, 3, 172, 43]
abbrev dktL_law_10 : List UInt8 := dkwL_law_10 ++ dktL_law_11
def dkwL_law_9 : List UInt8 := [4, 96, 46, 182, 0, 35, 159, 1, 234, 3, 172, 43, 42, 29, 4, 96, 46, 182, 0, 36, 44, 42, 29, 4]
abbrev dktL_law_9 : List UInt8 := dkwL_law_9 ++ dktL_law_10
def dkwL_law_8 : List UInt8 := [29, 4, 96, 46, 182, 0, 31, 159, 2, 1, 3, 172, 43, 42, 29, 4, 96, 46, 182, 0, 32, 44, 42, 29]
abbrev dktL_law_8 : List UInt8 := dkwL_law_8 ++ dktL_law_9
def dkwL_law_7 : List UInt8 := [42, 29, 4, 96, 46, 182, 0, 27, 159, 2, 24, 3, 172, 43, 42, 29, 4, 96, 46, 182, 0, 28, 44, 42]
abbrev dktL_law_7 : List UInt8 := dkwL_law_7 ++ dktL_law_8
def dkwL_law_6 : List UInt8 := [46, 42, 29, 5, 96, 46, 182, 0, 22, 159, 2, 47, 3, 172, 43, 42, 29, 4, 96, 46, 182, 0, 23, 44]
abbrev dktL_law_6 : List UInt8 := dkwL_law_6 ++ dktL_law_7
def dkwL_law_5 : List UInt8 := [159, 2, 80, 3, 172, 43, 42, 29, 4, 96, 46, 42, 29, 5, 96, 46, 182, 0, 18, 44, 42, 29, 4, 96]
abbrev dktL_law_5 : List UInt8 := dkwL_law_5 ++ dktL_law_6
def dkwL_law_4 : List UInt8 := [44, 42, 29, 4, 96, 46, 42, 29, 5, 96, 46, 42, 29, 6, 96, 46, 42, 29, 7, 96, 46, 182, 0, 17]
abbrev dktL_law_4 : List UInt8 := dkwL_law_4 ++ dktL_law_5
def dkwL_law_3 : List UInt8 := [43, 42, 29, 4, 96, 46, 42, 29, 5, 96, 46, 42, 29, 6, 96, 46, 42, 29, 7, 96, 46, 182, 0, 13]
abbrev dktL_law_3 : List UInt8 := dkwL_law_3 ++ dktL_law_4
def dkwL_law_2 : List UInt8 := [170, 0, 0, 0, 0, 0, 2, 240, 0, 0, 0, 0, 0, 0, 0, 23, 0, 0, 0, 112, 0, 0, 0, 165, 0, 0, 0, 198, 0, 0, 0, 221, 0, 0, 0, 244, 0, 0, 1, 11, 0, 0, 1, 34, 0, 0, 1, 47, 0, 0, 1, 60, 0, 0, 1, 73, 0, 0, 1, 106, 0, 0, 1, 139, 0, 0, 1, 172, 0, 0, 1, 205, 0, 0, 1, 238, 0, 0, 2, 15, 0, 0, 2, 68, 0, 0, 2, 91, 0, 0, 2, 114, 0, 0, 2, 155, 0, 0, 2, 188, 0, 0, 2, 201, 0, 0, 2, 214, 0, 0, 2, 227]
abbrev dktL_law_2 : List UInt8 := dkwL_law_2 ++ dktL_law_3
def dkwL_law_1 : List UInt8 := [163, 2, 255, 42, 29, 46, 16, 31, 126]
abbrev dktL_law_1 : List UInt8 := dkwL_law_1 ++ dktL_law_2
def dkwL_law_0 : List UInt8 := [187, 0, 7, 89, 183, 0, 9, 76, 187, 0, 10, 89, 183, 0, 12, 77, 3, 62, 29, 42, 190, 8, 100]
abbrev dktL_law_0 : List UInt8 := dkwL_law_0 ++ dktL_law_1
theorem dksL_law_0 : cL_law.data.toList.drop 0 = dktL_law_0 := by decide +kernel
theorem dksL_law_1 : cL_law.data.toList.drop 23 = dktL_law_1 := dk_seg dksL_law_0 23 rfl rfl
theorem dksL_law_2 : cL_law.data.toList.drop 32 = dktL_law_2 := dk_seg dksL_law_1 9 rfl rfl
theorem dksL_law_3 : cL_law.data.toList.drop 144 = dktL_law_3 := dk_seg dksL_law_2 112 rfl rfl
theorem dksL_law_4 : cL_law.data.toList.drop 168 = dktL_law_4 := dk_seg dksL_law_3 24 rfl rfl
theorem dksL_law_5 : cL_law.data.toList.drop 192 = dktL_law_5 := dk_seg dksL_law_4 24 rfl rfl
theorem dksL_law_6 : cL_law.data.toList.drop 216 = dktL_law_6 := dk_seg dksL_law_5 24 rfl rfl
theorem dksL_law_7 : cL_law.data.toList.drop 240 = dktL_law_7 := dk_seg dksL_law_6 24 rfl rfl
theorem dksL_law_8 : cL_law.data.toList.drop 264 = dktL_law_8 := dk_seg dksL_law_7 24 rfl rfl
theorem dksL_law_9 : cL_law.data.toList.drop 288 = dktL_law_9 := dk_seg dksL_law_8 24 rfl rfl
theorem dksL_law_10 : cL_law.data.toList.drop 312 = dktL_law_10 := dk_seg dksL_law_9 24 rfl rfl
theorem dksL_law_11 : cL_law.data.toList.drop 336 = dktL_law_11 := dk_seg dksL_law_10 24 rfl rfl
theorem dksL_law_12 : cL_law.data.toList.drop 360 = dktL_law_12 := dk_seg dksL_law_11 24 rfl rfl
theorem dksL_law_13 : cL_law.data.toList.drop 384 = dktL_law_13 := dk_seg dksL_law_12 24 rfl rfl
theorem dksL_law_14 : cL_law.data.toList.drop 408 = dktL_law_14 := dk_seg dksL_law_13 24 rfl rfl
theorem dksL_law_15 : cL_law.data.toList.drop 432 = dktL_law_15 := dk_seg dksL_law_14 24 rfl rfl
theorem dksL_law_16 : cL_law.data.toList.drop 455 = dktL_law_16 := dk_seg dksL_law_15 23 rfl rfl
theorem dksL_law_17 : cL_law.data.toList.drop 479 = dktL_law_17 := dk_seg dksL_law_16 24 rfl rfl
theorem dksL_law_18 : cL_law.data.toList.drop 503 = dktL_law_18 := dk_seg dksL_law_17 24 rfl rfl
theorem dksL_law_19 : cL_law.data.toList.drop 527 = dktL_law_19 := dk_seg dksL_law_18 24 rfl rfl
theorem dksL_law_20 : cL_law.data.toList.drop 551 = dktL_law_20 := dk_seg dksL_law_19 24 rfl rfl
theorem dksL_law_21 : cL_law.data.toList.drop 575 = dktL_law_21 := dk_seg dksL_law_20 24 rfl rfl
theorem dksL_law_22 : cL_law.data.toList.drop 599 = dktL_law_22 := dk_seg dksL_law_21 24 rfl rfl
theorem dksL_law_23 : cL_law.data.toList.drop 623 = dktL_law_23 := dk_seg dksL_law_22 24 rfl rfl
theorem dksL_law_24 : cL_law.data.toList.drop 647 = dktL_law_24 := dk_seg dksL_law_23 24 rfl rfl
theorem dksL_law_25 : cL_law.data.toList.drop 670 = dktL_law_25 := dk_seg dksL_law_24 23 rfl rfl
theorem dksL_law_26 : cL_law.data.toList.drop 694 = dktL_law_26 := dk_seg dksL_law_25 24 rfl rfl
theorem dksL_law_27 : cL_law.data.toList.drop 718 = dktL_law_27 := dk_seg dksL_law_26 24 rfl rfl
theorem dksL_law_28 : cL_law.data.toList.drop 740 = dktL_law_28 := dk_seg dksL_law_27 22 rfl rfl
theorem dksL_law_29 : cL_law.data.toList.drop 763 = dktL_law_29 := dk_seg dksL_law_28 23 rfl rfl
theorem dksL_law_30 : cL_law.data.toList.drop 787 = dktL_law_30 := dk_seg dksL_law_29 24 rfl rfl
theorem dL_law_0 : decode cL_law 0 = .ok (.new 7, 3) := dk_187 0 7 (dk_at dksL_law_0 0 rfl rfl)
theorem dL_law_3 : decode cL_law 3 = .ok (.dup, 1) := dk_89 (dk_at dksL_law_0 3 rfl rfl)
theorem dL_law_4 : decode cL_law 4 = .ok (.invokespecial 9, 3) := dk_183 0 9 (dk_at dksL_law_0 4 rfl rfl)
theorem dL_law_7 : decode cL_law 7 = .ok (.astore_n 1, 1) := dk_76 (dk_at dksL_law_0 7 rfl rfl)
theorem dL_law_8 : decode cL_law 8 = .ok (.new 10, 3) := dk_187 0 10 (dk_at dksL_law_0 8 rfl rfl)
theorem dL_law_11 : decode cL_law 11 = .ok (.dup, 1) := dk_89 (dk_at dksL_law_0 11 rfl rfl)
theorem dL_law_12 : decode cL_law 12 = .ok (.invokespecial 12, 3) := dk_183 0 12 (dk_at dksL_law_0 12 rfl rfl)
theorem dL_law_15 : decode cL_law 15 = .ok (.astore_n 2, 1) := dk_77 (dk_at dksL_law_0 15 rfl rfl)
theorem dL_law_16 : decode cL_law 16 = .ok (.iconst 0, 1) := dk_3 (dk_at dksL_law_0 16 rfl rfl)
theorem dL_law_17 : decode cL_law 17 = .ok (.istore_n 3, 1) := dk_62 (dk_at dksL_law_0 17 rfl rfl)
theorem dL_law_18 : decode cL_law 18 = .ok (.iload_n 3, 1) := dk_29 (dk_at dksL_law_0 18 rfl rfl)
theorem dL_law_19 : decode cL_law 19 = .ok (.aload_n 0, 1) := dk_42 (dk_at dksL_law_0 19 rfl rfl)
theorem dL_law_20 : decode cL_law 20 = .ok (.arraylength, 1) := dk_190 (dk_at dksL_law_0 20 rfl rfl)
theorem dL_law_21 : decode cL_law 21 = .ok (.iconst 5, 1) := dk_8 (dk_at dksL_law_0 21 rfl rfl)
theorem dL_law_22 : decode cL_law 22 = .ok (.isub, 1) := dk_100 (dk_at dksL_law_0 22 rfl rfl)
theorem dL_law_23 : decode cL_law 23 = .ok (.if_icmp .gt 767, 3) := dk_163 2 255 (dk_at dksL_law_1 0 rfl rfl)
theorem dL_law_26 : decode cL_law 26 = .ok (.aload_n 0, 1) := dk_42 (dk_at dksL_law_1 3 rfl rfl)
theorem dL_law_27 : decode cL_law 27 = .ok (.iload_n 3, 1) := dk_29 (dk_at dksL_law_1 4 rfl rfl)
theorem dL_law_28 : decode cL_law 28 = .ok (.iaload, 1) := dk_46 (dk_at dksL_law_1 5 rfl rfl)
theorem dL_law_29 : decode cL_law 29 = .ok (.bipush 31, 2) := dk_16 31 (dk_at dksL_law_1 6 rfl rfl)
theorem dL_law_31 : decode cL_law 31 = .ok (.iand, 1) := dk_126 (dk_at dksL_law_1 8 rfl rfl)
theorem dL_law_32 : decode cL_law 32 = .ok (.tableswitch 752 0 23 #[112, 165, 198, 221, 244, 267, 290, 303, 316, 329, 362, 395, 428, 461, 494, 527, 580, 603, 626, 667, 700, 713, 726, 739], 112) := by decide +kernel
theorem dL_law_144 : decode cL_law 144 = .ok (.aload_n 1, 1) := dk_43 (dk_at dksL_law_3 0 rfl rfl)
theorem dL_law_145 : decode cL_law 145 = .ok (.aload_n 0, 1) := dk_42 (dk_at dksL_law_3 1 rfl rfl)
theorem dL_law_146 : decode cL_law 146 = .ok (.iload_n 3, 1) := dk_29 (dk_at dksL_law_3 2 rfl rfl)
theorem dL_law_147 : decode cL_law 147 = .ok (.iconst 1, 1) := dk_4 (dk_at dksL_law_3 3 rfl rfl)
theorem dL_law_148 : decode cL_law 148 = .ok (.iadd, 1) := dk_96 (dk_at dksL_law_3 4 rfl rfl)
theorem dL_law_149 : decode cL_law 149 = .ok (.iaload, 1) := dk_46 (dk_at dksL_law_3 5 rfl rfl)
theorem dL_law_150 : decode cL_law 150 = .ok (.aload_n 0, 1) := dk_42 (dk_at dksL_law_3 6 rfl rfl)
theorem dL_law_151 : decode cL_law 151 = .ok (.iload_n 3, 1) := dk_29 (dk_at dksL_law_3 7 rfl rfl)
theorem dL_law_152 : decode cL_law 152 = .ok (.iconst 2, 1) := dk_5 (dk_at dksL_law_3 8 rfl rfl)
theorem dL_law_153 : decode cL_law 153 = .ok (.iadd, 1) := dk_96 (dk_at dksL_law_3 9 rfl rfl)
theorem dL_law_154 : decode cL_law 154 = .ok (.iaload, 1) := dk_46 (dk_at dksL_law_3 10 rfl rfl)
theorem dL_law_155 : decode cL_law 155 = .ok (.aload_n 0, 1) := dk_42 (dk_at dksL_law_3 11 rfl rfl)
theorem dL_law_156 : decode cL_law 156 = .ok (.iload_n 3, 1) := dk_29 (dk_at dksL_law_3 12 rfl rfl)
theorem dL_law_157 : decode cL_law 157 = .ok (.iconst 3, 1) := dk_6 (dk_at dksL_law_3 13 rfl rfl)
theorem dL_law_158 : decode cL_law 158 = .ok (.iadd, 1) := dk_96 (dk_at dksL_law_3 14 rfl rfl)
theorem dL_law_159 : decode cL_law 159 = .ok (.iaload, 1) := dk_46 (dk_at dksL_law_3 15 rfl rfl)
theorem dL_law_160 : decode cL_law 160 = .ok (.aload_n 0, 1) := dk_42 (dk_at dksL_law_3 16 rfl rfl)
theorem dL_law_161 : decode cL_law 161 = .ok (.iload_n 3, 1) := dk_29 (dk_at dksL_law_3 17 rfl rfl)
theorem dL_law_162 : decode cL_law 162 = .ok (.iconst 4, 1) := dk_7 (dk_at dksL_law_3 18 rfl rfl)
theorem dL_law_163 : decode cL_law 163 = .ok (.iadd, 1) := dk_96 (dk_at dksL_law_3 19 rfl rfl)
theorem dL_law_164 : decode cL_law 164 = .ok (.iaload, 1) := dk_46 (dk_at dksL_law_3 20 rfl rfl)
theorem dL_law_165 : decode cL_law 165 = .ok (.invokevirtual 13, 3) := dk_182 0 13 (dk_at dksL_law_3 21 rfl rfl)
theorem dL_law_168 : decode cL_law 168 = .ok (.aload_n 2, 1) := dk_44 (dk_at dksL_law_4 0 rfl rfl)
theorem dL_law_169 : decode cL_law 169 = .ok (.aload_n 0, 1) := dk_42 (dk_at dksL_law_4 1 rfl rfl)
theorem dL_law_170 : decode cL_law 170 = .ok (.iload_n 3, 1) := dk_29 (dk_at dksL_law_4 2 rfl rfl)
theorem dL_law_171 : decode cL_law 171 = .ok (.iconst 1, 1) := dk_4 (dk_at dksL_law_4 3 rfl rfl)
theorem dL_law_172 : decode cL_law 172 = .ok (.iadd, 1) := dk_96 (dk_at dksL_law_4 4 rfl rfl)
theorem dL_law_173 : decode cL_law 173 = .ok (.iaload, 1) := dk_46 (dk_at dksL_law_4 5 rfl rfl)
theorem dL_law_174 : decode cL_law 174 = .ok (.aload_n 0, 1) := dk_42 (dk_at dksL_law_4 6 rfl rfl)
theorem dL_law_175 : decode cL_law 175 = .ok (.iload_n 3, 1) := dk_29 (dk_at dksL_law_4 7 rfl rfl)
theorem dL_law_176 : decode cL_law 176 = .ok (.iconst 2, 1) := dk_5 (dk_at dksL_law_4 8 rfl rfl)
theorem dL_law_177 : decode cL_law 177 = .ok (.iadd, 1) := dk_96 (dk_at dksL_law_4 9 rfl rfl)
theorem dL_law_178 : decode cL_law 178 = .ok (.iaload, 1) := dk_46 (dk_at dksL_law_4 10 rfl rfl)
theorem dL_law_179 : decode cL_law 179 = .ok (.aload_n 0, 1) := dk_42 (dk_at dksL_law_4 11 rfl rfl)
theorem dL_law_180 : decode cL_law 180 = .ok (.iload_n 3, 1) := dk_29 (dk_at dksL_law_4 12 rfl rfl)
theorem dL_law_181 : decode cL_law 181 = .ok (.iconst 3, 1) := dk_6 (dk_at dksL_law_4 13 rfl rfl)
theorem dL_law_182 : decode cL_law 182 = .ok (.iadd, 1) := dk_96 (dk_at dksL_law_4 14 rfl rfl)
theorem dL_law_183 : decode cL_law 183 = .ok (.iaload, 1) := dk_46 (dk_at dksL_law_4 15 rfl rfl)
theorem dL_law_184 : decode cL_law 184 = .ok (.aload_n 0, 1) := dk_42 (dk_at dksL_law_4 16 rfl rfl)
theorem dL_law_185 : decode cL_law 185 = .ok (.iload_n 3, 1) := dk_29 (dk_at dksL_law_4 17 rfl rfl)
theorem dL_law_186 : decode cL_law 186 = .ok (.iconst 4, 1) := dk_7 (dk_at dksL_law_4 18 rfl rfl)
theorem dL_law_187 : decode cL_law 187 = .ok (.iadd, 1) := dk_96 (dk_at dksL_law_4 19 rfl rfl)
theorem dL_law_188 : decode cL_law 188 = .ok (.iaload, 1) := dk_46 (dk_at dksL_law_4 20 rfl rfl)
theorem dL_law_189 : decode cL_law 189 = .ok (.invokevirtual 17, 3) := dk_182 0 17 (dk_at dksL_law_4 21 rfl rfl)
theorem dL_law_192 : decode cL_law 192 = .ok (.if_icmp .eq 592, 3) := dk_159 2 80 (dk_at dksL_law_5 0 rfl rfl)
theorem dL_law_195 : decode cL_law 195 = .ok (.iconst 0, 1) := dk_3 (dk_at dksL_law_5 3 rfl rfl)
theorem dL_law_196 : decode cL_law 196 = .ok (.ireturn, 1) := dk_172 (dk_at dksL_law_5 4 rfl rfl)
theorem dL_law_197 : decode cL_law 197 = .ok (.aload_n 1, 1) := dk_43 (dk_at dksL_law_5 5 rfl rfl)
theorem dL_law_198 : decode cL_law 198 = .ok (.aload_n 0, 1) := dk_42 (dk_at dksL_law_5 6 rfl rfl)
theorem dL_law_199 : decode cL_law 199 = .ok (.iload_n 3, 1) := dk_29 (dk_at dksL_law_5 7 rfl rfl)
theorem dL_law_200 : decode cL_law 200 = .ok (.iconst 1, 1) := dk_4 (dk_at dksL_law_5 8 rfl rfl)
theorem dL_law_201 : decode cL_law 201 = .ok (.iadd, 1) := dk_96 (dk_at dksL_law_5 9 rfl rfl)
theorem dL_law_202 : decode cL_law 202 = .ok (.iaload, 1) := dk_46 (dk_at dksL_law_5 10 rfl rfl)
theorem dL_law_203 : decode cL_law 203 = .ok (.aload_n 0, 1) := dk_42 (dk_at dksL_law_5 11 rfl rfl)
theorem dL_law_204 : decode cL_law 204 = .ok (.iload_n 3, 1) := dk_29 (dk_at dksL_law_5 12 rfl rfl)
theorem dL_law_205 : decode cL_law 205 = .ok (.iconst 2, 1) := dk_5 (dk_at dksL_law_5 13 rfl rfl)
theorem dL_law_206 : decode cL_law 206 = .ok (.iadd, 1) := dk_96 (dk_at dksL_law_5 14 rfl rfl)
theorem dL_law_207 : decode cL_law 207 = .ok (.iaload, 1) := dk_46 (dk_at dksL_law_5 15 rfl rfl)
theorem dL_law_208 : decode cL_law 208 = .ok (.invokevirtual 18, 3) := dk_182 0 18 (dk_at dksL_law_5 16 rfl rfl)
theorem dL_law_211 : decode cL_law 211 = .ok (.aload_n 2, 1) := dk_44 (dk_at dksL_law_5 19 rfl rfl)
theorem dL_law_212 : decode cL_law 212 = .ok (.aload_n 0, 1) := dk_42 (dk_at dksL_law_5 20 rfl rfl)
theorem dL_law_213 : decode cL_law 213 = .ok (.iload_n 3, 1) := dk_29 (dk_at dksL_law_5 21 rfl rfl)
theorem dL_law_214 : decode cL_law 214 = .ok (.iconst 1, 1) := dk_4 (dk_at dksL_law_5 22 rfl rfl)
theorem dL_law_215 : decode cL_law 215 = .ok (.iadd, 1) := dk_96 (dk_at dksL_law_5 23 rfl rfl)
theorem dL_law_216 : decode cL_law 216 = .ok (.iaload, 1) := dk_46 (dk_at dksL_law_6 0 rfl rfl)
theorem dL_law_217 : decode cL_law 217 = .ok (.aload_n 0, 1) := dk_42 (dk_at dksL_law_6 1 rfl rfl)
theorem dL_law_218 : decode cL_law 218 = .ok (.iload_n 3, 1) := dk_29 (dk_at dksL_law_6 2 rfl rfl)
theorem dL_law_219 : decode cL_law 219 = .ok (.iconst 2, 1) := dk_5 (dk_at dksL_law_6 3 rfl rfl)
theorem dL_law_220 : decode cL_law 220 = .ok (.iadd, 1) := dk_96 (dk_at dksL_law_6 4 rfl rfl)
theorem dL_law_221 : decode cL_law 221 = .ok (.iaload, 1) := dk_46 (dk_at dksL_law_6 5 rfl rfl)
theorem dL_law_222 : decode cL_law 222 = .ok (.invokevirtual 22, 3) := dk_182 0 22 (dk_at dksL_law_6 6 rfl rfl)
theorem dL_law_225 : decode cL_law 225 = .ok (.if_icmp .eq 559, 3) := dk_159 2 47 (dk_at dksL_law_6 9 rfl rfl)
theorem dL_law_228 : decode cL_law 228 = .ok (.iconst 0, 1) := dk_3 (dk_at dksL_law_6 12 rfl rfl)
theorem dL_law_229 : decode cL_law 229 = .ok (.ireturn, 1) := dk_172 (dk_at dksL_law_6 13 rfl rfl)
theorem dL_law_230 : decode cL_law 230 = .ok (.aload_n 1, 1) := dk_43 (dk_at dksL_law_6 14 rfl rfl)
theorem dL_law_231 : decode cL_law 231 = .ok (.aload_n 0, 1) := dk_42 (dk_at dksL_law_6 15 rfl rfl)
theorem dL_law_232 : decode cL_law 232 = .ok (.iload_n 3, 1) := dk_29 (dk_at dksL_law_6 16 rfl rfl)
theorem dL_law_233 : decode cL_law 233 = .ok (.iconst 1, 1) := dk_4 (dk_at dksL_law_6 17 rfl rfl)
theorem dL_law_234 : decode cL_law 234 = .ok (.iadd, 1) := dk_96 (dk_at dksL_law_6 18 rfl rfl)
theorem dL_law_235 : decode cL_law 235 = .ok (.iaload, 1) := dk_46 (dk_at dksL_law_6 19 rfl rfl)
theorem dL_law_236 : decode cL_law 236 = .ok (.invokevirtual 23, 3) := dk_182 0 23 (dk_at dksL_law_6 20 rfl rfl)
theorem dL_law_239 : decode cL_law 239 = .ok (.aload_n 2, 1) := dk_44 (dk_at dksL_law_6 23 rfl rfl)
theorem dL_law_240 : decode cL_law 240 = .ok (.aload_n 0, 1) := dk_42 (dk_at dksL_law_7 0 rfl rfl)
theorem dL_law_241 : decode cL_law 241 = .ok (.iload_n 3, 1) := dk_29 (dk_at dksL_law_7 1 rfl rfl)
theorem dL_law_242 : decode cL_law 242 = .ok (.iconst 1, 1) := dk_4 (dk_at dksL_law_7 2 rfl rfl)
theorem dL_law_243 : decode cL_law 243 = .ok (.iadd, 1) := dk_96 (dk_at dksL_law_7 3 rfl rfl)
theorem dL_law_244 : decode cL_law 244 = .ok (.iaload, 1) := dk_46 (dk_at dksL_law_7 4 rfl rfl)
theorem dL_law_245 : decode cL_law 245 = .ok (.invokevirtual 27, 3) := dk_182 0 27 (dk_at dksL_law_7 5 rfl rfl)
theorem dL_law_248 : decode cL_law 248 = .ok (.if_icmp .eq 536, 3) := dk_159 2 24 (dk_at dksL_law_7 8 rfl rfl)
theorem dL_law_251 : decode cL_law 251 = .ok (.iconst 0, 1) := dk_3 (dk_at dksL_law_7 11 rfl rfl)
theorem dL_law_252 : decode cL_law 252 = .ok (.ireturn, 1) := dk_172 (dk_at dksL_law_7 12 rfl rfl)
theorem dL_law_253 : decode cL_law 253 = .ok (.aload_n 1, 1) := dk_43 (dk_at dksL_law_7 13 rfl rfl)
theorem dL_law_254 : decode cL_law 254 = .ok (.aload_n 0, 1) := dk_42 (dk_at dksL_law_7 14 rfl rfl)
theorem dL_law_255 : decode cL_law 255 = .ok (.iload_n 3, 1) := dk_29 (dk_at dksL_law_7 15 rfl rfl)
theorem dL_law_256 : decode cL_law 256 = .ok (.iconst 1, 1) := dk_4 (dk_at dksL_law_7 16 rfl rfl)
theorem dL_law_257 : decode cL_law 257 = .ok (.iadd, 1) := dk_96 (dk_at dksL_law_7 17 rfl rfl)
theorem dL_law_258 : decode cL_law 258 = .ok (.iaload, 1) := dk_46 (dk_at dksL_law_7 18 rfl rfl)
theorem dL_law_259 : decode cL_law 259 = .ok (.invokevirtual 28, 3) := dk_182 0 28 (dk_at dksL_law_7 19 rfl rfl)
theorem dL_law_262 : decode cL_law 262 = .ok (.aload_n 2, 1) := dk_44 (dk_at dksL_law_7 22 rfl rfl)
theorem dL_law_263 : decode cL_law 263 = .ok (.aload_n 0, 1) := dk_42 (dk_at dksL_law_7 23 rfl rfl)
theorem dL_law_264 : decode cL_law 264 = .ok (.iload_n 3, 1) := dk_29 (dk_at dksL_law_8 0 rfl rfl)
theorem dL_law_265 : decode cL_law 265 = .ok (.iconst 1, 1) := dk_4 (dk_at dksL_law_8 1 rfl rfl)
theorem dL_law_266 : decode cL_law 266 = .ok (.iadd, 1) := dk_96 (dk_at dksL_law_8 2 rfl rfl)
theorem dL_law_267 : decode cL_law 267 = .ok (.iaload, 1) := dk_46 (dk_at dksL_law_8 3 rfl rfl)
theorem dL_law_268 : decode cL_law 268 = .ok (.invokevirtual 31, 3) := dk_182 0 31 (dk_at dksL_law_8 4 rfl rfl)
theorem dL_law_271 : decode cL_law 271 = .ok (.if_icmp .eq 513, 3) := dk_159 2 1 (dk_at dksL_law_8 7 rfl rfl)
theorem dL_law_274 : decode cL_law 274 = .ok (.iconst 0, 1) := dk_3 (dk_at dksL_law_8 10 rfl rfl)
theorem dL_law_275 : decode cL_law 275 = .ok (.ireturn, 1) := dk_172 (dk_at dksL_law_8 11 rfl rfl)
theorem dL_law_276 : decode cL_law 276 = .ok (.aload_n 1, 1) := dk_43 (dk_at dksL_law_8 12 rfl rfl)
theorem dL_law_277 : decode cL_law 277 = .ok (.aload_n 0, 1) := dk_42 (dk_at dksL_law_8 13 rfl rfl)
theorem dL_law_278 : decode cL_law 278 = .ok (.iload_n 3, 1) := dk_29 (dk_at dksL_law_8 14 rfl rfl)
theorem dL_law_279 : decode cL_law 279 = .ok (.iconst 1, 1) := dk_4 (dk_at dksL_law_8 15 rfl rfl)
theorem dL_law_280 : decode cL_law 280 = .ok (.iadd, 1) := dk_96 (dk_at dksL_law_8 16 rfl rfl)
theorem dL_law_281 : decode cL_law 281 = .ok (.iaload, 1) := dk_46 (dk_at dksL_law_8 17 rfl rfl)
theorem dL_law_282 : decode cL_law 282 = .ok (.invokevirtual 32, 3) := dk_182 0 32 (dk_at dksL_law_8 18 rfl rfl)
theorem dL_law_285 : decode cL_law 285 = .ok (.aload_n 2, 1) := dk_44 (dk_at dksL_law_8 21 rfl rfl)
theorem dL_law_286 : decode cL_law 286 = .ok (.aload_n 0, 1) := dk_42 (dk_at dksL_law_8 22 rfl rfl)
theorem dL_law_287 : decode cL_law 287 = .ok (.iload_n 3, 1) := dk_29 (dk_at dksL_law_8 23 rfl rfl)
theorem dL_law_288 : decode cL_law 288 = .ok (.iconst 1, 1) := dk_4 (dk_at dksL_law_9 0 rfl rfl)
theorem dL_law_289 : decode cL_law 289 = .ok (.iadd, 1) := dk_96 (dk_at dksL_law_9 1 rfl rfl)
theorem dL_law_290 : decode cL_law 290 = .ok (.iaload, 1) := dk_46 (dk_at dksL_law_9 2 rfl rfl)
theorem dL_law_291 : decode cL_law 291 = .ok (.invokevirtual 35, 3) := dk_182 0 35 (dk_at dksL_law_9 3 rfl rfl)
theorem dL_law_294 : decode cL_law 294 = .ok (.if_icmp .eq 490, 3) := dk_159 1 234 (dk_at dksL_law_9 6 rfl rfl)
theorem dL_law_297 : decode cL_law 297 = .ok (.iconst 0, 1) := dk_3 (dk_at dksL_law_9 9 rfl rfl)
theorem dL_law_298 : decode cL_law 298 = .ok (.ireturn, 1) := dk_172 (dk_at dksL_law_9 10 rfl rfl)
theorem dL_law_299 : decode cL_law 299 = .ok (.aload_n 1, 1) := dk_43 (dk_at dksL_law_9 11 rfl rfl)
theorem dL_law_300 : decode cL_law 300 = .ok (.aload_n 0, 1) := dk_42 (dk_at dksL_law_9 12 rfl rfl)
theorem dL_law_301 : decode cL_law 301 = .ok (.iload_n 3, 1) := dk_29 (dk_at dksL_law_9 13 rfl rfl)
theorem dL_law_302 : decode cL_law 302 = .ok (.iconst 1, 1) := dk_4 (dk_at dksL_law_9 14 rfl rfl)
theorem dL_law_303 : decode cL_law 303 = .ok (.iadd, 1) := dk_96 (dk_at dksL_law_9 15 rfl rfl)
theorem dL_law_304 : decode cL_law 304 = .ok (.iaload, 1) := dk_46 (dk_at dksL_law_9 16 rfl rfl)
theorem dL_law_305 : decode cL_law 305 = .ok (.invokevirtual 36, 3) := dk_182 0 36 (dk_at dksL_law_9 17 rfl rfl)
theorem dL_law_308 : decode cL_law 308 = .ok (.aload_n 2, 1) := dk_44 (dk_at dksL_law_9 20 rfl rfl)
theorem dL_law_309 : decode cL_law 309 = .ok (.aload_n 0, 1) := dk_42 (dk_at dksL_law_9 21 rfl rfl)
theorem dL_law_310 : decode cL_law 310 = .ok (.iload_n 3, 1) := dk_29 (dk_at dksL_law_9 22 rfl rfl)
theorem dL_law_311 : decode cL_law 311 = .ok (.iconst 1, 1) := dk_4 (dk_at dksL_law_9 23 rfl rfl)
theorem dL_law_312 : decode cL_law 312 = .ok (.iadd, 1) := dk_96 (dk_at dksL_law_10 0 rfl rfl)
theorem dL_law_313 : decode cL_law 313 = .ok (.iaload, 1) := dk_46 (dk_at dksL_law_10 1 rfl rfl)
theorem dL_law_314 : decode cL_law 314 = .ok (.invokevirtual 39, 3) := dk_182 0 39 (dk_at dksL_law_10 2 rfl rfl)
theorem dL_law_317 : decode cL_law 317 = .ok (.if_icmp .eq 467, 3) := dk_159 1 211 (dk_at dksL_law_10 5 rfl rfl)
theorem dL_law_320 : decode cL_law 320 = .ok (.iconst 0, 1) := dk_3 (dk_at dksL_law_10 8 rfl rfl)
theorem dL_law_321 : decode cL_law 321 = .ok (.ireturn, 1) := dk_172 (dk_at dksL_law_10 9 rfl rfl)
theorem dL_law_322 : decode cL_law 322 = .ok (.aload_n 1, 1) := dk_43 (dk_at dksL_law_10 10 rfl rfl)
theorem dL_law_323 : decode cL_law 323 = .ok (.invokevirtual 40, 3) := dk_182 0 40 (dk_at dksL_law_10 11 rfl rfl)
theorem dL_law_326 : decode cL_law 326 = .ok (.aload_n 2, 1) := dk_44 (dk_at dksL_law_10 14 rfl rfl)
theorem dL_law_327 : decode cL_law 327 = .ok (.invokevirtual 44, 3) := dk_182 0 44 (dk_at dksL_law_10 15 rfl rfl)
theorem dL_law_330 : decode cL_law 330 = .ok (.if_icmp .eq 454, 3) := dk_159 1 198 (dk_at dksL_law_10 18 rfl rfl)
theorem dL_law_333 : decode cL_law 333 = .ok (.iconst 0, 1) := dk_3 (dk_at dksL_law_10 21 rfl rfl)
theorem dL_law_334 : decode cL_law 334 = .ok (.ireturn, 1) := dk_172 (dk_at dksL_law_10 22 rfl rfl)
theorem dL_law_335 : decode cL_law 335 = .ok (.aload_n 1, 1) := dk_43 (dk_at dksL_law_10 23 rfl rfl)
theorem dL_law_336 : decode cL_law 336 = .ok (.invokevirtual 45, 3) := dk_182 0 45 (dk_at dksL_law_11 0 rfl rfl)
theorem dL_law_339 : decode cL_law 339 = .ok (.aload_n 2, 1) := dk_44 (dk_at dksL_law_11 3 rfl rfl)
theorem dL_law_340 : decode cL_law 340 = .ok (.invokevirtual 48, 3) := dk_182 0 48 (dk_at dksL_law_11 4 rfl rfl)
theorem dL_law_343 : decode cL_law 343 = .ok (.if_icmp .eq 441, 3) := dk_159 1 185 (dk_at dksL_law_11 7 rfl rfl)
theorem dL_law_346 : decode cL_law 346 = .ok (.iconst 0, 1) := dk_3 (dk_at dksL_law_11 10 rfl rfl)
theorem dL_law_347 : decode cL_law 347 = .ok (.ireturn, 1) := dk_172 (dk_at dksL_law_11 11 rfl rfl)
theorem dL_law_348 : decode cL_law 348 = .ok (.aload_n 1, 1) := dk_43 (dk_at dksL_law_11 12 rfl rfl)
theorem dL_law_349 : decode cL_law 349 = .ok (.invokevirtual 49, 3) := dk_182 0 49 (dk_at dksL_law_11 13 rfl rfl)
theorem dL_law_352 : decode cL_law 352 = .ok (.aload_n 2, 1) := dk_44 (dk_at dksL_law_11 16 rfl rfl)
theorem dL_law_353 : decode cL_law 353 = .ok (.invokevirtual 52, 3) := dk_182 0 52 (dk_at dksL_law_11 17 rfl rfl)
theorem dL_law_356 : decode cL_law 356 = .ok (.if_icmp .eq 428, 3) := dk_159 1 172 (dk_at dksL_law_11 20 rfl rfl)
theorem dL_law_359 : decode cL_law 359 = .ok (.iconst 0, 1) := dk_3 (dk_at dksL_law_11 23 rfl rfl)
theorem dL_law_360 : decode cL_law 360 = .ok (.ireturn, 1) := dk_172 (dk_at dksL_law_12 0 rfl rfl)
theorem dL_law_361 : decode cL_law 361 = .ok (.aload_n 1, 1) := dk_43 (dk_at dksL_law_12 1 rfl rfl)
theorem dL_law_362 : decode cL_law 362 = .ok (.aload_n 0, 1) := dk_42 (dk_at dksL_law_12 2 rfl rfl)
theorem dL_law_363 : decode cL_law 363 = .ok (.iload_n 3, 1) := dk_29 (dk_at dksL_law_12 3 rfl rfl)
theorem dL_law_364 : decode cL_law 364 = .ok (.iconst 1, 1) := dk_4 (dk_at dksL_law_12 4 rfl rfl)
theorem dL_law_365 : decode cL_law 365 = .ok (.iadd, 1) := dk_96 (dk_at dksL_law_12 5 rfl rfl)
theorem dL_law_366 : decode cL_law 366 = .ok (.iaload, 1) := dk_46 (dk_at dksL_law_12 6 rfl rfl)
theorem dL_law_367 : decode cL_law 367 = .ok (.aload_n 0, 1) := dk_42 (dk_at dksL_law_12 7 rfl rfl)
theorem dL_law_368 : decode cL_law 368 = .ok (.iload_n 3, 1) := dk_29 (dk_at dksL_law_12 8 rfl rfl)
theorem dL_law_369 : decode cL_law 369 = .ok (.iconst 2, 1) := dk_5 (dk_at dksL_law_12 9 rfl rfl)
theorem dL_law_370 : decode cL_law 370 = .ok (.iadd, 1) := dk_96 (dk_at dksL_law_12 10 rfl rfl)
theorem dL_law_371 : decode cL_law 371 = .ok (.iaload, 1) := dk_46 (dk_at dksL_law_12 11 rfl rfl)
theorem dL_law_372 : decode cL_law 372 = .ok (.invokevirtual 53, 3) := dk_182 0 53 (dk_at dksL_law_12 12 rfl rfl)
theorem dL_law_375 : decode cL_law 375 = .ok (.aload_n 2, 1) := dk_44 (dk_at dksL_law_12 15 rfl rfl)
theorem dL_law_376 : decode cL_law 376 = .ok (.aload_n 0, 1) := dk_42 (dk_at dksL_law_12 16 rfl rfl)
theorem dL_law_377 : decode cL_law 377 = .ok (.iload_n 3, 1) := dk_29 (dk_at dksL_law_12 17 rfl rfl)
theorem dL_law_378 : decode cL_law 378 = .ok (.iconst 1, 1) := dk_4 (dk_at dksL_law_12 18 rfl rfl)
theorem dL_law_379 : decode cL_law 379 = .ok (.iadd, 1) := dk_96 (dk_at dksL_law_12 19 rfl rfl)
theorem dL_law_380 : decode cL_law 380 = .ok (.iaload, 1) := dk_46 (dk_at dksL_law_12 20 rfl rfl)
theorem dL_law_381 : decode cL_law 381 = .ok (.aload_n 0, 1) := dk_42 (dk_at dksL_law_12 21 rfl rfl)
theorem dL_law_382 : decode cL_law 382 = .ok (.iload_n 3, 1) := dk_29 (dk_at dksL_law_12 22 rfl rfl)
theorem dL_law_383 : decode cL_law 383 = .ok (.iconst 2, 1) := dk_5 (dk_at dksL_law_12 23 rfl rfl)
theorem dL_law_384 : decode cL_law 384 = .ok (.iadd, 1) := dk_96 (dk_at dksL_law_13 0 rfl rfl)
theorem dL_law_385 : decode cL_law 385 = .ok (.iaload, 1) := dk_46 (dk_at dksL_law_13 1 rfl rfl)
theorem dL_law_386 : decode cL_law 386 = .ok (.invokevirtual 56, 3) := dk_182 0 56 (dk_at dksL_law_13 2 rfl rfl)
theorem dL_law_389 : decode cL_law 389 = .ok (.if_icmp .eq 395, 3) := dk_159 1 139 (dk_at dksL_law_13 5 rfl rfl)
theorem dL_law_392 : decode cL_law 392 = .ok (.iconst 0, 1) := dk_3 (dk_at dksL_law_13 8 rfl rfl)
theorem dL_law_393 : decode cL_law 393 = .ok (.ireturn, 1) := dk_172 (dk_at dksL_law_13 9 rfl rfl)
theorem dL_law_394 : decode cL_law 394 = .ok (.aload_n 1, 1) := dk_43 (dk_at dksL_law_13 10 rfl rfl)
theorem dL_law_395 : decode cL_law 395 = .ok (.aload_n 0, 1) := dk_42 (dk_at dksL_law_13 11 rfl rfl)
theorem dL_law_396 : decode cL_law 396 = .ok (.iload_n 3, 1) := dk_29 (dk_at dksL_law_13 12 rfl rfl)
theorem dL_law_397 : decode cL_law 397 = .ok (.iconst 1, 1) := dk_4 (dk_at dksL_law_13 13 rfl rfl)
theorem dL_law_398 : decode cL_law 398 = .ok (.iadd, 1) := dk_96 (dk_at dksL_law_13 14 rfl rfl)
theorem dL_law_399 : decode cL_law 399 = .ok (.iaload, 1) := dk_46 (dk_at dksL_law_13 15 rfl rfl)
theorem dL_law_400 : decode cL_law 400 = .ok (.aload_n 0, 1) := dk_42 (dk_at dksL_law_13 16 rfl rfl)
theorem dL_law_401 : decode cL_law 401 = .ok (.iload_n 3, 1) := dk_29 (dk_at dksL_law_13 17 rfl rfl)
theorem dL_law_402 : decode cL_law 402 = .ok (.iconst 2, 1) := dk_5 (dk_at dksL_law_13 18 rfl rfl)
theorem dL_law_403 : decode cL_law 403 = .ok (.iadd, 1) := dk_96 (dk_at dksL_law_13 19 rfl rfl)
theorem dL_law_404 : decode cL_law 404 = .ok (.iaload, 1) := dk_46 (dk_at dksL_law_13 20 rfl rfl)
theorem dL_law_405 : decode cL_law 405 = .ok (.invokevirtual 57, 3) := dk_182 0 57 (dk_at dksL_law_13 21 rfl rfl)
theorem dL_law_408 : decode cL_law 408 = .ok (.aload_n 2, 1) := dk_44 (dk_at dksL_law_14 0 rfl rfl)
theorem dL_law_409 : decode cL_law 409 = .ok (.aload_n 0, 1) := dk_42 (dk_at dksL_law_14 1 rfl rfl)
theorem dL_law_410 : decode cL_law 410 = .ok (.iload_n 3, 1) := dk_29 (dk_at dksL_law_14 2 rfl rfl)
theorem dL_law_411 : decode cL_law 411 = .ok (.iconst 1, 1) := dk_4 (dk_at dksL_law_14 3 rfl rfl)
theorem dL_law_412 : decode cL_law 412 = .ok (.iadd, 1) := dk_96 (dk_at dksL_law_14 4 rfl rfl)
theorem dL_law_413 : decode cL_law 413 = .ok (.iaload, 1) := dk_46 (dk_at dksL_law_14 5 rfl rfl)
theorem dL_law_414 : decode cL_law 414 = .ok (.aload_n 0, 1) := dk_42 (dk_at dksL_law_14 6 rfl rfl)
theorem dL_law_415 : decode cL_law 415 = .ok (.iload_n 3, 1) := dk_29 (dk_at dksL_law_14 7 rfl rfl)
theorem dL_law_416 : decode cL_law 416 = .ok (.iconst 2, 1) := dk_5 (dk_at dksL_law_14 8 rfl rfl)
theorem dL_law_417 : decode cL_law 417 = .ok (.iadd, 1) := dk_96 (dk_at dksL_law_14 9 rfl rfl)
theorem dL_law_418 : decode cL_law 418 = .ok (.iaload, 1) := dk_46 (dk_at dksL_law_14 10 rfl rfl)
theorem dL_law_419 : decode cL_law 419 = .ok (.invokevirtual 60, 3) := dk_182 0 60 (dk_at dksL_law_14 11 rfl rfl)
theorem dL_law_422 : decode cL_law 422 = .ok (.if_icmp .eq 362, 3) := dk_159 1 106 (dk_at dksL_law_14 14 rfl rfl)
theorem dL_law_425 : decode cL_law 425 = .ok (.iconst 0, 1) := dk_3 (dk_at dksL_law_14 17 rfl rfl)
theorem dL_law_426 : decode cL_law 426 = .ok (.ireturn, 1) := dk_172 (dk_at dksL_law_14 18 rfl rfl)
theorem dL_law_427 : decode cL_law 427 = .ok (.aload_n 1, 1) := dk_43 (dk_at dksL_law_14 19 rfl rfl)
theorem dL_law_428 : decode cL_law 428 = .ok (.aload_n 0, 1) := dk_42 (dk_at dksL_law_14 20 rfl rfl)
theorem dL_law_429 : decode cL_law 429 = .ok (.iload_n 3, 1) := dk_29 (dk_at dksL_law_14 21 rfl rfl)
theorem dL_law_430 : decode cL_law 430 = .ok (.iconst 1, 1) := dk_4 (dk_at dksL_law_14 22 rfl rfl)
theorem dL_law_431 : decode cL_law 431 = .ok (.iadd, 1) := dk_96 (dk_at dksL_law_14 23 rfl rfl)
theorem dL_law_432 : decode cL_law 432 = .ok (.iaload, 1) := dk_46 (dk_at dksL_law_15 0 rfl rfl)
theorem dL_law_433 : decode cL_law 433 = .ok (.aload_n 0, 1) := dk_42 (dk_at dksL_law_15 1 rfl rfl)
theorem dL_law_434 : decode cL_law 434 = .ok (.iload_n 3, 1) := dk_29 (dk_at dksL_law_15 2 rfl rfl)
theorem dL_law_435 : decode cL_law 435 = .ok (.iconst 2, 1) := dk_5 (dk_at dksL_law_15 3 rfl rfl)
theorem dL_law_436 : decode cL_law 436 = .ok (.iadd, 1) := dk_96 (dk_at dksL_law_15 4 rfl rfl)
theorem dL_law_437 : decode cL_law 437 = .ok (.iaload, 1) := dk_46 (dk_at dksL_law_15 5 rfl rfl)
theorem dL_law_438 : decode cL_law 438 = .ok (.invokevirtual 61, 3) := dk_182 0 61 (dk_at dksL_law_15 6 rfl rfl)
theorem dL_law_441 : decode cL_law 441 = .ok (.aload_n 2, 1) := dk_44 (dk_at dksL_law_15 9 rfl rfl)
theorem dL_law_442 : decode cL_law 442 = .ok (.aload_n 0, 1) := dk_42 (dk_at dksL_law_15 10 rfl rfl)
theorem dL_law_443 : decode cL_law 443 = .ok (.iload_n 3, 1) := dk_29 (dk_at dksL_law_15 11 rfl rfl)
theorem dL_law_444 : decode cL_law 444 = .ok (.iconst 1, 1) := dk_4 (dk_at dksL_law_15 12 rfl rfl)
theorem dL_law_445 : decode cL_law 445 = .ok (.iadd, 1) := dk_96 (dk_at dksL_law_15 13 rfl rfl)
theorem dL_law_446 : decode cL_law 446 = .ok (.iaload, 1) := dk_46 (dk_at dksL_law_15 14 rfl rfl)
theorem dL_law_447 : decode cL_law 447 = .ok (.aload_n 0, 1) := dk_42 (dk_at dksL_law_15 15 rfl rfl)
theorem dL_law_448 : decode cL_law 448 = .ok (.iload_n 3, 1) := dk_29 (dk_at dksL_law_15 16 rfl rfl)
theorem dL_law_449 : decode cL_law 449 = .ok (.iconst 2, 1) := dk_5 (dk_at dksL_law_15 17 rfl rfl)
theorem dL_law_450 : decode cL_law 450 = .ok (.iadd, 1) := dk_96 (dk_at dksL_law_15 18 rfl rfl)
theorem dL_law_451 : decode cL_law 451 = .ok (.iaload, 1) := dk_46 (dk_at dksL_law_15 19 rfl rfl)
theorem dL_law_452 : decode cL_law 452 = .ok (.invokevirtual 64, 3) := dk_182 0 64 (dk_at dksL_law_15 20 rfl rfl)
theorem dL_law_455 : decode cL_law 455 = .ok (.if_icmp .eq 329, 3) := dk_159 1 73 (dk_at dksL_law_16 0 rfl rfl)
theorem dL_law_458 : decode cL_law 458 = .ok (.iconst 0, 1) := dk_3 (dk_at dksL_law_16 3 rfl rfl)
theorem dL_law_459 : decode cL_law 459 = .ok (.ireturn, 1) := dk_172 (dk_at dksL_law_16 4 rfl rfl)
theorem dL_law_460 : decode cL_law 460 = .ok (.aload_n 1, 1) := dk_43 (dk_at dksL_law_16 5 rfl rfl)
theorem dL_law_461 : decode cL_law 461 = .ok (.aload_n 0, 1) := dk_42 (dk_at dksL_law_16 6 rfl rfl)
theorem dL_law_462 : decode cL_law 462 = .ok (.iload_n 3, 1) := dk_29 (dk_at dksL_law_16 7 rfl rfl)
theorem dL_law_463 : decode cL_law 463 = .ok (.iconst 1, 1) := dk_4 (dk_at dksL_law_16 8 rfl rfl)
theorem dL_law_464 : decode cL_law 464 = .ok (.iadd, 1) := dk_96 (dk_at dksL_law_16 9 rfl rfl)
theorem dL_law_465 : decode cL_law 465 = .ok (.iaload, 1) := dk_46 (dk_at dksL_law_16 10 rfl rfl)
theorem dL_law_466 : decode cL_law 466 = .ok (.aload_n 0, 1) := dk_42 (dk_at dksL_law_16 11 rfl rfl)
theorem dL_law_467 : decode cL_law 467 = .ok (.iload_n 3, 1) := dk_29 (dk_at dksL_law_16 12 rfl rfl)
theorem dL_law_468 : decode cL_law 468 = .ok (.iconst 2, 1) := dk_5 (dk_at dksL_law_16 13 rfl rfl)
theorem dL_law_469 : decode cL_law 469 = .ok (.iadd, 1) := dk_96 (dk_at dksL_law_16 14 rfl rfl)
theorem dL_law_470 : decode cL_law 470 = .ok (.iaload, 1) := dk_46 (dk_at dksL_law_16 15 rfl rfl)
theorem dL_law_471 : decode cL_law 471 = .ok (.invokevirtual 65, 3) := dk_182 0 65 (dk_at dksL_law_16 16 rfl rfl)
theorem dL_law_474 : decode cL_law 474 = .ok (.aload_n 2, 1) := dk_44 (dk_at dksL_law_16 19 rfl rfl)
theorem dL_law_475 : decode cL_law 475 = .ok (.aload_n 0, 1) := dk_42 (dk_at dksL_law_16 20 rfl rfl)
theorem dL_law_476 : decode cL_law 476 = .ok (.iload_n 3, 1) := dk_29 (dk_at dksL_law_16 21 rfl rfl)
theorem dL_law_477 : decode cL_law 477 = .ok (.iconst 1, 1) := dk_4 (dk_at dksL_law_16 22 rfl rfl)
theorem dL_law_478 : decode cL_law 478 = .ok (.iadd, 1) := dk_96 (dk_at dksL_law_16 23 rfl rfl)
theorem dL_law_479 : decode cL_law 479 = .ok (.iaload, 1) := dk_46 (dk_at dksL_law_17 0 rfl rfl)
theorem dL_law_480 : decode cL_law 480 = .ok (.aload_n 0, 1) := dk_42 (dk_at dksL_law_17 1 rfl rfl)
theorem dL_law_481 : decode cL_law 481 = .ok (.iload_n 3, 1) := dk_29 (dk_at dksL_law_17 2 rfl rfl)
theorem dL_law_482 : decode cL_law 482 = .ok (.iconst 2, 1) := dk_5 (dk_at dksL_law_17 3 rfl rfl)
theorem dL_law_483 : decode cL_law 483 = .ok (.iadd, 1) := dk_96 (dk_at dksL_law_17 4 rfl rfl)
theorem dL_law_484 : decode cL_law 484 = .ok (.iaload, 1) := dk_46 (dk_at dksL_law_17 5 rfl rfl)
theorem dL_law_485 : decode cL_law 485 = .ok (.invokevirtual 68, 3) := dk_182 0 68 (dk_at dksL_law_17 6 rfl rfl)
theorem dL_law_488 : decode cL_law 488 = .ok (.if_icmp .eq 296, 3) := dk_159 1 40 (dk_at dksL_law_17 9 rfl rfl)
theorem dL_law_491 : decode cL_law 491 = .ok (.iconst 0, 1) := dk_3 (dk_at dksL_law_17 12 rfl rfl)
theorem dL_law_492 : decode cL_law 492 = .ok (.ireturn, 1) := dk_172 (dk_at dksL_law_17 13 rfl rfl)
theorem dL_law_493 : decode cL_law 493 = .ok (.aload_n 1, 1) := dk_43 (dk_at dksL_law_17 14 rfl rfl)
theorem dL_law_494 : decode cL_law 494 = .ok (.aload_n 0, 1) := dk_42 (dk_at dksL_law_17 15 rfl rfl)
theorem dL_law_495 : decode cL_law 495 = .ok (.iload_n 3, 1) := dk_29 (dk_at dksL_law_17 16 rfl rfl)
theorem dL_law_496 : decode cL_law 496 = .ok (.iconst 1, 1) := dk_4 (dk_at dksL_law_17 17 rfl rfl)
theorem dL_law_497 : decode cL_law 497 = .ok (.iadd, 1) := dk_96 (dk_at dksL_law_17 18 rfl rfl)
theorem dL_law_498 : decode cL_law 498 = .ok (.iaload, 1) := dk_46 (dk_at dksL_law_17 19 rfl rfl)
theorem dL_law_499 : decode cL_law 499 = .ok (.aload_n 0, 1) := dk_42 (dk_at dksL_law_17 20 rfl rfl)
theorem dL_law_500 : decode cL_law 500 = .ok (.iload_n 3, 1) := dk_29 (dk_at dksL_law_17 21 rfl rfl)
theorem dL_law_501 : decode cL_law 501 = .ok (.iconst 2, 1) := dk_5 (dk_at dksL_law_17 22 rfl rfl)
theorem dL_law_502 : decode cL_law 502 = .ok (.iadd, 1) := dk_96 (dk_at dksL_law_17 23 rfl rfl)
theorem dL_law_503 : decode cL_law 503 = .ok (.iaload, 1) := dk_46 (dk_at dksL_law_18 0 rfl rfl)
theorem dL_law_504 : decode cL_law 504 = .ok (.invokevirtual 69, 3) := dk_182 0 69 (dk_at dksL_law_18 1 rfl rfl)
theorem dL_law_507 : decode cL_law 507 = .ok (.aload_n 2, 1) := dk_44 (dk_at dksL_law_18 4 rfl rfl)
theorem dL_law_508 : decode cL_law 508 = .ok (.aload_n 0, 1) := dk_42 (dk_at dksL_law_18 5 rfl rfl)
theorem dL_law_509 : decode cL_law 509 = .ok (.iload_n 3, 1) := dk_29 (dk_at dksL_law_18 6 rfl rfl)
theorem dL_law_510 : decode cL_law 510 = .ok (.iconst 1, 1) := dk_4 (dk_at dksL_law_18 7 rfl rfl)
theorem dL_law_511 : decode cL_law 511 = .ok (.iadd, 1) := dk_96 (dk_at dksL_law_18 8 rfl rfl)
theorem dL_law_512 : decode cL_law 512 = .ok (.iaload, 1) := dk_46 (dk_at dksL_law_18 9 rfl rfl)
theorem dL_law_513 : decode cL_law 513 = .ok (.aload_n 0, 1) := dk_42 (dk_at dksL_law_18 10 rfl rfl)
theorem dL_law_514 : decode cL_law 514 = .ok (.iload_n 3, 1) := dk_29 (dk_at dksL_law_18 11 rfl rfl)
theorem dL_law_515 : decode cL_law 515 = .ok (.iconst 2, 1) := dk_5 (dk_at dksL_law_18 12 rfl rfl)
theorem dL_law_516 : decode cL_law 516 = .ok (.iadd, 1) := dk_96 (dk_at dksL_law_18 13 rfl rfl)
theorem dL_law_517 : decode cL_law 517 = .ok (.iaload, 1) := dk_46 (dk_at dksL_law_18 14 rfl rfl)
theorem dL_law_518 : decode cL_law 518 = .ok (.invokevirtual 72, 3) := dk_182 0 72 (dk_at dksL_law_18 15 rfl rfl)
theorem dL_law_521 : decode cL_law 521 = .ok (.if_icmp .eq 263, 3) := dk_159 1 7 (dk_at dksL_law_18 18 rfl rfl)
theorem dL_law_524 : decode cL_law 524 = .ok (.iconst 0, 1) := dk_3 (dk_at dksL_law_18 21 rfl rfl)
theorem dL_law_525 : decode cL_law 525 = .ok (.ireturn, 1) := dk_172 (dk_at dksL_law_18 22 rfl rfl)
theorem dL_law_526 : decode cL_law 526 = .ok (.aload_n 1, 1) := dk_43 (dk_at dksL_law_18 23 rfl rfl)
theorem dL_law_527 : decode cL_law 527 = .ok (.aload_n 0, 1) := dk_42 (dk_at dksL_law_19 0 rfl rfl)
theorem dL_law_528 : decode cL_law 528 = .ok (.iload_n 3, 1) := dk_29 (dk_at dksL_law_19 1 rfl rfl)
theorem dL_law_529 : decode cL_law 529 = .ok (.iconst 1, 1) := dk_4 (dk_at dksL_law_19 2 rfl rfl)
theorem dL_law_530 : decode cL_law 530 = .ok (.iadd, 1) := dk_96 (dk_at dksL_law_19 3 rfl rfl)
theorem dL_law_531 : decode cL_law 531 = .ok (.iaload, 1) := dk_46 (dk_at dksL_law_19 4 rfl rfl)
theorem dL_law_532 : decode cL_law 532 = .ok (.aload_n 0, 1) := dk_42 (dk_at dksL_law_19 5 rfl rfl)
theorem dL_law_533 : decode cL_law 533 = .ok (.iload_n 3, 1) := dk_29 (dk_at dksL_law_19 6 rfl rfl)
theorem dL_law_534 : decode cL_law 534 = .ok (.iconst 2, 1) := dk_5 (dk_at dksL_law_19 7 rfl rfl)
theorem dL_law_535 : decode cL_law 535 = .ok (.iadd, 1) := dk_96 (dk_at dksL_law_19 8 rfl rfl)
theorem dL_law_536 : decode cL_law 536 = .ok (.iaload, 1) := dk_46 (dk_at dksL_law_19 9 rfl rfl)
theorem dL_law_537 : decode cL_law 537 = .ok (.invokevirtual 73, 3) := dk_182 0 73 (dk_at dksL_law_19 10 rfl rfl)
theorem dL_law_540 : decode cL_law 540 = .ok (.aload_n 2, 1) := dk_44 (dk_at dksL_law_19 13 rfl rfl)
theorem dL_law_541 : decode cL_law 541 = .ok (.aload_n 0, 1) := dk_42 (dk_at dksL_law_19 14 rfl rfl)
theorem dL_law_542 : decode cL_law 542 = .ok (.iload_n 3, 1) := dk_29 (dk_at dksL_law_19 15 rfl rfl)
theorem dL_law_543 : decode cL_law 543 = .ok (.iconst 1, 1) := dk_4 (dk_at dksL_law_19 16 rfl rfl)
theorem dL_law_544 : decode cL_law 544 = .ok (.iadd, 1) := dk_96 (dk_at dksL_law_19 17 rfl rfl)
theorem dL_law_545 : decode cL_law 545 = .ok (.iaload, 1) := dk_46 (dk_at dksL_law_19 18 rfl rfl)
theorem dL_law_546 : decode cL_law 546 = .ok (.aload_n 0, 1) := dk_42 (dk_at dksL_law_19 19 rfl rfl)
theorem dL_law_547 : decode cL_law 547 = .ok (.iload_n 3, 1) := dk_29 (dk_at dksL_law_19 20 rfl rfl)
theorem dL_law_548 : decode cL_law 548 = .ok (.iconst 2, 1) := dk_5 (dk_at dksL_law_19 21 rfl rfl)
theorem dL_law_549 : decode cL_law 549 = .ok (.iadd, 1) := dk_96 (dk_at dksL_law_19 22 rfl rfl)
theorem dL_law_550 : decode cL_law 550 = .ok (.iaload, 1) := dk_46 (dk_at dksL_law_19 23 rfl rfl)
theorem dL_law_551 : decode cL_law 551 = .ok (.invokevirtual 76, 3) := dk_182 0 76 (dk_at dksL_law_20 0 rfl rfl)
theorem dL_law_554 : decode cL_law 554 = .ok (.if_icmp .eq 230, 3) := dk_159 0 230 (dk_at dksL_law_20 3 rfl rfl)
theorem dL_law_557 : decode cL_law 557 = .ok (.iconst 0, 1) := dk_3 (dk_at dksL_law_20 6 rfl rfl)
theorem dL_law_558 : decode cL_law 558 = .ok (.ireturn, 1) := dk_172 (dk_at dksL_law_20 7 rfl rfl)
theorem dL_law_559 : decode cL_law 559 = .ok (.aload_n 1, 1) := dk_43 (dk_at dksL_law_20 8 rfl rfl)
theorem dL_law_560 : decode cL_law 560 = .ok (.aload_n 0, 1) := dk_42 (dk_at dksL_law_20 9 rfl rfl)
theorem dL_law_561 : decode cL_law 561 = .ok (.iload_n 3, 1) := dk_29 (dk_at dksL_law_20 10 rfl rfl)
theorem dL_law_562 : decode cL_law 562 = .ok (.iconst 1, 1) := dk_4 (dk_at dksL_law_20 11 rfl rfl)
theorem dL_law_563 : decode cL_law 563 = .ok (.iadd, 1) := dk_96 (dk_at dksL_law_20 12 rfl rfl)
theorem dL_law_564 : decode cL_law 564 = .ok (.iaload, 1) := dk_46 (dk_at dksL_law_20 13 rfl rfl)
theorem dL_law_565 : decode cL_law 565 = .ok (.aload_n 0, 1) := dk_42 (dk_at dksL_law_20 14 rfl rfl)
theorem dL_law_566 : decode cL_law 566 = .ok (.iload_n 3, 1) := dk_29 (dk_at dksL_law_20 15 rfl rfl)
theorem dL_law_567 : decode cL_law 567 = .ok (.iconst 2, 1) := dk_5 (dk_at dksL_law_20 16 rfl rfl)
theorem dL_law_568 : decode cL_law 568 = .ok (.iadd, 1) := dk_96 (dk_at dksL_law_20 17 rfl rfl)
theorem dL_law_569 : decode cL_law 569 = .ok (.iaload, 1) := dk_46 (dk_at dksL_law_20 18 rfl rfl)
theorem dL_law_570 : decode cL_law 570 = .ok (.aload_n 0, 1) := dk_42 (dk_at dksL_law_20 19 rfl rfl)
theorem dL_law_571 : decode cL_law 571 = .ok (.iload_n 3, 1) := dk_29 (dk_at dksL_law_20 20 rfl rfl)
theorem dL_law_572 : decode cL_law 572 = .ok (.iconst 3, 1) := dk_6 (dk_at dksL_law_20 21 rfl rfl)
theorem dL_law_573 : decode cL_law 573 = .ok (.iadd, 1) := dk_96 (dk_at dksL_law_20 22 rfl rfl)
theorem dL_law_574 : decode cL_law 574 = .ok (.iaload, 1) := dk_46 (dk_at dksL_law_20 23 rfl rfl)
theorem dL_law_575 : decode cL_law 575 = .ok (.aload_n 0, 1) := dk_42 (dk_at dksL_law_21 0 rfl rfl)
theorem dL_law_576 : decode cL_law 576 = .ok (.iload_n 3, 1) := dk_29 (dk_at dksL_law_21 1 rfl rfl)
theorem dL_law_577 : decode cL_law 577 = .ok (.iconst 4, 1) := dk_7 (dk_at dksL_law_21 2 rfl rfl)
theorem dL_law_578 : decode cL_law 578 = .ok (.iadd, 1) := dk_96 (dk_at dksL_law_21 3 rfl rfl)
theorem dL_law_579 : decode cL_law 579 = .ok (.iaload, 1) := dk_46 (dk_at dksL_law_21 4 rfl rfl)
theorem dL_law_580 : decode cL_law 580 = .ok (.invokevirtual 77, 3) := dk_182 0 77 (dk_at dksL_law_21 5 rfl rfl)
theorem dL_law_583 : decode cL_law 583 = .ok (.aload_n 2, 1) := dk_44 (dk_at dksL_law_21 8 rfl rfl)
theorem dL_law_584 : decode cL_law 584 = .ok (.aload_n 0, 1) := dk_42 (dk_at dksL_law_21 9 rfl rfl)
theorem dL_law_585 : decode cL_law 585 = .ok (.iload_n 3, 1) := dk_29 (dk_at dksL_law_21 10 rfl rfl)
theorem dL_law_586 : decode cL_law 586 = .ok (.iconst 1, 1) := dk_4 (dk_at dksL_law_21 11 rfl rfl)
theorem dL_law_587 : decode cL_law 587 = .ok (.iadd, 1) := dk_96 (dk_at dksL_law_21 12 rfl rfl)
theorem dL_law_588 : decode cL_law 588 = .ok (.iaload, 1) := dk_46 (dk_at dksL_law_21 13 rfl rfl)
theorem dL_law_589 : decode cL_law 589 = .ok (.aload_n 0, 1) := dk_42 (dk_at dksL_law_21 14 rfl rfl)
theorem dL_law_590 : decode cL_law 590 = .ok (.iload_n 3, 1) := dk_29 (dk_at dksL_law_21 15 rfl rfl)
theorem dL_law_591 : decode cL_law 591 = .ok (.iconst 2, 1) := dk_5 (dk_at dksL_law_21 16 rfl rfl)
theorem dL_law_592 : decode cL_law 592 = .ok (.iadd, 1) := dk_96 (dk_at dksL_law_21 17 rfl rfl)
theorem dL_law_593 : decode cL_law 593 = .ok (.iaload, 1) := dk_46 (dk_at dksL_law_21 18 rfl rfl)
theorem dL_law_594 : decode cL_law 594 = .ok (.aload_n 0, 1) := dk_42 (dk_at dksL_law_21 19 rfl rfl)
theorem dL_law_595 : decode cL_law 595 = .ok (.iload_n 3, 1) := dk_29 (dk_at dksL_law_21 20 rfl rfl)
theorem dL_law_596 : decode cL_law 596 = .ok (.iconst 3, 1) := dk_6 (dk_at dksL_law_21 21 rfl rfl)
theorem dL_law_597 : decode cL_law 597 = .ok (.iadd, 1) := dk_96 (dk_at dksL_law_21 22 rfl rfl)
theorem dL_law_598 : decode cL_law 598 = .ok (.iaload, 1) := dk_46 (dk_at dksL_law_21 23 rfl rfl)
theorem dL_law_599 : decode cL_law 599 = .ok (.aload_n 0, 1) := dk_42 (dk_at dksL_law_22 0 rfl rfl)
theorem dL_law_600 : decode cL_law 600 = .ok (.iload_n 3, 1) := dk_29 (dk_at dksL_law_22 1 rfl rfl)
theorem dL_law_601 : decode cL_law 601 = .ok (.iconst 4, 1) := dk_7 (dk_at dksL_law_22 2 rfl rfl)
theorem dL_law_602 : decode cL_law 602 = .ok (.iadd, 1) := dk_96 (dk_at dksL_law_22 3 rfl rfl)
theorem dL_law_603 : decode cL_law 603 = .ok (.iaload, 1) := dk_46 (dk_at dksL_law_22 4 rfl rfl)
theorem dL_law_604 : decode cL_law 604 = .ok (.invokevirtual 80, 3) := dk_182 0 80 (dk_at dksL_law_22 5 rfl rfl)
theorem dL_law_607 : decode cL_law 607 = .ok (.if_icmp .eq 177, 3) := dk_159 0 177 (dk_at dksL_law_22 8 rfl rfl)
theorem dL_law_610 : decode cL_law 610 = .ok (.iconst 0, 1) := dk_3 (dk_at dksL_law_22 11 rfl rfl)
theorem dL_law_611 : decode cL_law 611 = .ok (.ireturn, 1) := dk_172 (dk_at dksL_law_22 12 rfl rfl)
theorem dL_law_612 : decode cL_law 612 = .ok (.aload_n 1, 1) := dk_43 (dk_at dksL_law_22 13 rfl rfl)
theorem dL_law_613 : decode cL_law 613 = .ok (.aload_n 0, 1) := dk_42 (dk_at dksL_law_22 14 rfl rfl)
theorem dL_law_614 : decode cL_law 614 = .ok (.iload_n 3, 1) := dk_29 (dk_at dksL_law_22 15 rfl rfl)
theorem dL_law_615 : decode cL_law 615 = .ok (.iconst 1, 1) := dk_4 (dk_at dksL_law_22 16 rfl rfl)
theorem dL_law_616 : decode cL_law 616 = .ok (.iadd, 1) := dk_96 (dk_at dksL_law_22 17 rfl rfl)
theorem dL_law_617 : decode cL_law 617 = .ok (.iaload, 1) := dk_46 (dk_at dksL_law_22 18 rfl rfl)
theorem dL_law_618 : decode cL_law 618 = .ok (.invokevirtual 81, 3) := dk_182 0 81 (dk_at dksL_law_22 19 rfl rfl)
theorem dL_law_621 : decode cL_law 621 = .ok (.aload_n 2, 1) := dk_44 (dk_at dksL_law_22 22 rfl rfl)
theorem dL_law_622 : decode cL_law 622 = .ok (.aload_n 0, 1) := dk_42 (dk_at dksL_law_22 23 rfl rfl)
theorem dL_law_623 : decode cL_law 623 = .ok (.iload_n 3, 1) := dk_29 (dk_at dksL_law_23 0 rfl rfl)
theorem dL_law_624 : decode cL_law 624 = .ok (.iconst 1, 1) := dk_4 (dk_at dksL_law_23 1 rfl rfl)
theorem dL_law_625 : decode cL_law 625 = .ok (.iadd, 1) := dk_96 (dk_at dksL_law_23 2 rfl rfl)
theorem dL_law_626 : decode cL_law 626 = .ok (.iaload, 1) := dk_46 (dk_at dksL_law_23 3 rfl rfl)
theorem dL_law_627 : decode cL_law 627 = .ok (.invokevirtual 84, 3) := dk_182 0 84 (dk_at dksL_law_23 4 rfl rfl)
theorem dL_law_630 : decode cL_law 630 = .ok (.if_icmp .eq 154, 3) := dk_159 0 154 (dk_at dksL_law_23 7 rfl rfl)
theorem dL_law_633 : decode cL_law 633 = .ok (.iconst 0, 1) := dk_3 (dk_at dksL_law_23 10 rfl rfl)
theorem dL_law_634 : decode cL_law 634 = .ok (.ireturn, 1) := dk_172 (dk_at dksL_law_23 11 rfl rfl)
theorem dL_law_635 : decode cL_law 635 = .ok (.aload_n 1, 1) := dk_43 (dk_at dksL_law_23 12 rfl rfl)
theorem dL_law_636 : decode cL_law 636 = .ok (.aload_n 0, 1) := dk_42 (dk_at dksL_law_23 13 rfl rfl)
theorem dL_law_637 : decode cL_law 637 = .ok (.iload_n 3, 1) := dk_29 (dk_at dksL_law_23 14 rfl rfl)
theorem dL_law_638 : decode cL_law 638 = .ok (.iconst 1, 1) := dk_4 (dk_at dksL_law_23 15 rfl rfl)
theorem dL_law_639 : decode cL_law 639 = .ok (.iadd, 1) := dk_96 (dk_at dksL_law_23 16 rfl rfl)
theorem dL_law_640 : decode cL_law 640 = .ok (.iaload, 1) := dk_46 (dk_at dksL_law_23 17 rfl rfl)
theorem dL_law_641 : decode cL_law 641 = .ok (.invokevirtual 85, 3) := dk_182 0 85 (dk_at dksL_law_23 18 rfl rfl)
theorem dL_law_644 : decode cL_law 644 = .ok (.aload_n 2, 1) := dk_44 (dk_at dksL_law_23 21 rfl rfl)
theorem dL_law_645 : decode cL_law 645 = .ok (.aload_n 0, 1) := dk_42 (dk_at dksL_law_23 22 rfl rfl)
theorem dL_law_646 : decode cL_law 646 = .ok (.iload_n 3, 1) := dk_29 (dk_at dksL_law_23 23 rfl rfl)
theorem dL_law_647 : decode cL_law 647 = .ok (.iconst 1, 1) := dk_4 (dk_at dksL_law_24 0 rfl rfl)
theorem dL_law_648 : decode cL_law 648 = .ok (.iadd, 1) := dk_96 (dk_at dksL_law_24 1 rfl rfl)
theorem dL_law_649 : decode cL_law 649 = .ok (.iaload, 1) := dk_46 (dk_at dksL_law_24 2 rfl rfl)
theorem dL_law_650 : decode cL_law 650 = .ok (.invokevirtual 88, 3) := dk_182 0 88 (dk_at dksL_law_24 3 rfl rfl)
theorem dL_law_653 : decode cL_law 653 = .ok (.if_icmp .eq 131, 3) := dk_159 0 131 (dk_at dksL_law_24 6 rfl rfl)
theorem dL_law_656 : decode cL_law 656 = .ok (.iconst 0, 1) := dk_3 (dk_at dksL_law_24 9 rfl rfl)
theorem dL_law_657 : decode cL_law 657 = .ok (.ireturn, 1) := dk_172 (dk_at dksL_law_24 10 rfl rfl)
theorem dL_law_658 : decode cL_law 658 = .ok (.aload_n 1, 1) := dk_43 (dk_at dksL_law_24 11 rfl rfl)
theorem dL_law_659 : decode cL_law 659 = .ok (.invokevirtual 89, 3) := dk_182 0 89 (dk_at dksL_law_24 12 rfl rfl)
theorem dL_law_662 : decode cL_law 662 = .ok (.dstore 4, 2) := dk_57 4 (dk_at dksL_law_24 15 rfl rfl)
theorem dL_law_664 : decode cL_law 664 = .ok (.aload_n 2, 1) := dk_44 (dk_at dksL_law_24 17 rfl rfl)
theorem dL_law_665 : decode cL_law 665 = .ok (.invokevirtual 93, 3) := dk_182 0 93 (dk_at dksL_law_24 18 rfl rfl)
theorem dL_law_668 : decode cL_law 668 = .ok (.dstore 6, 2) := dk_57 6 (dk_at dksL_law_24 21 rfl rfl)
theorem dL_law_670 : decode cL_law 670 = .ok (.dload 4, 2) := dk_24 4 (dk_at dksL_law_25 0 rfl rfl)
theorem dL_law_672 : decode cL_law 672 = .ok (.dload 6, 2) := dk_24 6 (dk_at dksL_law_25 2 rfl rfl)
theorem dL_law_674 : decode cL_law 674 = .ok (.dcmp .l, 1) := dk_151 (dk_at dksL_law_25 4 rfl rfl)
theorem dL_law_675 : decode cL_law 675 = .ok (.ifCond .eq 21, 3) := dk_153 0 21 (dk_at dksL_law_25 5 rfl rfl)
theorem dL_law_678 : decode cL_law 678 = .ok (.dload 4, 2) := dk_24 4 (dk_at dksL_law_25 8 rfl rfl)
theorem dL_law_680 : decode cL_law 680 = .ok (.dload 4, 2) := dk_24 4 (dk_at dksL_law_25 10 rfl rfl)
theorem dL_law_682 : decode cL_law 682 = .ok (.dcmp .l, 1) := dk_151 (dk_at dksL_law_25 12 rfl rfl)
theorem dL_law_683 : decode cL_law 683 = .ok (.ifCond .eq 11, 3) := dk_153 0 11 (dk_at dksL_law_25 13 rfl rfl)
theorem dL_law_686 : decode cL_law 686 = .ok (.dload 6, 2) := dk_24 6 (dk_at dksL_law_25 16 rfl rfl)
theorem dL_law_688 : decode cL_law 688 = .ok (.dload 6, 2) := dk_24 6 (dk_at dksL_law_25 18 rfl rfl)
theorem dL_law_690 : decode cL_law 690 = .ok (.dcmp .l, 1) := dk_151 (dk_at dksL_law_25 20 rfl rfl)
theorem dL_law_691 : decode cL_law 691 = .ok (.ifCond .ne 5, 3) := dk_154 0 5 (dk_at dksL_law_25 21 rfl rfl)
theorem dL_law_694 : decode cL_law 694 = .ok (.iconst 0, 1) := dk_3 (dk_at dksL_law_26 0 rfl rfl)
theorem dL_law_695 : decode cL_law 695 = .ok (.ireturn, 1) := dk_172 (dk_at dksL_law_26 1 rfl rfl)
theorem dL_law_696 : decode cL_law 696 = .ok (.goto 88, 3) := dk_167 0 88 (dk_at dksL_law_26 2 rfl rfl)
theorem dL_law_699 : decode cL_law 699 = .ok (.aload_n 1, 1) := dk_43 (dk_at dksL_law_26 5 rfl rfl)
theorem dL_law_700 : decode cL_law 700 = .ok (.aload_n 0, 1) := dk_42 (dk_at dksL_law_26 6 rfl rfl)
theorem dL_law_701 : decode cL_law 701 = .ok (.iload_n 3, 1) := dk_29 (dk_at dksL_law_26 7 rfl rfl)
theorem dL_law_702 : decode cL_law 702 = .ok (.iconst 1, 1) := dk_4 (dk_at dksL_law_26 8 rfl rfl)
theorem dL_law_703 : decode cL_law 703 = .ok (.iadd, 1) := dk_96 (dk_at dksL_law_26 9 rfl rfl)
theorem dL_law_704 : decode cL_law 704 = .ok (.iaload, 1) := dk_46 (dk_at dksL_law_26 10 rfl rfl)
theorem dL_law_705 : decode cL_law 705 = .ok (.aload_n 0, 1) := dk_42 (dk_at dksL_law_26 11 rfl rfl)
theorem dL_law_706 : decode cL_law 706 = .ok (.iload_n 3, 1) := dk_29 (dk_at dksL_law_26 12 rfl rfl)
theorem dL_law_707 : decode cL_law 707 = .ok (.iconst 2, 1) := dk_5 (dk_at dksL_law_26 13 rfl rfl)
theorem dL_law_708 : decode cL_law 708 = .ok (.iadd, 1) := dk_96 (dk_at dksL_law_26 14 rfl rfl)
theorem dL_law_709 : decode cL_law 709 = .ok (.iaload, 1) := dk_46 (dk_at dksL_law_26 15 rfl rfl)
theorem dL_law_710 : decode cL_law 710 = .ok (.invokevirtual 94, 3) := dk_182 0 94 (dk_at dksL_law_26 16 rfl rfl)
theorem dL_law_713 : decode cL_law 713 = .ok (.aload_n 2, 1) := dk_44 (dk_at dksL_law_26 19 rfl rfl)
theorem dL_law_714 : decode cL_law 714 = .ok (.aload_n 0, 1) := dk_42 (dk_at dksL_law_26 20 rfl rfl)
theorem dL_law_715 : decode cL_law 715 = .ok (.iload_n 3, 1) := dk_29 (dk_at dksL_law_26 21 rfl rfl)
theorem dL_law_716 : decode cL_law 716 = .ok (.iconst 1, 1) := dk_4 (dk_at dksL_law_26 22 rfl rfl)
theorem dL_law_717 : decode cL_law 717 = .ok (.iadd, 1) := dk_96 (dk_at dksL_law_26 23 rfl rfl)
theorem dL_law_718 : decode cL_law 718 = .ok (.iaload, 1) := dk_46 (dk_at dksL_law_27 0 rfl rfl)
theorem dL_law_719 : decode cL_law 719 = .ok (.aload_n 0, 1) := dk_42 (dk_at dksL_law_27 1 rfl rfl)
theorem dL_law_720 : decode cL_law 720 = .ok (.iload_n 3, 1) := dk_29 (dk_at dksL_law_27 2 rfl rfl)
theorem dL_law_721 : decode cL_law 721 = .ok (.iconst 2, 1) := dk_5 (dk_at dksL_law_27 3 rfl rfl)
theorem dL_law_722 : decode cL_law 722 = .ok (.iadd, 1) := dk_96 (dk_at dksL_law_27 4 rfl rfl)
theorem dL_law_723 : decode cL_law 723 = .ok (.iaload, 1) := dk_46 (dk_at dksL_law_27 5 rfl rfl)
theorem dL_law_724 : decode cL_law 724 = .ok (.invokevirtual 97, 3) := dk_182 0 97 (dk_at dksL_law_27 6 rfl rfl)
theorem dL_law_727 : decode cL_law 727 = .ok (.if_icmp .eq 57, 3) := dk_159 0 57 (dk_at dksL_law_27 9 rfl rfl)
theorem dL_law_730 : decode cL_law 730 = .ok (.iconst 0, 1) := dk_3 (dk_at dksL_law_27 12 rfl rfl)
theorem dL_law_731 : decode cL_law 731 = .ok (.ireturn, 1) := dk_172 (dk_at dksL_law_27 13 rfl rfl)
theorem dL_law_732 : decode cL_law 732 = .ok (.aload_n 1, 1) := dk_43 (dk_at dksL_law_27 14 rfl rfl)
theorem dL_law_733 : decode cL_law 733 = .ok (.invokevirtual 98, 3) := dk_182 0 98 (dk_at dksL_law_27 15 rfl rfl)
theorem dL_law_736 : decode cL_law 736 = .ok (.aload_n 2, 1) := dk_44 (dk_at dksL_law_27 18 rfl rfl)
theorem dL_law_737 : decode cL_law 737 = .ok (.invokevirtual 101, 3) := dk_182 0 101 (dk_at dksL_law_27 19 rfl rfl)
theorem dL_law_740 : decode cL_law 740 = .ok (.if_icmp .eq 44, 3) := dk_159 0 44 (dk_at dksL_law_28 0 rfl rfl)
theorem dL_law_743 : decode cL_law 743 = .ok (.iconst 0, 1) := dk_3 (dk_at dksL_law_28 3 rfl rfl)
theorem dL_law_744 : decode cL_law 744 = .ok (.ireturn, 1) := dk_172 (dk_at dksL_law_28 4 rfl rfl)
theorem dL_law_745 : decode cL_law 745 = .ok (.aload_n 1, 1) := dk_43 (dk_at dksL_law_28 5 rfl rfl)
theorem dL_law_746 : decode cL_law 746 = .ok (.invokevirtual 102, 3) := dk_182 0 102 (dk_at dksL_law_28 6 rfl rfl)
theorem dL_law_749 : decode cL_law 749 = .ok (.aload_n 2, 1) := dk_44 (dk_at dksL_law_28 9 rfl rfl)
theorem dL_law_750 : decode cL_law 750 = .ok (.invokevirtual 105, 3) := dk_182 0 105 (dk_at dksL_law_28 10 rfl rfl)
theorem dL_law_753 : decode cL_law 753 = .ok (.if_icmp .eq 31, 3) := dk_159 0 31 (dk_at dksL_law_28 13 rfl rfl)
theorem dL_law_756 : decode cL_law 756 = .ok (.iconst 0, 1) := dk_3 (dk_at dksL_law_28 16 rfl rfl)
theorem dL_law_757 : decode cL_law 757 = .ok (.ireturn, 1) := dk_172 (dk_at dksL_law_28 17 rfl rfl)
theorem dL_law_758 : decode cL_law 758 = .ok (.aload_n 1, 1) := dk_43 (dk_at dksL_law_28 18 rfl rfl)
theorem dL_law_759 : decode cL_law 759 = .ok (.invokevirtual 106, 3) := dk_182 0 106 (dk_at dksL_law_28 19 rfl rfl)
theorem dL_law_762 : decode cL_law 762 = .ok (.aload_n 2, 1) := dk_44 (dk_at dksL_law_28 22 rfl rfl)
theorem dL_law_763 : decode cL_law 763 = .ok (.invokevirtual 109, 3) := dk_182 0 109 (dk_at dksL_law_29 0 rfl rfl)
theorem dL_law_766 : decode cL_law 766 = .ok (.if_icmp .eq 18, 3) := dk_159 0 18 (dk_at dksL_law_29 3 rfl rfl)
theorem dL_law_769 : decode cL_law 769 = .ok (.iconst 0, 1) := dk_3 (dk_at dksL_law_29 6 rfl rfl)
theorem dL_law_770 : decode cL_law 770 = .ok (.ireturn, 1) := dk_172 (dk_at dksL_law_29 7 rfl rfl)
theorem dL_law_771 : decode cL_law 771 = .ok (.aload_n 1, 1) := dk_43 (dk_at dksL_law_29 8 rfl rfl)
theorem dL_law_772 : decode cL_law 772 = .ok (.invokevirtual 110, 3) := dk_182 0 110 (dk_at dksL_law_29 9 rfl rfl)
theorem dL_law_775 : decode cL_law 775 = .ok (.aload_n 2, 1) := dk_44 (dk_at dksL_law_29 12 rfl rfl)
theorem dL_law_776 : decode cL_law 776 = .ok (.invokevirtual 113, 3) := dk_182 0 113 (dk_at dksL_law_29 13 rfl rfl)
theorem dL_law_779 : decode cL_law 779 = .ok (.if_icmp .eq 5, 3) := dk_159 0 5 (dk_at dksL_law_29 16 rfl rfl)
theorem dL_law_782 : decode cL_law 782 = .ok (.iconst 0, 1) := dk_3 (dk_at dksL_law_29 19 rfl rfl)
theorem dL_law_783 : decode cL_law 783 = .ok (.ireturn, 1) := dk_172 (dk_at dksL_law_29 20 rfl rfl)
theorem dL_law_784 : decode cL_law 784 = .ok (.iinc 3 5, 3) := dk_132 3 5 (dk_at dksL_law_29 21 rfl rfl)
theorem dL_law_787 : decode cL_law 787 = .ok (.goto (-769), 3) := dk_167 252 255 (dk_at dksL_law_30 0 rfl rfl)
theorem dL_law_790 : decode cL_law 790 = .ok (.iconst 1, 1) := dk_4 (dk_at dksL_law_30 3 rfl rfl)
theorem dL_law_791 : decode cL_law 791 = .ok (.ireturn, 1) := dk_172 (dk_at dksL_law_30 4 rfl rfl)
