set_option maxRecDepth 100000
/-! java/util/HashMap -/
def RJ24 : String := "java/util/HashMap"
def TJ24 : u_T := fun k => match k with
  | 0 => ("java/util/AbstractMap", "keySet", "Ljava/util/Set;", false)
  | 1 => ("java/util/AbstractMap", "values", "Ljava/util/Collection;", false)
  | 2 => ("java/util/HashMap", "table", "[Ljava/util/HashMap$Node;", false)
  | 3 => ("java/util/HashMap", "entrySet", "Ljava/util/Set;", false)
  | 4 => ("java/util/HashMap", "size", "I", false)
  | 5 => ("java/util/HashMap", "modCount", "I", false)
  | 6 => ("java/util/HashMap", "threshold", "I", false)
  | _ => ("java/util/HashMap", "loadFactor", "F", true)
def tyJ24 : Nat → FieldType := fun k => match k with
  | 0 => .object "java/util/Set"
  | 1 => .object "java/util/Collection"
  | 2 => .array (.object "java/util/HashMap$Node")
  | 3 => .object "java/util/Set"
  | 4 => .int
  | 5 => .int
  | 6 => .int
  | _ => .float
abbrev wsJ240 : List Cond := u_ws RJ24 TJ24 8
theorem nmJ24 : ∀ a, a < 8 → ∀ b, b < 8 → a ≠ b → (TJ24 a).2.1 ≠ (TJ24 b).2.1 := by decide +kernel
theorem tyJ24_ok : ∀ k, k < 8 → parseFieldDescriptor (TJ24 k).2.2.1 = some (tyJ24 k) := by decide +kernel
abbrev cJ24_keysToArray : ByteArray := prog_44_method_26_code
def yJ24_keysToArray : MethodName := ⟨RJ24, "keysToArray", "([Ljava/lang/Object;)[Ljava/lang/Object;"⟩
def dkwJ24_keysToArray_3 : List UInt8 := [167, 255, 232, 132, 7, 1, 167, 255, 212, 43, 176]
abbrev dktJ24_keysToArray_3 : List UInt8 := dkwJ24_keysToArray_3 ++ []
def dkwJ24_keysToArray_2 : List UInt8 := [198, 0, 25, 44, 21, 4, 132, 4, 1, 25, 8, 180, 0, 170, 83, 25, 8, 180, 0, 177, 58, 8]
abbrev dktJ24_keysToArray_2 : List UInt8 := dkwJ24_keysToArray_2 ++ dktJ24_keysToArray_3
def dkwJ24_keysToArray_1 : List UInt8 := [25, 5, 190, 54, 6, 3, 54, 7, 21, 7, 21, 6, 162, 0, 43, 25, 5, 21, 7, 50, 58, 8, 25, 8]
abbrev dktJ24_keysToArray_1 : List UInt8 := dkwJ24_keysToArray_1 ++ dktJ24_keysToArray_2
def dkwJ24_keysToArray_0 : List UInt8 := [43, 77, 3, 54, 4, 42, 180, 0, 156, 158, 0, 70, 42, 180, 0, 105, 89, 78, 198, 0, 61, 45, 58, 5]
abbrev dktJ24_keysToArray_0 : List UInt8 := dkwJ24_keysToArray_0 ++ dktJ24_keysToArray_1
theorem dksJ24_keysToArray_0 : cJ24_keysToArray.data.toList.drop 0 = dktJ24_keysToArray_0 := by decide +kernel
theorem dksJ24_keysToArray_1 : cJ24_keysToArray.data.toList.drop 24 = dktJ24_keysToArray_1 := dk_seg dksJ24_keysToArray_0 24 rfl rfl
theorem dksJ24_keysToArray_2 : cJ24_keysToArray.data.toList.drop 48 = dktJ24_keysToArray_2 := dk_seg dksJ24_keysToArray_1 24 rfl rfl
theorem dksJ24_keysToArray_3 : cJ24_keysToArray.data.toList.drop 70 = dktJ24_keysToArray_3 := dk_seg dksJ24_keysToArray_2 22 rfl rfl
theorem dJ24_keysToArray_0 : decode cJ24_keysToArray 0 = .ok (.aload_n 1, 1) := dk_43 (dk_at dksJ24_keysToArray_0 0 rfl rfl)
theorem dJ24_keysToArray_1 : decode cJ24_keysToArray 1 = .ok (.astore_n 2, 1) := dk_77 (dk_at dksJ24_keysToArray_0 1 rfl rfl)
theorem dJ24_keysToArray_2 : decode cJ24_keysToArray 2 = .ok (.iconst 0, 1) := dk_3 (dk_at dksJ24_keysToArray_0 2 rfl rfl)
theorem dJ24_keysToArray_3 : decode cJ24_keysToArray 3 = .ok (.istore 4, 2) := dk_54 4 (dk_at dksJ24_keysToArray_0 3 rfl rfl)
theorem dJ24_keysToArray_5 : decode cJ24_keysToArray 5 = .ok (.aload_n 0, 1) := dk_42 (dk_at dksJ24_keysToArray_0 5 rfl rfl)
theorem dJ24_keysToArray_6 : decode cJ24_keysToArray 6 = .ok (.getfield 156, 3) := dk_180 0 156 (dk_at dksJ24_keysToArray_0 6 rfl rfl)
theorem dJ24_keysToArray_9 : decode cJ24_keysToArray 9 = .ok (.ifCond .le 70, 3) := dk_158 0 70 (dk_at dksJ24_keysToArray_0 9 rfl rfl)
theorem dJ24_keysToArray_12 : decode cJ24_keysToArray 12 = .ok (.aload_n 0, 1) := dk_42 (dk_at dksJ24_keysToArray_0 12 rfl rfl)
theorem dJ24_keysToArray_13 : decode cJ24_keysToArray 13 = .ok (.getfield 105, 3) := dk_180 0 105 (dk_at dksJ24_keysToArray_0 13 rfl rfl)
theorem dJ24_keysToArray_16 : decode cJ24_keysToArray 16 = .ok (.dup, 1) := dk_89 (dk_at dksJ24_keysToArray_0 16 rfl rfl)
theorem dJ24_keysToArray_17 : decode cJ24_keysToArray 17 = .ok (.astore_n 3, 1) := dk_78 (dk_at dksJ24_keysToArray_0 17 rfl rfl)
theorem dJ24_keysToArray_18 : decode cJ24_keysToArray 18 = .ok (.ifnull 61, 3) := dk_198 0 61 (dk_at dksJ24_keysToArray_0 18 rfl rfl)
theorem dJ24_keysToArray_21 : decode cJ24_keysToArray 21 = .ok (.aload_n 3, 1) := dk_45 (dk_at dksJ24_keysToArray_0 21 rfl rfl)
theorem dJ24_keysToArray_22 : decode cJ24_keysToArray 22 = .ok (.astore 5, 2) := dk_58 5 (dk_at dksJ24_keysToArray_0 22 rfl rfl)
theorem dJ24_keysToArray_24 : decode cJ24_keysToArray 24 = .ok (.aload 5, 2) := dk_25 5 (dk_at dksJ24_keysToArray_1 0 rfl rfl)
theorem dJ24_keysToArray_26 : decode cJ24_keysToArray 26 = .ok (.arraylength, 1) := dk_190 (dk_at dksJ24_keysToArray_1 2 rfl rfl)
theorem dJ24_keysToArray_27 : decode cJ24_keysToArray 27 = .ok (.istore 6, 2) := dk_54 6 (dk_at dksJ24_keysToArray_1 3 rfl rfl)
theorem dJ24_keysToArray_29 : decode cJ24_keysToArray 29 = .ok (.iconst 0, 1) := dk_3 (dk_at dksJ24_keysToArray_1 5 rfl rfl)
theorem dJ24_keysToArray_30 : decode cJ24_keysToArray 30 = .ok (.istore 7, 2) := dk_54 7 (dk_at dksJ24_keysToArray_1 6 rfl rfl)
theorem dJ24_keysToArray_32 : decode cJ24_keysToArray 32 = .ok (.iload 7, 2) := dk_21 7 (dk_at dksJ24_keysToArray_1 8 rfl rfl)
theorem dJ24_keysToArray_34 : decode cJ24_keysToArray 34 = .ok (.iload 6, 2) := dk_21 6 (dk_at dksJ24_keysToArray_1 10 rfl rfl)
theorem dJ24_keysToArray_36 : decode cJ24_keysToArray 36 = .ok (.if_icmp .ge 43, 3) := dk_162 0 43 (dk_at dksJ24_keysToArray_1 12 rfl rfl)
theorem dJ24_keysToArray_39 : decode cJ24_keysToArray 39 = .ok (.aload 5, 2) := dk_25 5 (dk_at dksJ24_keysToArray_1 15 rfl rfl)
theorem dJ24_keysToArray_41 : decode cJ24_keysToArray 41 = .ok (.iload 7, 2) := dk_21 7 (dk_at dksJ24_keysToArray_1 17 rfl rfl)
theorem dJ24_keysToArray_43 : decode cJ24_keysToArray 43 = .ok (.aaload, 1) := dk_50 (dk_at dksJ24_keysToArray_1 19 rfl rfl)
theorem dJ24_keysToArray_44 : decode cJ24_keysToArray 44 = .ok (.astore 8, 2) := dk_58 8 (dk_at dksJ24_keysToArray_1 20 rfl rfl)
theorem dJ24_keysToArray_46 : decode cJ24_keysToArray 46 = .ok (.aload 8, 2) := dk_25 8 (dk_at dksJ24_keysToArray_1 22 rfl rfl)
theorem dJ24_keysToArray_48 : decode cJ24_keysToArray 48 = .ok (.ifnull 25, 3) := dk_198 0 25 (dk_at dksJ24_keysToArray_2 0 rfl rfl)
theorem dJ24_keysToArray_51 : decode cJ24_keysToArray 51 = .ok (.aload_n 2, 1) := dk_44 (dk_at dksJ24_keysToArray_2 3 rfl rfl)
theorem dJ24_keysToArray_52 : decode cJ24_keysToArray 52 = .ok (.iload 4, 2) := dk_21 4 (dk_at dksJ24_keysToArray_2 4 rfl rfl)
theorem dJ24_keysToArray_54 : decode cJ24_keysToArray 54 = .ok (.iinc 4 1, 3) := dk_132 4 1 (dk_at dksJ24_keysToArray_2 6 rfl rfl)
theorem dJ24_keysToArray_57 : decode cJ24_keysToArray 57 = .ok (.aload 8, 2) := dk_25 8 (dk_at dksJ24_keysToArray_2 9 rfl rfl)
theorem dJ24_keysToArray_59 : decode cJ24_keysToArray 59 = .ok (.getfield 170, 3) := dk_180 0 170 (dk_at dksJ24_keysToArray_2 11 rfl rfl)
theorem dJ24_keysToArray_62 : decode cJ24_keysToArray 62 = .ok (.aastore, 1) := dk_83 (dk_at dksJ24_keysToArray_2 14 rfl rfl)
theorem dJ24_keysToArray_63 : decode cJ24_keysToArray 63 = .ok (.aload 8, 2) := dk_25 8 (dk_at dksJ24_keysToArray_2 15 rfl rfl)
theorem dJ24_keysToArray_65 : decode cJ24_keysToArray 65 = .ok (.getfield 177, 3) := dk_180 0 177 (dk_at dksJ24_keysToArray_2 17 rfl rfl)
theorem dJ24_keysToArray_68 : decode cJ24_keysToArray 68 = .ok (.astore 8, 2) := dk_58 8 (dk_at dksJ24_keysToArray_2 20 rfl rfl)
theorem dJ24_keysToArray_70 : decode cJ24_keysToArray 70 = .ok (.goto (-24), 3) := dk_167 255 232 (dk_at dksJ24_keysToArray_3 0 rfl rfl)
theorem dJ24_keysToArray_73 : decode cJ24_keysToArray 73 = .ok (.iinc 7 1, 3) := dk_132 7 1 (dk_at dksJ24_keysToArray_3 3 rfl rfl)
theorem dJ24_keysToArray_76 : decode cJ24_keysToArray 76 = .ok (.goto (-44), 3) := dk_167 255 212 (dk_at dksJ24_keysToArray_3 6 rfl rfl)
theorem dJ24_keysToArray_79 : decode cJ24_keysToArray 79 = .ok (.aload_n 1, 1) := dk_43 (dk_at dksJ24_keysToArray_3 9 rfl rfl)
theorem dJ24_keysToArray_80 : decode cJ24_keysToArray 80 = .ok (.areturn, 1) := dk_176 (dk_at dksJ24_keysToArray_3 10 rfl rfl)
abbrev cJ24_valuesToArray : ByteArray := prog_44_method_27_code
def yJ24_valuesToArray : MethodName := ⟨RJ24, "valuesToArray", "([Ljava/lang/Object;)[Ljava/lang/Object;"⟩
def dkwJ24_valuesToArray_3 : List UInt8 := [167, 255, 232, 132, 7, 1, 167, 255, 212, 43, 176]
abbrev dktJ24_valuesToArray_3 : List UInt8 := dkwJ24_valuesToArray_3 ++ []
def dkwJ24_valuesToArray_2 : List UInt8 := [198, 0, 25, 44, 21, 4, 132, 4, 1, 25, 8, 180, 0, 162, 83, 25, 8, 180, 0, 177, 58, 8]
abbrev dktJ24_valuesToArray_2 : List UInt8 := dkwJ24_valuesToArray_2 ++ dktJ24_valuesToArray_3
def dkwJ24_valuesToArray_1 : List UInt8 := [25, 5, 190, 54, 6, 3, 54, 7, 21, 7, 21, 6, 162, 0, 43, 25, 5, 21, 7, 50, 58, 8, 25, 8]
abbrev dktJ24_valuesToArray_1 : List UInt8 := dkwJ24_valuesToArray_1 ++ dktJ24_valuesToArray_2
def dkwJ24_valuesToArray_0 : List UInt8 := [43, 77, 3, 54, 4, 42, 180, 0, 156, 158, 0, 70, 42, 180, 0, 105, 89, 78, 198, 0, 61, 45, 58, 5]
abbrev dktJ24_valuesToArray_0 : List UInt8 := dkwJ24_valuesToArray_0 ++ dktJ24_valuesToArray_1
theorem dksJ24_valuesToArray_0 : cJ24_valuesToArray.data.toList.drop 0 = dktJ24_valuesToArray_0 := by decide +kernel
theorem dksJ24_valuesToArray_1 : cJ24_valuesToArray.data.toList.drop 24 = dktJ24_valuesToArray_1 := dk_seg dksJ24_valuesToArray_0 24 rfl rfl
theorem dksJ24_valuesToArray_2 : cJ24_valuesToArray.data.toList.drop 48 = dktJ24_valuesToArray_2 := dk_seg dksJ24_valuesToArray_1 24 rfl rfl
theorem dksJ24_valuesToArray_3 : cJ24_valuesToArray.data.toList.drop 70 = dktJ24_valuesToArray_3 := dk_seg dksJ24_valuesToArray_2 22 rfl rfl
theorem dJ24_valuesToArray_0 : decode cJ24_valuesToArray 0 = .ok (.aload_n 1, 1) := dk_43 (dk_at dksJ24_valuesToArray_0 0 rfl rfl)
theorem dJ24_valuesToArray_1 : decode cJ24_valuesToArray 1 = .ok (.astore_n 2, 1) := dk_77 (dk_at dksJ24_valuesToArray_0 1 rfl rfl)
theorem dJ24_valuesToArray_2 : decode cJ24_valuesToArray 2 = .ok (.iconst 0, 1) := dk_3 (dk_at dksJ24_valuesToArray_0 2 rfl rfl)
theorem dJ24_valuesToArray_3 : decode cJ24_valuesToArray 3 = .ok (.istore 4, 2) := dk_54 4 (dk_at dksJ24_valuesToArray_0 3 rfl rfl)
theorem dJ24_valuesToArray_5 : decode cJ24_valuesToArray 5 = .ok (.aload_n 0, 1) := dk_42 (dk_at dksJ24_valuesToArray_0 5 rfl rfl)
theorem dJ24_valuesToArray_6 : decode cJ24_valuesToArray 6 = .ok (.getfield 156, 3) := dk_180 0 156 (dk_at dksJ24_valuesToArray_0 6 rfl rfl)
theorem dJ24_valuesToArray_9 : decode cJ24_valuesToArray 9 = .ok (.ifCond .le 70, 3) := dk_158 0 70 (dk_at dksJ24_valuesToArray_0 9 rfl rfl)
theorem dJ24_valuesToArray_12 : decode cJ24_valuesToArray 12 = .ok (.aload_n 0, 1) := dk_42 (dk_at dksJ24_valuesToArray_0 12 rfl rfl)
theorem dJ24_valuesToArray_13 : decode cJ24_valuesToArray 13 = .ok (.getfield 105, 3) := dk_180 0 105 (dk_at dksJ24_valuesToArray_0 13 rfl rfl)
theorem dJ24_valuesToArray_16 : decode cJ24_valuesToArray 16 = .ok (.dup, 1) := dk_89 (dk_at dksJ24_valuesToArray_0 16 rfl rfl)
theorem dJ24_valuesToArray_17 : decode cJ24_valuesToArray 17 = .ok (.astore_n 3, 1) := dk_78 (dk_at dksJ24_valuesToArray_0 17 rfl rfl)
theorem dJ24_valuesToArray_18 : decode cJ24_valuesToArray 18 = .ok (.ifnull 61, 3) := dk_198 0 61 (dk_at dksJ24_valuesToArray_0 18 rfl rfl)
theorem dJ24_valuesToArray_21 : decode cJ24_valuesToArray 21 = .ok (.aload_n 3, 1) := dk_45 (dk_at dksJ24_valuesToArray_0 21 rfl rfl)
theorem dJ24_valuesToArray_22 : decode cJ24_valuesToArray 22 = .ok (.astore 5, 2) := dk_58 5 (dk_at dksJ24_valuesToArray_0 22 rfl rfl)
theorem dJ24_valuesToArray_24 : decode cJ24_valuesToArray 24 = .ok (.aload 5, 2) := dk_25 5 (dk_at dksJ24_valuesToArray_1 0 rfl rfl)
theorem dJ24_valuesToArray_26 : decode cJ24_valuesToArray 26 = .ok (.arraylength, 1) := dk_190 (dk_at dksJ24_valuesToArray_1 2 rfl rfl)
theorem dJ24_valuesToArray_27 : decode cJ24_valuesToArray 27 = .ok (.istore 6, 2) := dk_54 6 (dk_at dksJ24_valuesToArray_1 3 rfl rfl)
theorem dJ24_valuesToArray_29 : decode cJ24_valuesToArray 29 = .ok (.iconst 0, 1) := dk_3 (dk_at dksJ24_valuesToArray_1 5 rfl rfl)
theorem dJ24_valuesToArray_30 : decode cJ24_valuesToArray 30 = .ok (.istore 7, 2) := dk_54 7 (dk_at dksJ24_valuesToArray_1 6 rfl rfl)
theorem dJ24_valuesToArray_32 : decode cJ24_valuesToArray 32 = .ok (.iload 7, 2) := dk_21 7 (dk_at dksJ24_valuesToArray_1 8 rfl rfl)
theorem dJ24_valuesToArray_34 : decode cJ24_valuesToArray 34 = .ok (.iload 6, 2) := dk_21 6 (dk_at dksJ24_valuesToArray_1 10 rfl rfl)
theorem dJ24_valuesToArray_36 : decode cJ24_valuesToArray 36 = .ok (.if_icmp .ge 43, 3) := dk_162 0 43 (dk_at dksJ24_valuesToArray_1 12 rfl rfl)
theorem dJ24_valuesToArray_39 : decode cJ24_valuesToArray 39 = .ok (.aload 5, 2) := dk_25 5 (dk_at dksJ24_valuesToArray_1 15 rfl rfl)
theorem dJ24_valuesToArray_41 : decode cJ24_valuesToArray 41 = .ok (.iload 7, 2) := dk_21 7 (dk_at dksJ24_valuesToArray_1 17 rfl rfl)
theorem dJ24_valuesToArray_43 : decode cJ24_valuesToArray 43 = .ok (.aaload, 1) := dk_50 (dk_at dksJ24_valuesToArray_1 19 rfl rfl)
theorem dJ24_valuesToArray_44 : decode cJ24_valuesToArray 44 = .ok (.astore 8, 2) := dk_58 8 (dk_at dksJ24_valuesToArray_1 20 rfl rfl)
theorem dJ24_valuesToArray_46 : decode cJ24_valuesToArray 46 = .ok (.aload 8, 2) := dk_25 8 (dk_at dksJ24_valuesToArray_1 22 rfl rfl)
theorem dJ24_valuesToArray_48 : decode cJ24_valuesToArray 48 = .ok (.ifnull 25, 3) := dk_198 0 25 (dk_at dksJ24_valuesToArray_2 0 rfl rfl)
theorem dJ24_valuesToArray_51 : decode cJ24_valuesToArray 51 = .ok (.aload_n 2, 1) := dk_44 (dk_at dksJ24_valuesToArray_2 3 rfl rfl)
theorem dJ24_valuesToArray_52 : decode cJ24_valuesToArray 52 = .ok (.iload 4, 2) := dk_21 4 (dk_at dksJ24_valuesToArray_2 4 rfl rfl)
theorem dJ24_valuesToArray_54 : decode cJ24_valuesToArray 54 = .ok (.iinc 4 1, 3) := dk_132 4 1 (dk_at dksJ24_valuesToArray_2 6 rfl rfl)
theorem dJ24_valuesToArray_57 : decode cJ24_valuesToArray 57 = .ok (.aload 8, 2) := dk_25 8 (dk_at dksJ24_valuesToArray_2 9 rfl rfl)
theorem dJ24_valuesToArray_59 : decode cJ24_valuesToArray 59 = .ok (.getfield 162, 3) := dk_180 0 162 (dk_at dksJ24_valuesToArray_2 11 rfl rfl)
theorem dJ24_valuesToArray_62 : decode cJ24_valuesToArray 62 = .ok (.aastore, 1) := dk_83 (dk_at dksJ24_valuesToArray_2 14 rfl rfl)
theorem dJ24_valuesToArray_63 : decode cJ24_valuesToArray 63 = .ok (.aload 8, 2) := dk_25 8 (dk_at dksJ24_valuesToArray_2 15 rfl rfl)
theorem dJ24_valuesToArray_65 : decode cJ24_valuesToArray 65 = .ok (.getfield 177, 3) := dk_180 0 177 (dk_at dksJ24_valuesToArray_2 17 rfl rfl)
theorem dJ24_valuesToArray_68 : decode cJ24_valuesToArray 68 = .ok (.astore 8, 2) := dk_58 8 (dk_at dksJ24_valuesToArray_2 20 rfl rfl)
theorem dJ24_valuesToArray_70 : decode cJ24_valuesToArray 70 = .ok (.goto (-24), 3) := dk_167 255 232 (dk_at dksJ24_valuesToArray_3 0 rfl rfl)
theorem dJ24_valuesToArray_73 : decode cJ24_valuesToArray 73 = .ok (.iinc 7 1, 3) := dk_132 7 1 (dk_at dksJ24_valuesToArray_3 3 rfl rfl)
theorem dJ24_valuesToArray_76 : decode cJ24_valuesToArray 76 = .ok (.goto (-44), 3) := dk_167 255 212 (dk_at dksJ24_valuesToArray_3 6 rfl rfl)
theorem dJ24_valuesToArray_79 : decode cJ24_valuesToArray 79 = .ok (.aload_n 1, 1) := dk_43 (dk_at dksJ24_valuesToArray_3 9 rfl rfl)
theorem dJ24_valuesToArray_80 : decode cJ24_valuesToArray 80 = .ok (.areturn, 1) := dk_176 (dk_at dksJ24_valuesToArray_3 10 rfl rfl)
abbrev cJ24_size : ByteArray := prog_44_method_10_code
def yJ24_size : MethodName := ⟨RJ24, "size", "()I"⟩
theorem dJ24_size_0 : decode cJ24_size 0 = .ok (.aload_n 0, 1) := by decide +kernel
theorem dJ24_size_1 : decode cJ24_size 1 = .ok (.getfield 156, 3) := by decide +kernel
theorem dJ24_size_4 : decode cJ24_size 4 = .ok (.ireturn, 1) := by decide +kernel
abbrev cJ24_init : ByteArray := prog_44_method_7_code
def yJ24_init : MethodName := ⟨RJ24, "<init>", "()V"⟩
def dkwJ24_init_0 : List UInt8 := [42, 183, 0, 43, 42, 18, 92, 181, 0, 81, 177]
abbrev dktJ24_init_0 : List UInt8 := dkwJ24_init_0 ++ []
theorem dksJ24_init_0 : cJ24_init.data.toList.drop 0 = dktJ24_init_0 := by decide +kernel
theorem dJ24_init_0 : decode cJ24_init 0 = .ok (.aload_n 0, 1) := dk_42 (dk_at dksJ24_init_0 0 rfl rfl)
theorem dJ24_init_1 : decode cJ24_init 1 = .ok (.invokespecial 43, 3) := dk_183 0 43 (dk_at dksJ24_init_0 1 rfl rfl)
theorem dJ24_init_4 : decode cJ24_init 4 = .ok (.aload_n 0, 1) := dk_42 (dk_at dksJ24_init_0 4 rfl rfl)
theorem dJ24_init_5 : decode cJ24_init 5 = .ok (.ldc 92, 2) := dk_18 92 (dk_at dksJ24_init_0 5 rfl rfl)
theorem dJ24_init_7 : decode cJ24_init 7 = .ok (.putfield 81, 3) := dk_181 0 81 (dk_at dksJ24_init_0 7 rfl rfl)
theorem dJ24_init_10 : decode cJ24_init 10 = .ok (.return_, 1) := dk_177 (dk_at dksJ24_init_0 10 rfl rfl)
abbrev cJ24_get : ByteArray := prog_44_method_12_code
def yJ24_get : MethodName := ⟨RJ24, "get", "(Ljava/lang/Object;)Ljava/lang/Object;"⟩
def dkwJ24_get_0 : List UInt8 := [42, 43, 182, 0, 158, 89, 77, 199, 0, 7, 1, 167, 0, 7, 44, 180, 0, 162, 176]
abbrev dktJ24_get_0 : List UInt8 := dkwJ24_get_0 ++ []
theorem dksJ24_get_0 : cJ24_get.data.toList.drop 0 = dktJ24_get_0 := by decide +kernel
theorem dJ24_get_0 : decode cJ24_get 0 = .ok (.aload_n 0, 1) := dk_42 (dk_at dksJ24_get_0 0 rfl rfl)
theorem dJ24_get_1 : decode cJ24_get 1 = .ok (.aload_n 1, 1) := dk_43 (dk_at dksJ24_get_0 1 rfl rfl)
theorem dJ24_get_2 : decode cJ24_get 2 = .ok (.invokevirtual 158, 3) := dk_182 0 158 (dk_at dksJ24_get_0 2 rfl rfl)
theorem dJ24_get_5 : decode cJ24_get 5 = .ok (.dup, 1) := dk_89 (dk_at dksJ24_get_0 5 rfl rfl)
theorem dJ24_get_6 : decode cJ24_get 6 = .ok (.astore_n 2, 1) := dk_77 (dk_at dksJ24_get_0 6 rfl rfl)
theorem dJ24_get_7 : decode cJ24_get 7 = .ok (.ifnonnull 7, 3) := dk_199 0 7 (dk_at dksJ24_get_0 7 rfl rfl)
theorem dJ24_get_10 : decode cJ24_get 10 = .ok (.aconst_null, 1) := dk_1 (dk_at dksJ24_get_0 10 rfl rfl)
theorem dJ24_get_11 : decode cJ24_get 11 = .ok (.goto 7, 3) := dk_167 0 7 (dk_at dksJ24_get_0 11 rfl rfl)
theorem dJ24_get_14 : decode cJ24_get 14 = .ok (.aload_n 2, 1) := dk_44 (dk_at dksJ24_get_0 14 rfl rfl)
theorem dJ24_get_15 : decode cJ24_get 15 = .ok (.getfield 162, 3) := dk_180 0 162 (dk_at dksJ24_get_0 15 rfl rfl)
theorem dJ24_get_18 : decode cJ24_get 18 = .ok (.areturn, 1) := dk_176 (dk_at dksJ24_get_0 18 rfl rfl)
abbrev cJ24_getNode : ByteArray := prog_44_method_13_code
def yJ24_getNode : MethodName := ⟨RJ24, "getNode", "(Ljava/lang/Object;)Ljava/util/HashMap$Node;"⟩
def dkwJ24_getNode_6 : List UInt8 := [89, 58, 4, 199, 255, 210, 1, 176]
abbrev dktJ24_getNode_6 : List UInt8 := dkwJ24_getNode_6 ++ []
def dkwJ24_getNode_5 : List UInt8 := [165, 0, 16, 43, 198, 0, 15, 43, 25, 7, 182, 0, 173, 153, 0, 6, 25, 4, 176, 25, 4, 180, 0, 177]
abbrev dktJ24_getNode_5 : List UInt8 := dkwJ24_getNode_5 ++ dktJ24_getNode_6
def dkwJ24_getNode_4 : List UInt8 := [43, 182, 0, 182, 176, 25, 4, 180, 0, 168, 21, 6, 160, 0, 31, 25, 4, 180, 0, 170, 89, 58, 7, 43]
abbrev dktJ24_getNode_4 : List UInt8 := dkwJ24_getNode_4 ++ dktJ24_getNode_5
def dkwJ24_getNode_3 : List UInt8 := [176, 45, 180, 0, 177, 89, 58, 4, 198, 0, 70, 45, 193, 0, 180, 153, 0, 14, 45, 192, 0, 180, 21, 6]
abbrev dktJ24_getNode_3 : List UInt8 := dkwJ24_getNode_3 ++ dktJ24_getNode_4
def dkwJ24_getNode_2 : List UInt8 := [180, 0, 170, 89, 58, 7, 43, 165, 0, 16, 43, 198, 0, 14, 43, 25, 7, 182, 0, 173, 153, 0, 5, 45]
abbrev dktJ24_getNode_2 : List UInt8 := dkwJ24_getNode_2 ++ dktJ24_getNode_3
def dkwJ24_getNode_1 : List UInt8 := [184, 0, 149, 89, 54, 6, 126, 50, 89, 78, 198, 0, 115, 45, 180, 0, 168, 21, 6, 160, 0, 29, 45]
abbrev dktJ24_getNode_1 : List UInt8 := dkwJ24_getNode_1 ++ dktJ24_getNode_2
def dkwJ24_getNode_0 : List UInt8 := [42, 180, 0, 105, 89, 77, 198, 0, 142, 44, 190, 89, 54, 5, 158, 0, 134, 44, 21, 5, 4, 100, 43]
abbrev dktJ24_getNode_0 : List UInt8 := dkwJ24_getNode_0 ++ dktJ24_getNode_1
theorem dksJ24_getNode_0 : cJ24_getNode.data.toList.drop 0 = dktJ24_getNode_0 := by decide +kernel
theorem dksJ24_getNode_1 : cJ24_getNode.data.toList.drop 23 = dktJ24_getNode_1 := dk_seg dksJ24_getNode_0 23 rfl rfl
theorem dksJ24_getNode_2 : cJ24_getNode.data.toList.drop 46 = dktJ24_getNode_2 := dk_seg dksJ24_getNode_1 23 rfl rfl
theorem dksJ24_getNode_3 : cJ24_getNode.data.toList.drop 70 = dktJ24_getNode_3 := dk_seg dksJ24_getNode_2 24 rfl rfl
theorem dksJ24_getNode_4 : cJ24_getNode.data.toList.drop 94 = dktJ24_getNode_4 := dk_seg dksJ24_getNode_3 24 rfl rfl
theorem dksJ24_getNode_5 : cJ24_getNode.data.toList.drop 118 = dktJ24_getNode_5 := dk_seg dksJ24_getNode_4 24 rfl rfl
theorem dksJ24_getNode_6 : cJ24_getNode.data.toList.drop 142 = dktJ24_getNode_6 := dk_seg dksJ24_getNode_5 24 rfl rfl
theorem dJ24_getNode_0 : decode cJ24_getNode 0 = .ok (.aload_n 0, 1) := dk_42 (dk_at dksJ24_getNode_0 0 rfl rfl)
theorem dJ24_getNode_1 : decode cJ24_getNode 1 = .ok (.getfield 105, 3) := dk_180 0 105 (dk_at dksJ24_getNode_0 1 rfl rfl)
theorem dJ24_getNode_4 : decode cJ24_getNode 4 = .ok (.dup, 1) := dk_89 (dk_at dksJ24_getNode_0 4 rfl rfl)
theorem dJ24_getNode_5 : decode cJ24_getNode 5 = .ok (.astore_n 2, 1) := dk_77 (dk_at dksJ24_getNode_0 5 rfl rfl)
theorem dJ24_getNode_6 : decode cJ24_getNode 6 = .ok (.ifnull 142, 3) := dk_198 0 142 (dk_at dksJ24_getNode_0 6 rfl rfl)
theorem dJ24_getNode_9 : decode cJ24_getNode 9 = .ok (.aload_n 2, 1) := dk_44 (dk_at dksJ24_getNode_0 9 rfl rfl)
theorem dJ24_getNode_10 : decode cJ24_getNode 10 = .ok (.arraylength, 1) := dk_190 (dk_at dksJ24_getNode_0 10 rfl rfl)
theorem dJ24_getNode_11 : decode cJ24_getNode 11 = .ok (.dup, 1) := dk_89 (dk_at dksJ24_getNode_0 11 rfl rfl)
theorem dJ24_getNode_12 : decode cJ24_getNode 12 = .ok (.istore 5, 2) := dk_54 5 (dk_at dksJ24_getNode_0 12 rfl rfl)
theorem dJ24_getNode_14 : decode cJ24_getNode 14 = .ok (.ifCond .le 134, 3) := dk_158 0 134 (dk_at dksJ24_getNode_0 14 rfl rfl)
theorem dJ24_getNode_17 : decode cJ24_getNode 17 = .ok (.aload_n 2, 1) := dk_44 (dk_at dksJ24_getNode_0 17 rfl rfl)
theorem dJ24_getNode_18 : decode cJ24_getNode 18 = .ok (.iload 5, 2) := dk_21 5 (dk_at dksJ24_getNode_0 18 rfl rfl)
theorem dJ24_getNode_20 : decode cJ24_getNode 20 = .ok (.iconst 1, 1) := dk_4 (dk_at dksJ24_getNode_0 20 rfl rfl)
theorem dJ24_getNode_21 : decode cJ24_getNode 21 = .ok (.isub, 1) := dk_100 (dk_at dksJ24_getNode_0 21 rfl rfl)
theorem dJ24_getNode_22 : decode cJ24_getNode 22 = .ok (.aload_n 1, 1) := dk_43 (dk_at dksJ24_getNode_0 22 rfl rfl)
theorem dJ24_getNode_23 : decode cJ24_getNode 23 = .ok (.invokestatic 149, 3) := dk_184 0 149 (dk_at dksJ24_getNode_1 0 rfl rfl)
theorem dJ24_getNode_26 : decode cJ24_getNode 26 = .ok (.dup, 1) := dk_89 (dk_at dksJ24_getNode_1 3 rfl rfl)
theorem dJ24_getNode_27 : decode cJ24_getNode 27 = .ok (.istore 6, 2) := dk_54 6 (dk_at dksJ24_getNode_1 4 rfl rfl)
theorem dJ24_getNode_29 : decode cJ24_getNode 29 = .ok (.iand, 1) := dk_126 (dk_at dksJ24_getNode_1 6 rfl rfl)
theorem dJ24_getNode_30 : decode cJ24_getNode 30 = .ok (.aaload, 1) := dk_50 (dk_at dksJ24_getNode_1 7 rfl rfl)
theorem dJ24_getNode_31 : decode cJ24_getNode 31 = .ok (.dup, 1) := dk_89 (dk_at dksJ24_getNode_1 8 rfl rfl)
theorem dJ24_getNode_32 : decode cJ24_getNode 32 = .ok (.astore_n 3, 1) := dk_78 (dk_at dksJ24_getNode_1 9 rfl rfl)
theorem dJ24_getNode_33 : decode cJ24_getNode 33 = .ok (.ifnull 115, 3) := dk_198 0 115 (dk_at dksJ24_getNode_1 10 rfl rfl)
theorem dJ24_getNode_36 : decode cJ24_getNode 36 = .ok (.aload_n 3, 1) := dk_45 (dk_at dksJ24_getNode_1 13 rfl rfl)
theorem dJ24_getNode_37 : decode cJ24_getNode 37 = .ok (.getfield 168, 3) := dk_180 0 168 (dk_at dksJ24_getNode_1 14 rfl rfl)
theorem dJ24_getNode_40 : decode cJ24_getNode 40 = .ok (.iload 6, 2) := dk_21 6 (dk_at dksJ24_getNode_1 17 rfl rfl)
theorem dJ24_getNode_42 : decode cJ24_getNode 42 = .ok (.if_icmp .ne 29, 3) := dk_160 0 29 (dk_at dksJ24_getNode_1 19 rfl rfl)
theorem dJ24_getNode_45 : decode cJ24_getNode 45 = .ok (.aload_n 3, 1) := dk_45 (dk_at dksJ24_getNode_1 22 rfl rfl)
theorem dJ24_getNode_46 : decode cJ24_getNode 46 = .ok (.getfield 170, 3) := dk_180 0 170 (dk_at dksJ24_getNode_2 0 rfl rfl)
theorem dJ24_getNode_49 : decode cJ24_getNode 49 = .ok (.dup, 1) := dk_89 (dk_at dksJ24_getNode_2 3 rfl rfl)
theorem dJ24_getNode_50 : decode cJ24_getNode 50 = .ok (.astore 7, 2) := dk_58 7 (dk_at dksJ24_getNode_2 4 rfl rfl)
theorem dJ24_getNode_52 : decode cJ24_getNode 52 = .ok (.aload_n 1, 1) := dk_43 (dk_at dksJ24_getNode_2 6 rfl rfl)
theorem dJ24_getNode_53 : decode cJ24_getNode 53 = .ok (.if_acmp .eq 16, 3) := dk_165 0 16 (dk_at dksJ24_getNode_2 7 rfl rfl)
theorem dJ24_getNode_56 : decode cJ24_getNode 56 = .ok (.aload_n 1, 1) := dk_43 (dk_at dksJ24_getNode_2 10 rfl rfl)
theorem dJ24_getNode_57 : decode cJ24_getNode 57 = .ok (.ifnull 14, 3) := dk_198 0 14 (dk_at dksJ24_getNode_2 11 rfl rfl)
theorem dJ24_getNode_60 : decode cJ24_getNode 60 = .ok (.aload_n 1, 1) := dk_43 (dk_at dksJ24_getNode_2 14 rfl rfl)
theorem dJ24_getNode_61 : decode cJ24_getNode 61 = .ok (.aload 7, 2) := dk_25 7 (dk_at dksJ24_getNode_2 15 rfl rfl)
theorem dJ24_getNode_63 : decode cJ24_getNode 63 = .ok (.invokevirtual 173, 3) := dk_182 0 173 (dk_at dksJ24_getNode_2 17 rfl rfl)
theorem dJ24_getNode_66 : decode cJ24_getNode 66 = .ok (.ifCond .eq 5, 3) := dk_153 0 5 (dk_at dksJ24_getNode_2 20 rfl rfl)
theorem dJ24_getNode_69 : decode cJ24_getNode 69 = .ok (.aload_n 3, 1) := dk_45 (dk_at dksJ24_getNode_2 23 rfl rfl)
theorem dJ24_getNode_70 : decode cJ24_getNode 70 = .ok (.areturn, 1) := dk_176 (dk_at dksJ24_getNode_3 0 rfl rfl)
theorem dJ24_getNode_71 : decode cJ24_getNode 71 = .ok (.aload_n 3, 1) := dk_45 (dk_at dksJ24_getNode_3 1 rfl rfl)
theorem dJ24_getNode_72 : decode cJ24_getNode 72 = .ok (.getfield 177, 3) := dk_180 0 177 (dk_at dksJ24_getNode_3 2 rfl rfl)
theorem dJ24_getNode_75 : decode cJ24_getNode 75 = .ok (.dup, 1) := dk_89 (dk_at dksJ24_getNode_3 5 rfl rfl)
theorem dJ24_getNode_76 : decode cJ24_getNode 76 = .ok (.astore 4, 2) := dk_58 4 (dk_at dksJ24_getNode_3 6 rfl rfl)
theorem dJ24_getNode_78 : decode cJ24_getNode 78 = .ok (.ifnull 70, 3) := dk_198 0 70 (dk_at dksJ24_getNode_3 8 rfl rfl)
theorem dJ24_getNode_81 : decode cJ24_getNode 81 = .ok (.aload_n 3, 1) := dk_45 (dk_at dksJ24_getNode_3 11 rfl rfl)
theorem dJ24_getNode_82 : decode cJ24_getNode 82 = .ok (.instanceof 180, 3) := dk_193 0 180 (dk_at dksJ24_getNode_3 12 rfl rfl)
theorem dJ24_getNode_85 : decode cJ24_getNode 85 = .ok (.ifCond .eq 14, 3) := dk_153 0 14 (dk_at dksJ24_getNode_3 15 rfl rfl)
theorem dJ24_getNode_88 : decode cJ24_getNode 88 = .ok (.aload_n 3, 1) := dk_45 (dk_at dksJ24_getNode_3 18 rfl rfl)
theorem dJ24_getNode_89 : decode cJ24_getNode 89 = .ok (.checkcast 180, 3) := dk_192 0 180 (dk_at dksJ24_getNode_3 19 rfl rfl)
theorem dJ24_getNode_92 : decode cJ24_getNode 92 = .ok (.iload 6, 2) := dk_21 6 (dk_at dksJ24_getNode_3 22 rfl rfl)
theorem dJ24_getNode_94 : decode cJ24_getNode 94 = .ok (.aload_n 1, 1) := dk_43 (dk_at dksJ24_getNode_4 0 rfl rfl)
theorem dJ24_getNode_95 : decode cJ24_getNode 95 = .ok (.invokevirtual 182, 3) := dk_182 0 182 (dk_at dksJ24_getNode_4 1 rfl rfl)
theorem dJ24_getNode_98 : decode cJ24_getNode 98 = .ok (.areturn, 1) := dk_176 (dk_at dksJ24_getNode_4 4 rfl rfl)
theorem dJ24_getNode_99 : decode cJ24_getNode 99 = .ok (.aload 4, 2) := dk_25 4 (dk_at dksJ24_getNode_4 5 rfl rfl)
theorem dJ24_getNode_101 : decode cJ24_getNode 101 = .ok (.getfield 168, 3) := dk_180 0 168 (dk_at dksJ24_getNode_4 7 rfl rfl)
theorem dJ24_getNode_104 : decode cJ24_getNode 104 = .ok (.iload 6, 2) := dk_21 6 (dk_at dksJ24_getNode_4 10 rfl rfl)
theorem dJ24_getNode_106 : decode cJ24_getNode 106 = .ok (.if_icmp .ne 31, 3) := dk_160 0 31 (dk_at dksJ24_getNode_4 12 rfl rfl)
theorem dJ24_getNode_109 : decode cJ24_getNode 109 = .ok (.aload 4, 2) := dk_25 4 (dk_at dksJ24_getNode_4 15 rfl rfl)
theorem dJ24_getNode_111 : decode cJ24_getNode 111 = .ok (.getfield 170, 3) := dk_180 0 170 (dk_at dksJ24_getNode_4 17 rfl rfl)
theorem dJ24_getNode_114 : decode cJ24_getNode 114 = .ok (.dup, 1) := dk_89 (dk_at dksJ24_getNode_4 20 rfl rfl)
theorem dJ24_getNode_115 : decode cJ24_getNode 115 = .ok (.astore 7, 2) := dk_58 7 (dk_at dksJ24_getNode_4 21 rfl rfl)
theorem dJ24_getNode_117 : decode cJ24_getNode 117 = .ok (.aload_n 1, 1) := dk_43 (dk_at dksJ24_getNode_4 23 rfl rfl)
theorem dJ24_getNode_118 : decode cJ24_getNode 118 = .ok (.if_acmp .eq 16, 3) := dk_165 0 16 (dk_at dksJ24_getNode_5 0 rfl rfl)
theorem dJ24_getNode_121 : decode cJ24_getNode 121 = .ok (.aload_n 1, 1) := dk_43 (dk_at dksJ24_getNode_5 3 rfl rfl)
theorem dJ24_getNode_122 : decode cJ24_getNode 122 = .ok (.ifnull 15, 3) := dk_198 0 15 (dk_at dksJ24_getNode_5 4 rfl rfl)
theorem dJ24_getNode_125 : decode cJ24_getNode 125 = .ok (.aload_n 1, 1) := dk_43 (dk_at dksJ24_getNode_5 7 rfl rfl)
theorem dJ24_getNode_126 : decode cJ24_getNode 126 = .ok (.aload 7, 2) := dk_25 7 (dk_at dksJ24_getNode_5 8 rfl rfl)
theorem dJ24_getNode_128 : decode cJ24_getNode 128 = .ok (.invokevirtual 173, 3) := dk_182 0 173 (dk_at dksJ24_getNode_5 10 rfl rfl)
theorem dJ24_getNode_131 : decode cJ24_getNode 131 = .ok (.ifCond .eq 6, 3) := dk_153 0 6 (dk_at dksJ24_getNode_5 13 rfl rfl)
theorem dJ24_getNode_134 : decode cJ24_getNode 134 = .ok (.aload 4, 2) := dk_25 4 (dk_at dksJ24_getNode_5 16 rfl rfl)
theorem dJ24_getNode_136 : decode cJ24_getNode 136 = .ok (.areturn, 1) := dk_176 (dk_at dksJ24_getNode_5 18 rfl rfl)
theorem dJ24_getNode_137 : decode cJ24_getNode 137 = .ok (.aload 4, 2) := dk_25 4 (dk_at dksJ24_getNode_5 19 rfl rfl)
theorem dJ24_getNode_139 : decode cJ24_getNode 139 = .ok (.getfield 177, 3) := dk_180 0 177 (dk_at dksJ24_getNode_5 21 rfl rfl)
theorem dJ24_getNode_142 : decode cJ24_getNode 142 = .ok (.dup, 1) := dk_89 (dk_at dksJ24_getNode_6 0 rfl rfl)
theorem dJ24_getNode_143 : decode cJ24_getNode 143 = .ok (.astore 4, 2) := dk_58 4 (dk_at dksJ24_getNode_6 1 rfl rfl)
theorem dJ24_getNode_145 : decode cJ24_getNode 145 = .ok (.ifnonnull (-46), 3) := dk_199 255 210 (dk_at dksJ24_getNode_6 3 rfl rfl)
theorem dJ24_getNode_148 : decode cJ24_getNode 148 = .ok (.aconst_null, 1) := dk_1 (dk_at dksJ24_getNode_6 6 rfl rfl)
theorem dJ24_getNode_149 : decode cJ24_getNode 149 = .ok (.areturn, 1) := dk_176 (dk_at dksJ24_getNode_6 7 rfl rfl)
abbrev cJ24_hash : ByteArray := prog_44_method_1_code
def yJ24_hash : MethodName := ⟨RJ24, "hash", "(Ljava/lang/Object;)I"⟩
def dkwJ24_hash_0 : List UInt8 := [42, 199, 0, 7, 3, 167, 0, 14, 42, 182, 0, 1, 89, 60, 27, 16, 16, 124, 130, 172]
abbrev dktJ24_hash_0 : List UInt8 := dkwJ24_hash_0 ++ []
theorem dksJ24_hash_0 : cJ24_hash.data.toList.drop 0 = dktJ24_hash_0 := by decide +kernel
theorem dJ24_hash_0 : decode cJ24_hash 0 = .ok (.aload_n 0, 1) := dk_42 (dk_at dksJ24_hash_0 0 rfl rfl)
theorem dJ24_hash_1 : decode cJ24_hash 1 = .ok (.ifnonnull 7, 3) := dk_199 0 7 (dk_at dksJ24_hash_0 1 rfl rfl)
theorem dJ24_hash_4 : decode cJ24_hash 4 = .ok (.iconst 0, 1) := dk_3 (dk_at dksJ24_hash_0 4 rfl rfl)
theorem dJ24_hash_5 : decode cJ24_hash 5 = .ok (.goto 14, 3) := dk_167 0 14 (dk_at dksJ24_hash_0 5 rfl rfl)
theorem dJ24_hash_8 : decode cJ24_hash 8 = .ok (.aload_n 0, 1) := dk_42 (dk_at dksJ24_hash_0 8 rfl rfl)
theorem dJ24_hash_9 : decode cJ24_hash 9 = .ok (.invokevirtual 1, 3) := dk_182 0 1 (dk_at dksJ24_hash_0 9 rfl rfl)
theorem dJ24_hash_12 : decode cJ24_hash 12 = .ok (.dup, 1) := dk_89 (dk_at dksJ24_hash_0 12 rfl rfl)
theorem dJ24_hash_13 : decode cJ24_hash 13 = .ok (.istore_n 1, 1) := dk_60 (dk_at dksJ24_hash_0 13 rfl rfl)
theorem dJ24_hash_14 : decode cJ24_hash 14 = .ok (.iload_n 1, 1) := dk_27 (dk_at dksJ24_hash_0 14 rfl rfl)
theorem dJ24_hash_15 : decode cJ24_hash 15 = .ok (.bipush 16, 2) := dk_16 16 (dk_at dksJ24_hash_0 15 rfl rfl)
theorem dJ24_hash_17 : decode cJ24_hash 17 = .ok (.iushr, 1) := dk_124 (dk_at dksJ24_hash_0 17 rfl rfl)
theorem dJ24_hash_18 : decode cJ24_hash 18 = .ok (.ixor, 1) := dk_130 (dk_at dksJ24_hash_0 18 rfl rfl)
theorem dJ24_hash_19 : decode cJ24_hash 19 = .ok (.ireturn, 1) := dk_172 (dk_at dksJ24_hash_0 19 rfl rfl)
abbrev cJ24_comparableClassFor : ByteArray := prog_44_method_2_code
def yJ24_comparableClassFor : MethodName := ⟨RJ24, "comparableClassFor", "(Ljava/lang/Object;)Ljava/lang/Class;"⟩
def dkwJ24_comparableClassFor_4 : List UInt8 := [4, 160, 0, 12, 45, 3, 50, 43, 166, 0, 5, 43, 176, 132, 7, 1, 167, 255, 186, 1, 176]
abbrev dktJ24_comparableClassFor_4 : List UInt8 := dkwJ24_comparableClassFor_4 ++ []
def dkwJ24_comparableClassFor_3 : List UInt8 := [185, 0, 23, 1, 0, 18, 7, 166, 0, 30, 25, 4, 185, 0, 27, 1, 0, 89, 78, 198, 0, 18, 45, 190]
abbrev dktJ24_comparableClassFor_3 : List UInt8 := dkwJ24_comparableClassFor_3 ++ dktJ24_comparableClassFor_4
def dkwJ24_comparableClassFor_2 : List UInt8 := [25, 5, 21, 7, 50, 58, 8, 25, 8, 193, 0, 21, 153, 0, 48, 25, 8, 192, 0, 21, 89, 58, 4]
abbrev dktJ24_comparableClassFor_2 : List UInt8 := dkwJ24_comparableClassFor_2 ++ dktJ24_comparableClassFor_3
def dkwJ24_comparableClassFor_1 : List UInt8 := [89, 77, 198, 0, 87, 44, 58, 5, 25, 5, 190, 54, 6, 3, 54, 7, 21, 7, 21, 6, 162, 0, 69]
abbrev dktJ24_comparableClassFor_1 : List UInt8 := dkwJ24_comparableClassFor_1 ++ dktJ24_comparableClassFor_2
def dkwJ24_comparableClassFor_0 : List UInt8 := [42, 193, 0, 7, 153, 0, 109, 42, 182, 0, 9, 89, 76, 18, 13, 166, 0, 5, 43, 176, 43, 182, 0, 15]
abbrev dktJ24_comparableClassFor_0 : List UInt8 := dkwJ24_comparableClassFor_0 ++ dktJ24_comparableClassFor_1
theorem dksJ24_comparableClassFor_0 : cJ24_comparableClassFor.data.toList.drop 0 = dktJ24_comparableClassFor_0 := by decide +kernel
theorem dksJ24_comparableClassFor_1 : cJ24_comparableClassFor.data.toList.drop 24 = dktJ24_comparableClassFor_1 := dk_seg dksJ24_comparableClassFor_0 24 rfl rfl
theorem dksJ24_comparableClassFor_2 : cJ24_comparableClassFor.data.toList.drop 47 = dktJ24_comparableClassFor_2 := dk_seg dksJ24_comparableClassFor_1 23 rfl rfl
theorem dksJ24_comparableClassFor_3 : cJ24_comparableClassFor.data.toList.drop 70 = dktJ24_comparableClassFor_3 := dk_seg dksJ24_comparableClassFor_2 23 rfl rfl
theorem dksJ24_comparableClassFor_4 : cJ24_comparableClassFor.data.toList.drop 94 = dktJ24_comparableClassFor_4 := dk_seg dksJ24_comparableClassFor_3 24 rfl rfl
theorem dJ24_comparableClassFor_0 : decode cJ24_comparableClassFor 0 = .ok (.aload_n 0, 1) := dk_42 (dk_at dksJ24_comparableClassFor_0 0 rfl rfl)
theorem dJ24_comparableClassFor_1 : decode cJ24_comparableClassFor 1 = .ok (.instanceof 7, 3) := dk_193 0 7 (dk_at dksJ24_comparableClassFor_0 1 rfl rfl)
theorem dJ24_comparableClassFor_4 : decode cJ24_comparableClassFor 4 = .ok (.ifCond .eq 109, 3) := dk_153 0 109 (dk_at dksJ24_comparableClassFor_0 4 rfl rfl)
theorem dJ24_comparableClassFor_7 : decode cJ24_comparableClassFor 7 = .ok (.aload_n 0, 1) := dk_42 (dk_at dksJ24_comparableClassFor_0 7 rfl rfl)
theorem dJ24_comparableClassFor_8 : decode cJ24_comparableClassFor 8 = .ok (.invokevirtual 9, 3) := dk_182 0 9 (dk_at dksJ24_comparableClassFor_0 8 rfl rfl)
theorem dJ24_comparableClassFor_11 : decode cJ24_comparableClassFor 11 = .ok (.dup, 1) := dk_89 (dk_at dksJ24_comparableClassFor_0 11 rfl rfl)
theorem dJ24_comparableClassFor_12 : decode cJ24_comparableClassFor 12 = .ok (.astore_n 1, 1) := dk_76 (dk_at dksJ24_comparableClassFor_0 12 rfl rfl)
theorem dJ24_comparableClassFor_13 : decode cJ24_comparableClassFor 13 = .ok (.ldc 13, 2) := dk_18 13 (dk_at dksJ24_comparableClassFor_0 13 rfl rfl)
theorem dJ24_comparableClassFor_15 : decode cJ24_comparableClassFor 15 = .ok (.if_acmp .ne 5, 3) := dk_166 0 5 (dk_at dksJ24_comparableClassFor_0 15 rfl rfl)
theorem dJ24_comparableClassFor_18 : decode cJ24_comparableClassFor 18 = .ok (.aload_n 1, 1) := dk_43 (dk_at dksJ24_comparableClassFor_0 18 rfl rfl)
theorem dJ24_comparableClassFor_19 : decode cJ24_comparableClassFor 19 = .ok (.areturn, 1) := dk_176 (dk_at dksJ24_comparableClassFor_0 19 rfl rfl)
theorem dJ24_comparableClassFor_20 : decode cJ24_comparableClassFor 20 = .ok (.aload_n 1, 1) := dk_43 (dk_at dksJ24_comparableClassFor_0 20 rfl rfl)
theorem dJ24_comparableClassFor_21 : decode cJ24_comparableClassFor 21 = .ok (.invokevirtual 15, 3) := dk_182 0 15 (dk_at dksJ24_comparableClassFor_0 21 rfl rfl)
theorem dJ24_comparableClassFor_24 : decode cJ24_comparableClassFor 24 = .ok (.dup, 1) := dk_89 (dk_at dksJ24_comparableClassFor_1 0 rfl rfl)
theorem dJ24_comparableClassFor_25 : decode cJ24_comparableClassFor 25 = .ok (.astore_n 2, 1) := dk_77 (dk_at dksJ24_comparableClassFor_1 1 rfl rfl)
theorem dJ24_comparableClassFor_26 : decode cJ24_comparableClassFor 26 = .ok (.ifnull 87, 3) := dk_198 0 87 (dk_at dksJ24_comparableClassFor_1 2 rfl rfl)
theorem dJ24_comparableClassFor_29 : decode cJ24_comparableClassFor 29 = .ok (.aload_n 2, 1) := dk_44 (dk_at dksJ24_comparableClassFor_1 5 rfl rfl)
theorem dJ24_comparableClassFor_30 : decode cJ24_comparableClassFor 30 = .ok (.astore 5, 2) := dk_58 5 (dk_at dksJ24_comparableClassFor_1 6 rfl rfl)
theorem dJ24_comparableClassFor_32 : decode cJ24_comparableClassFor 32 = .ok (.aload 5, 2) := dk_25 5 (dk_at dksJ24_comparableClassFor_1 8 rfl rfl)
theorem dJ24_comparableClassFor_34 : decode cJ24_comparableClassFor 34 = .ok (.arraylength, 1) := dk_190 (dk_at dksJ24_comparableClassFor_1 10 rfl rfl)
theorem dJ24_comparableClassFor_35 : decode cJ24_comparableClassFor 35 = .ok (.istore 6, 2) := dk_54 6 (dk_at dksJ24_comparableClassFor_1 11 rfl rfl)
theorem dJ24_comparableClassFor_37 : decode cJ24_comparableClassFor 37 = .ok (.iconst 0, 1) := dk_3 (dk_at dksJ24_comparableClassFor_1 13 rfl rfl)
theorem dJ24_comparableClassFor_38 : decode cJ24_comparableClassFor 38 = .ok (.istore 7, 2) := dk_54 7 (dk_at dksJ24_comparableClassFor_1 14 rfl rfl)
theorem dJ24_comparableClassFor_40 : decode cJ24_comparableClassFor 40 = .ok (.iload 7, 2) := dk_21 7 (dk_at dksJ24_comparableClassFor_1 16 rfl rfl)
theorem dJ24_comparableClassFor_42 : decode cJ24_comparableClassFor 42 = .ok (.iload 6, 2) := dk_21 6 (dk_at dksJ24_comparableClassFor_1 18 rfl rfl)
theorem dJ24_comparableClassFor_44 : decode cJ24_comparableClassFor 44 = .ok (.if_icmp .ge 69, 3) := dk_162 0 69 (dk_at dksJ24_comparableClassFor_1 20 rfl rfl)
theorem dJ24_comparableClassFor_47 : decode cJ24_comparableClassFor 47 = .ok (.aload 5, 2) := dk_25 5 (dk_at dksJ24_comparableClassFor_2 0 rfl rfl)
theorem dJ24_comparableClassFor_49 : decode cJ24_comparableClassFor 49 = .ok (.iload 7, 2) := dk_21 7 (dk_at dksJ24_comparableClassFor_2 2 rfl rfl)
theorem dJ24_comparableClassFor_51 : decode cJ24_comparableClassFor 51 = .ok (.aaload, 1) := dk_50 (dk_at dksJ24_comparableClassFor_2 4 rfl rfl)
theorem dJ24_comparableClassFor_52 : decode cJ24_comparableClassFor 52 = .ok (.astore 8, 2) := dk_58 8 (dk_at dksJ24_comparableClassFor_2 5 rfl rfl)
theorem dJ24_comparableClassFor_54 : decode cJ24_comparableClassFor 54 = .ok (.aload 8, 2) := dk_25 8 (dk_at dksJ24_comparableClassFor_2 7 rfl rfl)
theorem dJ24_comparableClassFor_56 : decode cJ24_comparableClassFor 56 = .ok (.instanceof 21, 3) := dk_193 0 21 (dk_at dksJ24_comparableClassFor_2 9 rfl rfl)
theorem dJ24_comparableClassFor_59 : decode cJ24_comparableClassFor 59 = .ok (.ifCond .eq 48, 3) := dk_153 0 48 (dk_at dksJ24_comparableClassFor_2 12 rfl rfl)
theorem dJ24_comparableClassFor_62 : decode cJ24_comparableClassFor 62 = .ok (.aload 8, 2) := dk_25 8 (dk_at dksJ24_comparableClassFor_2 15 rfl rfl)
theorem dJ24_comparableClassFor_64 : decode cJ24_comparableClassFor 64 = .ok (.checkcast 21, 3) := dk_192 0 21 (dk_at dksJ24_comparableClassFor_2 17 rfl rfl)
theorem dJ24_comparableClassFor_67 : decode cJ24_comparableClassFor 67 = .ok (.dup, 1) := dk_89 (dk_at dksJ24_comparableClassFor_2 20 rfl rfl)
theorem dJ24_comparableClassFor_68 : decode cJ24_comparableClassFor 68 = .ok (.astore 4, 2) := dk_58 4 (dk_at dksJ24_comparableClassFor_2 21 rfl rfl)
theorem dJ24_comparableClassFor_70 : decode cJ24_comparableClassFor 70 = .ok (.invokeinterface 23 1, 5) := by decide +kernel
theorem dJ24_comparableClassFor_75 : decode cJ24_comparableClassFor 75 = .ok (.ldc 7, 2) := dk_18 7 (dk_at dksJ24_comparableClassFor_3 5 rfl rfl)
theorem dJ24_comparableClassFor_77 : decode cJ24_comparableClassFor 77 = .ok (.if_acmp .ne 30, 3) := dk_166 0 30 (dk_at dksJ24_comparableClassFor_3 7 rfl rfl)
theorem dJ24_comparableClassFor_80 : decode cJ24_comparableClassFor 80 = .ok (.aload 4, 2) := dk_25 4 (dk_at dksJ24_comparableClassFor_3 10 rfl rfl)
theorem dJ24_comparableClassFor_82 : decode cJ24_comparableClassFor 82 = .ok (.invokeinterface 27 1, 5) := by decide +kernel
theorem dJ24_comparableClassFor_87 : decode cJ24_comparableClassFor 87 = .ok (.dup, 1) := dk_89 (dk_at dksJ24_comparableClassFor_3 17 rfl rfl)
theorem dJ24_comparableClassFor_88 : decode cJ24_comparableClassFor 88 = .ok (.astore_n 3, 1) := dk_78 (dk_at dksJ24_comparableClassFor_3 18 rfl rfl)
theorem dJ24_comparableClassFor_89 : decode cJ24_comparableClassFor 89 = .ok (.ifnull 18, 3) := dk_198 0 18 (dk_at dksJ24_comparableClassFor_3 19 rfl rfl)
theorem dJ24_comparableClassFor_92 : decode cJ24_comparableClassFor 92 = .ok (.aload_n 3, 1) := dk_45 (dk_at dksJ24_comparableClassFor_3 22 rfl rfl)
theorem dJ24_comparableClassFor_93 : decode cJ24_comparableClassFor 93 = .ok (.arraylength, 1) := dk_190 (dk_at dksJ24_comparableClassFor_3 23 rfl rfl)
theorem dJ24_comparableClassFor_94 : decode cJ24_comparableClassFor 94 = .ok (.iconst 1, 1) := dk_4 (dk_at dksJ24_comparableClassFor_4 0 rfl rfl)
theorem dJ24_comparableClassFor_95 : decode cJ24_comparableClassFor 95 = .ok (.if_icmp .ne 12, 3) := dk_160 0 12 (dk_at dksJ24_comparableClassFor_4 1 rfl rfl)
theorem dJ24_comparableClassFor_98 : decode cJ24_comparableClassFor 98 = .ok (.aload_n 3, 1) := dk_45 (dk_at dksJ24_comparableClassFor_4 4 rfl rfl)
theorem dJ24_comparableClassFor_99 : decode cJ24_comparableClassFor 99 = .ok (.iconst 0, 1) := dk_3 (dk_at dksJ24_comparableClassFor_4 5 rfl rfl)
theorem dJ24_comparableClassFor_100 : decode cJ24_comparableClassFor 100 = .ok (.aaload, 1) := dk_50 (dk_at dksJ24_comparableClassFor_4 6 rfl rfl)
theorem dJ24_comparableClassFor_101 : decode cJ24_comparableClassFor 101 = .ok (.aload_n 1, 1) := dk_43 (dk_at dksJ24_comparableClassFor_4 7 rfl rfl)
theorem dJ24_comparableClassFor_102 : decode cJ24_comparableClassFor 102 = .ok (.if_acmp .ne 5, 3) := dk_166 0 5 (dk_at dksJ24_comparableClassFor_4 8 rfl rfl)
theorem dJ24_comparableClassFor_105 : decode cJ24_comparableClassFor 105 = .ok (.aload_n 1, 1) := dk_43 (dk_at dksJ24_comparableClassFor_4 11 rfl rfl)
theorem dJ24_comparableClassFor_106 : decode cJ24_comparableClassFor 106 = .ok (.areturn, 1) := dk_176 (dk_at dksJ24_comparableClassFor_4 12 rfl rfl)
theorem dJ24_comparableClassFor_107 : decode cJ24_comparableClassFor 107 = .ok (.iinc 7 1, 3) := dk_132 7 1 (dk_at dksJ24_comparableClassFor_4 13 rfl rfl)
theorem dJ24_comparableClassFor_110 : decode cJ24_comparableClassFor 110 = .ok (.goto (-70), 3) := dk_167 255 186 (dk_at dksJ24_comparableClassFor_4 16 rfl rfl)
theorem dJ24_comparableClassFor_113 : decode cJ24_comparableClassFor 113 = .ok (.aconst_null, 1) := dk_1 (dk_at dksJ24_comparableClassFor_4 19 rfl rfl)
theorem dJ24_comparableClassFor_114 : decode cJ24_comparableClassFor 114 = .ok (.areturn, 1) := dk_176 (dk_at dksJ24_comparableClassFor_4 20 rfl rfl)
abbrev cJ24_compareComparables : ByteArray := prog_44_method_3_code
def yJ24_compareComparables : MethodName := ⟨RJ24, "compareComparables", "(Ljava/lang/Class;Ljava/lang/Object;Ljava/lang/Object;)I"⟩
def dkwJ24_compareComparables_1 : List UInt8 := [185, 0, 30, 2, 0, 172]
abbrev dktJ24_compareComparables_1 : List UInt8 := dkwJ24_compareComparables_1 ++ []
def dkwJ24_compareComparables_0 : List UInt8 := [44, 198, 0, 11, 44, 182, 0, 9, 42, 165, 0, 7, 3, 167, 0, 13, 43, 192, 0, 7, 44]
abbrev dktJ24_compareComparables_0 : List UInt8 := dkwJ24_compareComparables_0 ++ dktJ24_compareComparables_1
theorem dksJ24_compareComparables_0 : cJ24_compareComparables.data.toList.drop 0 = dktJ24_compareComparables_0 := by decide +kernel
theorem dksJ24_compareComparables_1 : cJ24_compareComparables.data.toList.drop 21 = dktJ24_compareComparables_1 := dk_seg dksJ24_compareComparables_0 21 rfl rfl
theorem dJ24_compareComparables_0 : decode cJ24_compareComparables 0 = .ok (.aload_n 2, 1) := dk_44 (dk_at dksJ24_compareComparables_0 0 rfl rfl)
theorem dJ24_compareComparables_1 : decode cJ24_compareComparables 1 = .ok (.ifnull 11, 3) := dk_198 0 11 (dk_at dksJ24_compareComparables_0 1 rfl rfl)
theorem dJ24_compareComparables_4 : decode cJ24_compareComparables 4 = .ok (.aload_n 2, 1) := dk_44 (dk_at dksJ24_compareComparables_0 4 rfl rfl)
theorem dJ24_compareComparables_5 : decode cJ24_compareComparables 5 = .ok (.invokevirtual 9, 3) := dk_182 0 9 (dk_at dksJ24_compareComparables_0 5 rfl rfl)
theorem dJ24_compareComparables_8 : decode cJ24_compareComparables 8 = .ok (.aload_n 0, 1) := dk_42 (dk_at dksJ24_compareComparables_0 8 rfl rfl)
theorem dJ24_compareComparables_9 : decode cJ24_compareComparables 9 = .ok (.if_acmp .eq 7, 3) := dk_165 0 7 (dk_at dksJ24_compareComparables_0 9 rfl rfl)
theorem dJ24_compareComparables_12 : decode cJ24_compareComparables 12 = .ok (.iconst 0, 1) := dk_3 (dk_at dksJ24_compareComparables_0 12 rfl rfl)
theorem dJ24_compareComparables_13 : decode cJ24_compareComparables 13 = .ok (.goto 13, 3) := dk_167 0 13 (dk_at dksJ24_compareComparables_0 13 rfl rfl)
theorem dJ24_compareComparables_16 : decode cJ24_compareComparables 16 = .ok (.aload_n 1, 1) := dk_43 (dk_at dksJ24_compareComparables_0 16 rfl rfl)
theorem dJ24_compareComparables_17 : decode cJ24_compareComparables 17 = .ok (.checkcast 7, 3) := dk_192 0 7 (dk_at dksJ24_compareComparables_0 17 rfl rfl)
theorem dJ24_compareComparables_20 : decode cJ24_compareComparables 20 = .ok (.aload_n 2, 1) := dk_44 (dk_at dksJ24_compareComparables_0 20 rfl rfl)
theorem dJ24_compareComparables_21 : decode cJ24_compareComparables 21 = .ok (.invokeinterface 30 2, 5) := by decide +kernel
theorem dJ24_compareComparables_26 : decode cJ24_compareComparables 26 = .ok (.ireturn, 1) := dk_172 (dk_at dksJ24_compareComparables_1 5 rfl rfl)
abbrev cJ24_put : ByteArray := prog_44_method_15_code
def yJ24_put : MethodName := ⟨RJ24, "put", "(Ljava/lang/Object;Ljava/lang/Object;)Ljava/lang/Object;"⟩
def dkwJ24_put_0 : List UInt8 := [42, 43, 184, 0, 149, 43, 44, 3, 4, 182, 0, 152, 176]
abbrev dktJ24_put_0 : List UInt8 := dkwJ24_put_0 ++ []
theorem dksJ24_put_0 : cJ24_put.data.toList.drop 0 = dktJ24_put_0 := by decide +kernel
theorem dJ24_put_0 : decode cJ24_put 0 = .ok (.aload_n 0, 1) := dk_42 (dk_at dksJ24_put_0 0 rfl rfl)
theorem dJ24_put_1 : decode cJ24_put 1 = .ok (.aload_n 1, 1) := dk_43 (dk_at dksJ24_put_0 1 rfl rfl)
theorem dJ24_put_2 : decode cJ24_put 2 = .ok (.invokestatic 149, 3) := dk_184 0 149 (dk_at dksJ24_put_0 2 rfl rfl)
theorem dJ24_put_5 : decode cJ24_put 5 = .ok (.aload_n 1, 1) := dk_43 (dk_at dksJ24_put_0 5 rfl rfl)
theorem dJ24_put_6 : decode cJ24_put 6 = .ok (.aload_n 2, 1) := dk_44 (dk_at dksJ24_put_0 6 rfl rfl)
theorem dJ24_put_7 : decode cJ24_put 7 = .ok (.iconst 0, 1) := dk_3 (dk_at dksJ24_put_0 7 rfl rfl)
theorem dJ24_put_8 : decode cJ24_put 8 = .ok (.iconst 1, 1) := dk_4 (dk_at dksJ24_put_0 8 rfl rfl)
theorem dJ24_put_9 : decode cJ24_put 9 = .ok (.invokevirtual 152, 3) := dk_182 0 152 (dk_at dksJ24_put_0 9 rfl rfl)
theorem dJ24_put_12 : decode cJ24_put 12 = .ok (.areturn, 1) := dk_176 (dk_at dksJ24_put_0 12 rfl rfl)
abbrev cJ24_putVal : ByteArray := prog_44_method_16_code
def yJ24_putVal : MethodName := ⟨RJ24, "putVal", "(ILjava/lang/Object;Ljava/lang/Object;ZZ)Ljava/lang/Object;"⟩
def dkwJ24_putVal_12 : List UInt8 := [181, 0, 156, 42, 180, 0, 88, 164, 0, 8, 42, 182, 0, 117, 87, 42, 21, 5, 182, 0, 205, 1, 176]
abbrev dktJ24_putVal_12 : List UInt8 := dkwJ24_putVal_12 ++ []
def dkwJ24_putVal_11 : List UInt8 := [182, 0, 198, 25, 12, 176, 42, 89, 180, 0, 202, 4, 96, 181, 0, 202, 42, 89, 180, 0, 156, 4, 96, 90]
abbrev dktJ24_putVal_11 : List UInt8 := dkwJ24_putVal_11 ++ dktJ24_putVal_12
def dkwJ24_putVal_10 : List UInt8 := [180, 0, 162, 58, 12, 21, 4, 153, 0, 8, 25, 12, 199, 0, 9, 25, 10, 45, 181, 0, 162, 42, 25, 10]
abbrev dktJ24_putVal_10 : List UInt8 := dkwJ24_putVal_10 ++ dktJ24_putVal_11
def dkwJ24_putVal_9 : List UInt8 := [153, 0, 6, 167, 0, 13, 25, 10, 58, 7, 132, 12, 1, 167, 255, 171, 25, 10, 198, 0, 35, 25, 10]
abbrev dktJ24_putVal_9 : List UInt8 := dkwJ24_putVal_9 ++ dktJ24_putVal_10
def dkwJ24_putVal_8 : List UInt8 := [25, 10, 180, 0, 170, 89, 58, 11, 44, 165, 0, 29, 44, 198, 0, 15, 44, 25, 11, 182, 0, 173]
abbrev dktJ24_putVal_8 : List UInt8 := dkwJ24_putVal_8 ++ dktJ24_putVal_9
def dkwJ24_putVal_7 : List UInt8 := [16, 7, 161, 0, 60, 42, 25, 6, 27, 182, 0, 194, 167, 0, 50, 25, 10, 180, 0, 168, 27, 160, 0, 31]
abbrev dktJ24_putVal_7 : List UInt8 := dkwJ24_putVal_7 ++ dktJ24_putVal_8
def dkwJ24_putVal_6 : List UInt8 := [180, 0, 177, 89, 58, 10, 199, 0, 33, 25, 7, 42, 27, 44, 45, 1, 182, 0, 186, 181, 0, 177, 21, 12]
abbrev dktJ24_putVal_6 : List UInt8 := dkwJ24_putVal_6 ++ dktJ24_putVal_7
def dkwJ24_putVal_5 : List UInt8 := [192, 0, 180, 42, 25, 6, 27, 44, 45, 182, 0, 190, 58, 10, 167, 0, 94, 3, 54, 12, 25, 7]
abbrev dktJ24_putVal_5 : List UInt8 := dkwJ24_putVal_5 ++ dktJ24_putVal_6
def dkwJ24_putVal_4 : List UInt8 := [182, 0, 173, 153, 0, 10, 25, 7, 58, 10, 167, 0, 121, 25, 7, 193, 0, 180, 153, 0, 22, 25, 7]
abbrev dktJ24_putVal_4 : List UInt8 := dkwJ24_putVal_4 ++ dktJ24_putVal_5
def dkwJ24_putVal_3 : List UInt8 := [160, 0, 35, 25, 7, 180, 0, 170, 89, 58, 11, 44, 165, 0, 16, 44, 198, 0, 19, 44, 25, 11]
abbrev dktJ24_putVal_3 : List UInt8 := dkwJ24_putVal_3 ++ dktJ24_putVal_4
def dkwJ24_putVal_2 : List UInt8 := [25, 6, 21, 9, 42, 27, 44, 45, 1, 182, 0, 186, 83, 167, 0, 199, 25, 7, 180, 0, 168, 27]
abbrev dktJ24_putVal_2 : List UInt8 := dkwJ24_putVal_2 ++ dktJ24_putVal_3
def dkwJ24_putVal_1 : List UInt8 := [58, 6, 190, 54, 8, 25, 6, 21, 8, 4, 100, 27, 126, 89, 54, 9, 50, 89, 58, 7, 199, 0, 19]
abbrev dktJ24_putVal_1 : List UInt8 := dkwJ24_putVal_1 ++ dktJ24_putVal_2
def dkwJ24_putVal_0 : List UInt8 := [42, 180, 0, 105, 89, 58, 6, 198, 0, 12, 25, 6, 190, 89, 54, 8, 154, 0, 13, 42, 182, 0, 117, 89]
abbrev dktJ24_putVal_0 : List UInt8 := dkwJ24_putVal_0 ++ dktJ24_putVal_1
theorem dksJ24_putVal_0 : cJ24_putVal.data.toList.drop 0 = dktJ24_putVal_0 := by decide +kernel
theorem dksJ24_putVal_1 : cJ24_putVal.data.toList.drop 24 = dktJ24_putVal_1 := dk_seg dksJ24_putVal_0 24 rfl rfl
theorem dksJ24_putVal_2 : cJ24_putVal.data.toList.drop 47 = dktJ24_putVal_2 := dk_seg dksJ24_putVal_1 23 rfl rfl
theorem dksJ24_putVal_3 : cJ24_putVal.data.toList.drop 69 = dktJ24_putVal_3 := dk_seg dksJ24_putVal_2 22 rfl rfl
theorem dksJ24_putVal_4 : cJ24_putVal.data.toList.drop 91 = dktJ24_putVal_4 := dk_seg dksJ24_putVal_3 22 rfl rfl
theorem dksJ24_putVal_5 : cJ24_putVal.data.toList.drop 114 = dktJ24_putVal_5 := dk_seg dksJ24_putVal_4 23 rfl rfl
theorem dksJ24_putVal_6 : cJ24_putVal.data.toList.drop 136 = dktJ24_putVal_6 := dk_seg dksJ24_putVal_5 22 rfl rfl
theorem dksJ24_putVal_7 : cJ24_putVal.data.toList.drop 160 = dktJ24_putVal_7 := dk_seg dksJ24_putVal_6 24 rfl rfl
theorem dksJ24_putVal_8 : cJ24_putVal.data.toList.drop 184 = dktJ24_putVal_8 := dk_seg dksJ24_putVal_7 24 rfl rfl
theorem dksJ24_putVal_9 : cJ24_putVal.data.toList.drop 206 = dktJ24_putVal_9 := dk_seg dksJ24_putVal_8 22 rfl rfl
theorem dksJ24_putVal_10 : cJ24_putVal.data.toList.drop 229 = dktJ24_putVal_10 := dk_seg dksJ24_putVal_9 23 rfl rfl
theorem dksJ24_putVal_11 : cJ24_putVal.data.toList.drop 253 = dktJ24_putVal_11 := dk_seg dksJ24_putVal_10 24 rfl rfl
theorem dksJ24_putVal_12 : cJ24_putVal.data.toList.drop 277 = dktJ24_putVal_12 := dk_seg dksJ24_putVal_11 24 rfl rfl
theorem dJ24_putVal_0 : decode cJ24_putVal 0 = .ok (.aload_n 0, 1) := dk_42 (dk_at dksJ24_putVal_0 0 rfl rfl)
theorem dJ24_putVal_1 : decode cJ24_putVal 1 = .ok (.getfield 105, 3) := dk_180 0 105 (dk_at dksJ24_putVal_0 1 rfl rfl)
theorem dJ24_putVal_4 : decode cJ24_putVal 4 = .ok (.dup, 1) := dk_89 (dk_at dksJ24_putVal_0 4 rfl rfl)
theorem dJ24_putVal_5 : decode cJ24_putVal 5 = .ok (.astore 6, 2) := dk_58 6 (dk_at dksJ24_putVal_0 5 rfl rfl)
theorem dJ24_putVal_7 : decode cJ24_putVal 7 = .ok (.ifnull 12, 3) := dk_198 0 12 (dk_at dksJ24_putVal_0 7 rfl rfl)
theorem dJ24_putVal_10 : decode cJ24_putVal 10 = .ok (.aload 6, 2) := dk_25 6 (dk_at dksJ24_putVal_0 10 rfl rfl)
theorem dJ24_putVal_12 : decode cJ24_putVal 12 = .ok (.arraylength, 1) := dk_190 (dk_at dksJ24_putVal_0 12 rfl rfl)
theorem dJ24_putVal_13 : decode cJ24_putVal 13 = .ok (.dup, 1) := dk_89 (dk_at dksJ24_putVal_0 13 rfl rfl)
theorem dJ24_putVal_14 : decode cJ24_putVal 14 = .ok (.istore 8, 2) := dk_54 8 (dk_at dksJ24_putVal_0 14 rfl rfl)
theorem dJ24_putVal_16 : decode cJ24_putVal 16 = .ok (.ifCond .ne 13, 3) := dk_154 0 13 (dk_at dksJ24_putVal_0 16 rfl rfl)
theorem dJ24_putVal_19 : decode cJ24_putVal 19 = .ok (.aload_n 0, 1) := dk_42 (dk_at dksJ24_putVal_0 19 rfl rfl)
theorem dJ24_putVal_20 : decode cJ24_putVal 20 = .ok (.invokevirtual 117, 3) := dk_182 0 117 (dk_at dksJ24_putVal_0 20 rfl rfl)
theorem dJ24_putVal_23 : decode cJ24_putVal 23 = .ok (.dup, 1) := dk_89 (dk_at dksJ24_putVal_0 23 rfl rfl)
theorem dJ24_putVal_24 : decode cJ24_putVal 24 = .ok (.astore 6, 2) := dk_58 6 (dk_at dksJ24_putVal_1 0 rfl rfl)
theorem dJ24_putVal_26 : decode cJ24_putVal 26 = .ok (.arraylength, 1) := dk_190 (dk_at dksJ24_putVal_1 2 rfl rfl)
theorem dJ24_putVal_27 : decode cJ24_putVal 27 = .ok (.istore 8, 2) := dk_54 8 (dk_at dksJ24_putVal_1 3 rfl rfl)
theorem dJ24_putVal_29 : decode cJ24_putVal 29 = .ok (.aload 6, 2) := dk_25 6 (dk_at dksJ24_putVal_1 5 rfl rfl)
theorem dJ24_putVal_31 : decode cJ24_putVal 31 = .ok (.iload 8, 2) := dk_21 8 (dk_at dksJ24_putVal_1 7 rfl rfl)
theorem dJ24_putVal_33 : decode cJ24_putVal 33 = .ok (.iconst 1, 1) := dk_4 (dk_at dksJ24_putVal_1 9 rfl rfl)
theorem dJ24_putVal_34 : decode cJ24_putVal 34 = .ok (.isub, 1) := dk_100 (dk_at dksJ24_putVal_1 10 rfl rfl)
theorem dJ24_putVal_35 : decode cJ24_putVal 35 = .ok (.iload_n 1, 1) := dk_27 (dk_at dksJ24_putVal_1 11 rfl rfl)
theorem dJ24_putVal_36 : decode cJ24_putVal 36 = .ok (.iand, 1) := dk_126 (dk_at dksJ24_putVal_1 12 rfl rfl)
theorem dJ24_putVal_37 : decode cJ24_putVal 37 = .ok (.dup, 1) := dk_89 (dk_at dksJ24_putVal_1 13 rfl rfl)
theorem dJ24_putVal_38 : decode cJ24_putVal 38 = .ok (.istore 9, 2) := dk_54 9 (dk_at dksJ24_putVal_1 14 rfl rfl)
theorem dJ24_putVal_40 : decode cJ24_putVal 40 = .ok (.aaload, 1) := dk_50 (dk_at dksJ24_putVal_1 16 rfl rfl)
theorem dJ24_putVal_41 : decode cJ24_putVal 41 = .ok (.dup, 1) := dk_89 (dk_at dksJ24_putVal_1 17 rfl rfl)
theorem dJ24_putVal_42 : decode cJ24_putVal 42 = .ok (.astore 7, 2) := dk_58 7 (dk_at dksJ24_putVal_1 18 rfl rfl)
theorem dJ24_putVal_44 : decode cJ24_putVal 44 = .ok (.ifnonnull 19, 3) := dk_199 0 19 (dk_at dksJ24_putVal_1 20 rfl rfl)
theorem dJ24_putVal_47 : decode cJ24_putVal 47 = .ok (.aload 6, 2) := dk_25 6 (dk_at dksJ24_putVal_2 0 rfl rfl)
theorem dJ24_putVal_49 : decode cJ24_putVal 49 = .ok (.iload 9, 2) := dk_21 9 (dk_at dksJ24_putVal_2 2 rfl rfl)
theorem dJ24_putVal_51 : decode cJ24_putVal 51 = .ok (.aload_n 0, 1) := dk_42 (dk_at dksJ24_putVal_2 4 rfl rfl)
theorem dJ24_putVal_52 : decode cJ24_putVal 52 = .ok (.iload_n 1, 1) := dk_27 (dk_at dksJ24_putVal_2 5 rfl rfl)
theorem dJ24_putVal_53 : decode cJ24_putVal 53 = .ok (.aload_n 2, 1) := dk_44 (dk_at dksJ24_putVal_2 6 rfl rfl)
theorem dJ24_putVal_54 : decode cJ24_putVal 54 = .ok (.aload_n 3, 1) := dk_45 (dk_at dksJ24_putVal_2 7 rfl rfl)
theorem dJ24_putVal_55 : decode cJ24_putVal 55 = .ok (.aconst_null, 1) := dk_1 (dk_at dksJ24_putVal_2 8 rfl rfl)
theorem dJ24_putVal_56 : decode cJ24_putVal 56 = .ok (.invokevirtual 186, 3) := dk_182 0 186 (dk_at dksJ24_putVal_2 9 rfl rfl)
theorem dJ24_putVal_59 : decode cJ24_putVal 59 = .ok (.aastore, 1) := dk_83 (dk_at dksJ24_putVal_2 12 rfl rfl)
theorem dJ24_putVal_60 : decode cJ24_putVal 60 = .ok (.goto 199, 3) := dk_167 0 199 (dk_at dksJ24_putVal_2 13 rfl rfl)
theorem dJ24_putVal_63 : decode cJ24_putVal 63 = .ok (.aload 7, 2) := dk_25 7 (dk_at dksJ24_putVal_2 16 rfl rfl)
theorem dJ24_putVal_65 : decode cJ24_putVal 65 = .ok (.getfield 168, 3) := dk_180 0 168 (dk_at dksJ24_putVal_2 18 rfl rfl)
theorem dJ24_putVal_68 : decode cJ24_putVal 68 = .ok (.iload_n 1, 1) := dk_27 (dk_at dksJ24_putVal_2 21 rfl rfl)
theorem dJ24_putVal_69 : decode cJ24_putVal 69 = .ok (.if_icmp .ne 35, 3) := dk_160 0 35 (dk_at dksJ24_putVal_3 0 rfl rfl)
theorem dJ24_putVal_72 : decode cJ24_putVal 72 = .ok (.aload 7, 2) := dk_25 7 (dk_at dksJ24_putVal_3 3 rfl rfl)
theorem dJ24_putVal_74 : decode cJ24_putVal 74 = .ok (.getfield 170, 3) := dk_180 0 170 (dk_at dksJ24_putVal_3 5 rfl rfl)
theorem dJ24_putVal_77 : decode cJ24_putVal 77 = .ok (.dup, 1) := dk_89 (dk_at dksJ24_putVal_3 8 rfl rfl)
theorem dJ24_putVal_78 : decode cJ24_putVal 78 = .ok (.astore 11, 2) := dk_58 11 (dk_at dksJ24_putVal_3 9 rfl rfl)
theorem dJ24_putVal_80 : decode cJ24_putVal 80 = .ok (.aload_n 2, 1) := dk_44 (dk_at dksJ24_putVal_3 11 rfl rfl)
theorem dJ24_putVal_81 : decode cJ24_putVal 81 = .ok (.if_acmp .eq 16, 3) := dk_165 0 16 (dk_at dksJ24_putVal_3 12 rfl rfl)
theorem dJ24_putVal_84 : decode cJ24_putVal 84 = .ok (.aload_n 2, 1) := dk_44 (dk_at dksJ24_putVal_3 15 rfl rfl)
theorem dJ24_putVal_85 : decode cJ24_putVal 85 = .ok (.ifnull 19, 3) := dk_198 0 19 (dk_at dksJ24_putVal_3 16 rfl rfl)
theorem dJ24_putVal_88 : decode cJ24_putVal 88 = .ok (.aload_n 2, 1) := dk_44 (dk_at dksJ24_putVal_3 19 rfl rfl)
theorem dJ24_putVal_89 : decode cJ24_putVal 89 = .ok (.aload 11, 2) := dk_25 11 (dk_at dksJ24_putVal_3 20 rfl rfl)
theorem dJ24_putVal_91 : decode cJ24_putVal 91 = .ok (.invokevirtual 173, 3) := dk_182 0 173 (dk_at dksJ24_putVal_4 0 rfl rfl)
theorem dJ24_putVal_94 : decode cJ24_putVal 94 = .ok (.ifCond .eq 10, 3) := dk_153 0 10 (dk_at dksJ24_putVal_4 3 rfl rfl)
theorem dJ24_putVal_97 : decode cJ24_putVal 97 = .ok (.aload 7, 2) := dk_25 7 (dk_at dksJ24_putVal_4 6 rfl rfl)
theorem dJ24_putVal_99 : decode cJ24_putVal 99 = .ok (.astore 10, 2) := dk_58 10 (dk_at dksJ24_putVal_4 8 rfl rfl)
theorem dJ24_putVal_101 : decode cJ24_putVal 101 = .ok (.goto 121, 3) := dk_167 0 121 (dk_at dksJ24_putVal_4 10 rfl rfl)
theorem dJ24_putVal_104 : decode cJ24_putVal 104 = .ok (.aload 7, 2) := dk_25 7 (dk_at dksJ24_putVal_4 13 rfl rfl)
theorem dJ24_putVal_106 : decode cJ24_putVal 106 = .ok (.instanceof 180, 3) := dk_193 0 180 (dk_at dksJ24_putVal_4 15 rfl rfl)
theorem dJ24_putVal_109 : decode cJ24_putVal 109 = .ok (.ifCond .eq 22, 3) := dk_153 0 22 (dk_at dksJ24_putVal_4 18 rfl rfl)
theorem dJ24_putVal_112 : decode cJ24_putVal 112 = .ok (.aload 7, 2) := dk_25 7 (dk_at dksJ24_putVal_4 21 rfl rfl)
theorem dJ24_putVal_114 : decode cJ24_putVal 114 = .ok (.checkcast 180, 3) := dk_192 0 180 (dk_at dksJ24_putVal_5 0 rfl rfl)
theorem dJ24_putVal_117 : decode cJ24_putVal 117 = .ok (.aload_n 0, 1) := dk_42 (dk_at dksJ24_putVal_5 3 rfl rfl)
theorem dJ24_putVal_118 : decode cJ24_putVal 118 = .ok (.aload 6, 2) := dk_25 6 (dk_at dksJ24_putVal_5 4 rfl rfl)
theorem dJ24_putVal_120 : decode cJ24_putVal 120 = .ok (.iload_n 1, 1) := dk_27 (dk_at dksJ24_putVal_5 6 rfl rfl)
theorem dJ24_putVal_121 : decode cJ24_putVal 121 = .ok (.aload_n 2, 1) := dk_44 (dk_at dksJ24_putVal_5 7 rfl rfl)
theorem dJ24_putVal_122 : decode cJ24_putVal 122 = .ok (.aload_n 3, 1) := dk_45 (dk_at dksJ24_putVal_5 8 rfl rfl)
theorem dJ24_putVal_123 : decode cJ24_putVal 123 = .ok (.invokevirtual 190, 3) := dk_182 0 190 (dk_at dksJ24_putVal_5 9 rfl rfl)
theorem dJ24_putVal_126 : decode cJ24_putVal 126 = .ok (.astore 10, 2) := dk_58 10 (dk_at dksJ24_putVal_5 12 rfl rfl)
theorem dJ24_putVal_128 : decode cJ24_putVal 128 = .ok (.goto 94, 3) := dk_167 0 94 (dk_at dksJ24_putVal_5 14 rfl rfl)
theorem dJ24_putVal_131 : decode cJ24_putVal 131 = .ok (.iconst 0, 1) := dk_3 (dk_at dksJ24_putVal_5 17 rfl rfl)
theorem dJ24_putVal_132 : decode cJ24_putVal 132 = .ok (.istore 12, 2) := dk_54 12 (dk_at dksJ24_putVal_5 18 rfl rfl)
theorem dJ24_putVal_134 : decode cJ24_putVal 134 = .ok (.aload 7, 2) := dk_25 7 (dk_at dksJ24_putVal_5 20 rfl rfl)
theorem dJ24_putVal_136 : decode cJ24_putVal 136 = .ok (.getfield 177, 3) := dk_180 0 177 (dk_at dksJ24_putVal_6 0 rfl rfl)
theorem dJ24_putVal_139 : decode cJ24_putVal 139 = .ok (.dup, 1) := dk_89 (dk_at dksJ24_putVal_6 3 rfl rfl)
theorem dJ24_putVal_140 : decode cJ24_putVal 140 = .ok (.astore 10, 2) := dk_58 10 (dk_at dksJ24_putVal_6 4 rfl rfl)
theorem dJ24_putVal_142 : decode cJ24_putVal 142 = .ok (.ifnonnull 33, 3) := dk_199 0 33 (dk_at dksJ24_putVal_6 6 rfl rfl)
theorem dJ24_putVal_145 : decode cJ24_putVal 145 = .ok (.aload 7, 2) := dk_25 7 (dk_at dksJ24_putVal_6 9 rfl rfl)
theorem dJ24_putVal_147 : decode cJ24_putVal 147 = .ok (.aload_n 0, 1) := dk_42 (dk_at dksJ24_putVal_6 11 rfl rfl)
theorem dJ24_putVal_148 : decode cJ24_putVal 148 = .ok (.iload_n 1, 1) := dk_27 (dk_at dksJ24_putVal_6 12 rfl rfl)
theorem dJ24_putVal_149 : decode cJ24_putVal 149 = .ok (.aload_n 2, 1) := dk_44 (dk_at dksJ24_putVal_6 13 rfl rfl)
theorem dJ24_putVal_150 : decode cJ24_putVal 150 = .ok (.aload_n 3, 1) := dk_45 (dk_at dksJ24_putVal_6 14 rfl rfl)
theorem dJ24_putVal_151 : decode cJ24_putVal 151 = .ok (.aconst_null, 1) := dk_1 (dk_at dksJ24_putVal_6 15 rfl rfl)
theorem dJ24_putVal_152 : decode cJ24_putVal 152 = .ok (.invokevirtual 186, 3) := dk_182 0 186 (dk_at dksJ24_putVal_6 16 rfl rfl)
theorem dJ24_putVal_155 : decode cJ24_putVal 155 = .ok (.putfield 177, 3) := dk_181 0 177 (dk_at dksJ24_putVal_6 19 rfl rfl)
theorem dJ24_putVal_158 : decode cJ24_putVal 158 = .ok (.iload 12, 2) := dk_21 12 (dk_at dksJ24_putVal_6 22 rfl rfl)
theorem dJ24_putVal_160 : decode cJ24_putVal 160 = .ok (.bipush 7, 2) := dk_16 7 (dk_at dksJ24_putVal_7 0 rfl rfl)
theorem dJ24_putVal_162 : decode cJ24_putVal 162 = .ok (.if_icmp .lt 60, 3) := dk_161 0 60 (dk_at dksJ24_putVal_7 2 rfl rfl)
theorem dJ24_putVal_165 : decode cJ24_putVal 165 = .ok (.aload_n 0, 1) := dk_42 (dk_at dksJ24_putVal_7 5 rfl rfl)
theorem dJ24_putVal_166 : decode cJ24_putVal 166 = .ok (.aload 6, 2) := dk_25 6 (dk_at dksJ24_putVal_7 6 rfl rfl)
theorem dJ24_putVal_168 : decode cJ24_putVal 168 = .ok (.iload_n 1, 1) := dk_27 (dk_at dksJ24_putVal_7 8 rfl rfl)
theorem dJ24_putVal_169 : decode cJ24_putVal 169 = .ok (.invokevirtual 194, 3) := dk_182 0 194 (dk_at dksJ24_putVal_7 9 rfl rfl)
theorem dJ24_putVal_172 : decode cJ24_putVal 172 = .ok (.goto 50, 3) := dk_167 0 50 (dk_at dksJ24_putVal_7 12 rfl rfl)
theorem dJ24_putVal_175 : decode cJ24_putVal 175 = .ok (.aload 10, 2) := dk_25 10 (dk_at dksJ24_putVal_7 15 rfl rfl)
theorem dJ24_putVal_177 : decode cJ24_putVal 177 = .ok (.getfield 168, 3) := dk_180 0 168 (dk_at dksJ24_putVal_7 17 rfl rfl)
theorem dJ24_putVal_180 : decode cJ24_putVal 180 = .ok (.iload_n 1, 1) := dk_27 (dk_at dksJ24_putVal_7 20 rfl rfl)
theorem dJ24_putVal_181 : decode cJ24_putVal 181 = .ok (.if_icmp .ne 31, 3) := dk_160 0 31 (dk_at dksJ24_putVal_7 21 rfl rfl)
theorem dJ24_putVal_184 : decode cJ24_putVal 184 = .ok (.aload 10, 2) := dk_25 10 (dk_at dksJ24_putVal_8 0 rfl rfl)
theorem dJ24_putVal_186 : decode cJ24_putVal 186 = .ok (.getfield 170, 3) := dk_180 0 170 (dk_at dksJ24_putVal_8 2 rfl rfl)
theorem dJ24_putVal_189 : decode cJ24_putVal 189 = .ok (.dup, 1) := dk_89 (dk_at dksJ24_putVal_8 5 rfl rfl)
theorem dJ24_putVal_190 : decode cJ24_putVal 190 = .ok (.astore 11, 2) := dk_58 11 (dk_at dksJ24_putVal_8 6 rfl rfl)
theorem dJ24_putVal_192 : decode cJ24_putVal 192 = .ok (.aload_n 2, 1) := dk_44 (dk_at dksJ24_putVal_8 8 rfl rfl)
theorem dJ24_putVal_193 : decode cJ24_putVal 193 = .ok (.if_acmp .eq 29, 3) := dk_165 0 29 (dk_at dksJ24_putVal_8 9 rfl rfl)
theorem dJ24_putVal_196 : decode cJ24_putVal 196 = .ok (.aload_n 2, 1) := dk_44 (dk_at dksJ24_putVal_8 12 rfl rfl)
theorem dJ24_putVal_197 : decode cJ24_putVal 197 = .ok (.ifnull 15, 3) := dk_198 0 15 (dk_at dksJ24_putVal_8 13 rfl rfl)
theorem dJ24_putVal_200 : decode cJ24_putVal 200 = .ok (.aload_n 2, 1) := dk_44 (dk_at dksJ24_putVal_8 16 rfl rfl)
theorem dJ24_putVal_201 : decode cJ24_putVal 201 = .ok (.aload 11, 2) := dk_25 11 (dk_at dksJ24_putVal_8 17 rfl rfl)
theorem dJ24_putVal_203 : decode cJ24_putVal 203 = .ok (.invokevirtual 173, 3) := dk_182 0 173 (dk_at dksJ24_putVal_8 19 rfl rfl)
theorem dJ24_putVal_206 : decode cJ24_putVal 206 = .ok (.ifCond .eq 6, 3) := dk_153 0 6 (dk_at dksJ24_putVal_9 0 rfl rfl)
theorem dJ24_putVal_209 : decode cJ24_putVal 209 = .ok (.goto 13, 3) := dk_167 0 13 (dk_at dksJ24_putVal_9 3 rfl rfl)
theorem dJ24_putVal_212 : decode cJ24_putVal 212 = .ok (.aload 10, 2) := dk_25 10 (dk_at dksJ24_putVal_9 6 rfl rfl)
theorem dJ24_putVal_214 : decode cJ24_putVal 214 = .ok (.astore 7, 2) := dk_58 7 (dk_at dksJ24_putVal_9 8 rfl rfl)
theorem dJ24_putVal_216 : decode cJ24_putVal 216 = .ok (.iinc 12 1, 3) := dk_132 12 1 (dk_at dksJ24_putVal_9 10 rfl rfl)
theorem dJ24_putVal_219 : decode cJ24_putVal 219 = .ok (.goto (-85), 3) := dk_167 255 171 (dk_at dksJ24_putVal_9 13 rfl rfl)
theorem dJ24_putVal_222 : decode cJ24_putVal 222 = .ok (.aload 10, 2) := dk_25 10 (dk_at dksJ24_putVal_9 16 rfl rfl)
theorem dJ24_putVal_224 : decode cJ24_putVal 224 = .ok (.ifnull 35, 3) := dk_198 0 35 (dk_at dksJ24_putVal_9 18 rfl rfl)
theorem dJ24_putVal_227 : decode cJ24_putVal 227 = .ok (.aload 10, 2) := dk_25 10 (dk_at dksJ24_putVal_9 21 rfl rfl)
theorem dJ24_putVal_229 : decode cJ24_putVal 229 = .ok (.getfield 162, 3) := dk_180 0 162 (dk_at dksJ24_putVal_10 0 rfl rfl)
theorem dJ24_putVal_232 : decode cJ24_putVal 232 = .ok (.astore 12, 2) := dk_58 12 (dk_at dksJ24_putVal_10 3 rfl rfl)
theorem dJ24_putVal_234 : decode cJ24_putVal 234 = .ok (.iload 4, 2) := dk_21 4 (dk_at dksJ24_putVal_10 5 rfl rfl)
theorem dJ24_putVal_236 : decode cJ24_putVal 236 = .ok (.ifCond .eq 8, 3) := dk_153 0 8 (dk_at dksJ24_putVal_10 7 rfl rfl)
theorem dJ24_putVal_239 : decode cJ24_putVal 239 = .ok (.aload 12, 2) := dk_25 12 (dk_at dksJ24_putVal_10 10 rfl rfl)
theorem dJ24_putVal_241 : decode cJ24_putVal 241 = .ok (.ifnonnull 9, 3) := dk_199 0 9 (dk_at dksJ24_putVal_10 12 rfl rfl)
theorem dJ24_putVal_244 : decode cJ24_putVal 244 = .ok (.aload 10, 2) := dk_25 10 (dk_at dksJ24_putVal_10 15 rfl rfl)
theorem dJ24_putVal_246 : decode cJ24_putVal 246 = .ok (.aload_n 3, 1) := dk_45 (dk_at dksJ24_putVal_10 17 rfl rfl)
theorem dJ24_putVal_247 : decode cJ24_putVal 247 = .ok (.putfield 162, 3) := dk_181 0 162 (dk_at dksJ24_putVal_10 18 rfl rfl)
theorem dJ24_putVal_250 : decode cJ24_putVal 250 = .ok (.aload_n 0, 1) := dk_42 (dk_at dksJ24_putVal_10 21 rfl rfl)
theorem dJ24_putVal_251 : decode cJ24_putVal 251 = .ok (.aload 10, 2) := dk_25 10 (dk_at dksJ24_putVal_10 22 rfl rfl)
theorem dJ24_putVal_253 : decode cJ24_putVal 253 = .ok (.invokevirtual 198, 3) := dk_182 0 198 (dk_at dksJ24_putVal_11 0 rfl rfl)
theorem dJ24_putVal_256 : decode cJ24_putVal 256 = .ok (.aload 12, 2) := dk_25 12 (dk_at dksJ24_putVal_11 3 rfl rfl)
theorem dJ24_putVal_258 : decode cJ24_putVal 258 = .ok (.areturn, 1) := dk_176 (dk_at dksJ24_putVal_11 5 rfl rfl)
theorem dJ24_putVal_259 : decode cJ24_putVal 259 = .ok (.aload_n 0, 1) := dk_42 (dk_at dksJ24_putVal_11 6 rfl rfl)
theorem dJ24_putVal_260 : decode cJ24_putVal 260 = .ok (.dup, 1) := dk_89 (dk_at dksJ24_putVal_11 7 rfl rfl)
theorem dJ24_putVal_261 : decode cJ24_putVal 261 = .ok (.getfield 202, 3) := dk_180 0 202 (dk_at dksJ24_putVal_11 8 rfl rfl)
theorem dJ24_putVal_264 : decode cJ24_putVal 264 = .ok (.iconst 1, 1) := dk_4 (dk_at dksJ24_putVal_11 11 rfl rfl)
theorem dJ24_putVal_265 : decode cJ24_putVal 265 = .ok (.iadd, 1) := dk_96 (dk_at dksJ24_putVal_11 12 rfl rfl)
theorem dJ24_putVal_266 : decode cJ24_putVal 266 = .ok (.putfield 202, 3) := dk_181 0 202 (dk_at dksJ24_putVal_11 13 rfl rfl)
theorem dJ24_putVal_269 : decode cJ24_putVal 269 = .ok (.aload_n 0, 1) := dk_42 (dk_at dksJ24_putVal_11 16 rfl rfl)
theorem dJ24_putVal_270 : decode cJ24_putVal 270 = .ok (.dup, 1) := dk_89 (dk_at dksJ24_putVal_11 17 rfl rfl)
theorem dJ24_putVal_271 : decode cJ24_putVal 271 = .ok (.getfield 156, 3) := dk_180 0 156 (dk_at dksJ24_putVal_11 18 rfl rfl)
theorem dJ24_putVal_274 : decode cJ24_putVal 274 = .ok (.iconst 1, 1) := dk_4 (dk_at dksJ24_putVal_11 21 rfl rfl)
theorem dJ24_putVal_275 : decode cJ24_putVal 275 = .ok (.iadd, 1) := dk_96 (dk_at dksJ24_putVal_11 22 rfl rfl)
theorem dJ24_putVal_276 : decode cJ24_putVal 276 = .ok (.dup_x1, 1) := dk_90 (dk_at dksJ24_putVal_11 23 rfl rfl)
theorem dJ24_putVal_277 : decode cJ24_putVal 277 = .ok (.putfield 156, 3) := dk_181 0 156 (dk_at dksJ24_putVal_12 0 rfl rfl)
theorem dJ24_putVal_280 : decode cJ24_putVal 280 = .ok (.aload_n 0, 1) := dk_42 (dk_at dksJ24_putVal_12 3 rfl rfl)
theorem dJ24_putVal_281 : decode cJ24_putVal 281 = .ok (.getfield 88, 3) := dk_180 0 88 (dk_at dksJ24_putVal_12 4 rfl rfl)
theorem dJ24_putVal_284 : decode cJ24_putVal 284 = .ok (.if_icmp .le 8, 3) := dk_164 0 8 (dk_at dksJ24_putVal_12 7 rfl rfl)
theorem dJ24_putVal_287 : decode cJ24_putVal 287 = .ok (.aload_n 0, 1) := dk_42 (dk_at dksJ24_putVal_12 10 rfl rfl)
theorem dJ24_putVal_288 : decode cJ24_putVal 288 = .ok (.invokevirtual 117, 3) := dk_182 0 117 (dk_at dksJ24_putVal_12 11 rfl rfl)
theorem dJ24_putVal_291 : decode cJ24_putVal 291 = .ok (.pop, 1) := dk_87 (dk_at dksJ24_putVal_12 14 rfl rfl)
theorem dJ24_putVal_292 : decode cJ24_putVal 292 = .ok (.aload_n 0, 1) := dk_42 (dk_at dksJ24_putVal_12 15 rfl rfl)
theorem dJ24_putVal_293 : decode cJ24_putVal 293 = .ok (.iload 5, 2) := dk_21 5 (dk_at dksJ24_putVal_12 16 rfl rfl)
theorem dJ24_putVal_295 : decode cJ24_putVal 295 = .ok (.invokevirtual 205, 3) := dk_182 0 205 (dk_at dksJ24_putVal_12 18 rfl rfl)
theorem dJ24_putVal_298 : decode cJ24_putVal 298 = .ok (.aconst_null, 1) := dk_1 (dk_at dksJ24_putVal_12 21 rfl rfl)
theorem dJ24_putVal_299 : decode cJ24_putVal 299 = .ok (.areturn, 1) := dk_176 (dk_at dksJ24_putVal_12 22 rfl rfl)
abbrev cJ24_resize : ByteArray := prog_44_method_17_code
def yJ24_resize : MethodName := ⟨RJ24, "resize", "()[Ljava/util/HashMap$Node;"⟩
def dkwJ24_resize_15 : List UInt8 := [25, 6, 176]
abbrev dktJ24_resize_15 : List UInt8 := dkwJ24_resize_15 ++ []
def dkwJ24_resize_14 : List UInt8 := [198, 0, 18, 25, 12, 1, 181, 0, 177, 25, 6, 21, 7, 28, 96, 25, 11, 83, 132, 7, 1, 167, 255, 57]
abbrev dktJ24_resize_14 : List UInt8 := dkwJ24_resize_14 ++ dktJ24_resize_15
def dkwJ24_resize_13 : List UInt8 := [199, 255, 185, 25, 10, 198, 0, 16, 25, 10, 1, 181, 0, 177, 25, 6, 21, 7, 25, 9, 83, 25, 12]
abbrev dktJ24_resize_13 : List UInt8 := dkwJ24_resize_13 ++ dktJ24_resize_14
def dkwJ24_resize_12 : List UInt8 := [25, 8, 58, 11, 167, 0, 10, 25, 12, 25, 8, 181, 0, 177, 25, 8, 58, 12, 25, 13, 89, 58, 8]
abbrev dktJ24_resize_12 : List UInt8 := dkwJ24_resize_12 ++ dktJ24_resize_13
def dkwJ24_resize_11 : List UInt8 := [58, 9, 167, 0, 10, 25, 10, 25, 8, 181, 0, 177, 25, 8, 58, 10, 167, 0, 26, 25, 12, 199, 0, 10]
abbrev dktJ24_resize_11 : List UInt8 := dkwJ24_resize_11 ++ dktJ24_resize_12
def dkwJ24_resize_10 : List UInt8 := [25, 8, 180, 0, 177, 58, 13, 25, 8, 180, 0, 168, 28, 126, 154, 0, 29, 25, 10, 199, 0, 10, 25, 8]
abbrev dktJ24_resize_10 : List UInt8 := dkwJ24_resize_10 ++ dktJ24_resize_11
def dkwJ24_resize_9 : List UInt8 := [42, 25, 6, 21, 7, 28, 182, 0, 211, 167, 0, 127, 1, 58, 9, 1, 58, 10, 1, 58, 11, 1, 58, 12]
abbrev dktJ24_resize_9 : List UInt8 := dkwJ24_resize_9 ++ dktJ24_resize_10
def dkwJ24_resize_8 : List UInt8 := [21, 4, 4, 100, 126, 25, 8, 83, 167, 0, 152, 25, 8, 193, 0, 180, 153, 0, 20, 25, 8, 192, 0, 180]
abbrev dktJ24_resize_8 : List UInt8 := dkwJ24_resize_8 ++ dktJ24_resize_9
def dkwJ24_resize_7 : List UInt8 := [198, 0, 183, 43, 21, 7, 1, 83, 25, 8, 180, 0, 177, 199, 0, 21, 25, 6, 25, 8, 180, 0, 168]
abbrev dktJ24_resize_7 : List UInt8 := dkwJ24_resize_7 ++ dktJ24_resize_8
def dkwJ24_resize_6 : List UInt8 := [181, 0, 105, 43, 198, 0, 208, 3, 54, 7, 21, 7, 28, 162, 0, 199, 43, 21, 7, 50, 89, 58, 8]
abbrev dktJ24_resize_6 : List UInt8 := dkwJ24_resize_6 ++ dktJ24_resize_7
def dkwJ24_resize_5 : List UInt8 := [167, 0, 5, 18, 209, 54, 5, 42, 21, 5, 181, 0, 88, 21, 4, 189, 0, 163, 58, 6, 42, 25, 6]
abbrev dktJ24_resize_5 : List UInt8 := dkwJ24_resize_5 ++ dktJ24_resize_6
def dkwJ24_resize_4 : List UInt8 := [180, 0, 81, 106, 56, 6, 21, 4, 18, 42, 162, 0, 17, 23, 6, 18, 210, 150, 156, 0, 9, 23, 6, 139]
abbrev dktJ24_resize_4 : List UInt8 := dkwJ24_resize_4 ++ dktJ24_resize_5
def dkwJ24_resize_3 : List UInt8 := [54, 4, 167, 0, 11, 16, 16, 54, 4, 16, 12, 54, 5, 21, 5, 154, 0, 38, 21, 4, 134, 42]
abbrev dktJ24_resize_3 : List UInt8 := dkwJ24_resize_3 ++ dktJ24_resize_4
def dkwJ24_resize_2 : List UInt8 := [18, 42, 162, 0, 35, 28, 16, 16, 161, 0, 29, 29, 4, 120, 54, 5, 167, 0, 21, 29, 158, 0, 9, 29]
abbrev dktJ24_resize_2 : List UInt8 := dkwJ24_resize_2 ++ dktJ24_resize_3
def dkwJ24_resize_1 : List UInt8 := [28, 158, 0, 42, 28, 18, 42, 161, 0, 11, 42, 18, 209, 181, 0, 88, 43, 176, 28, 4, 120, 89, 54, 4]
abbrev dktJ24_resize_1 : List UInt8 := dkwJ24_resize_1 ++ dktJ24_resize_2
def dkwJ24_resize_0 : List UInt8 := [42, 180, 0, 105, 76, 43, 199, 0, 7, 3, 167, 0, 5, 43, 190, 61, 42, 180, 0, 88, 62, 3, 54, 5]
abbrev dktJ24_resize_0 : List UInt8 := dkwJ24_resize_0 ++ dktJ24_resize_1
theorem dksJ24_resize_0 : cJ24_resize.data.toList.drop 0 = dktJ24_resize_0 := by decide +kernel
theorem dksJ24_resize_1 : cJ24_resize.data.toList.drop 24 = dktJ24_resize_1 := dk_seg dksJ24_resize_0 24 rfl rfl
theorem dksJ24_resize_2 : cJ24_resize.data.toList.drop 48 = dktJ24_resize_2 := dk_seg dksJ24_resize_1 24 rfl rfl
theorem dksJ24_resize_3 : cJ24_resize.data.toList.drop 72 = dktJ24_resize_3 := dk_seg dksJ24_resize_2 24 rfl rfl
theorem dksJ24_resize_4 : cJ24_resize.data.toList.drop 94 = dktJ24_resize_4 := dk_seg dksJ24_resize_3 22 rfl rfl
theorem dksJ24_resize_5 : cJ24_resize.data.toList.drop 118 = dktJ24_resize_5 := dk_seg dksJ24_resize_4 24 rfl rfl
theorem dksJ24_resize_6 : cJ24_resize.data.toList.drop 141 = dktJ24_resize_6 := dk_seg dksJ24_resize_5 23 rfl rfl
theorem dksJ24_resize_7 : cJ24_resize.data.toList.drop 164 = dktJ24_resize_7 := dk_seg dksJ24_resize_6 23 rfl rfl
theorem dksJ24_resize_8 : cJ24_resize.data.toList.drop 187 = dktJ24_resize_8 := dk_seg dksJ24_resize_7 23 rfl rfl
theorem dksJ24_resize_9 : cJ24_resize.data.toList.drop 211 = dktJ24_resize_9 := dk_seg dksJ24_resize_8 24 rfl rfl
theorem dksJ24_resize_10 : cJ24_resize.data.toList.drop 235 = dktJ24_resize_10 := dk_seg dksJ24_resize_9 24 rfl rfl
theorem dksJ24_resize_11 : cJ24_resize.data.toList.drop 259 = dktJ24_resize_11 := dk_seg dksJ24_resize_10 24 rfl rfl
theorem dksJ24_resize_12 : cJ24_resize.data.toList.drop 283 = dktJ24_resize_12 := dk_seg dksJ24_resize_11 24 rfl rfl
theorem dksJ24_resize_13 : cJ24_resize.data.toList.drop 306 = dktJ24_resize_13 := dk_seg dksJ24_resize_12 23 rfl rfl
theorem dksJ24_resize_14 : cJ24_resize.data.toList.drop 329 = dktJ24_resize_14 := dk_seg dksJ24_resize_13 23 rfl rfl
theorem dksJ24_resize_15 : cJ24_resize.data.toList.drop 353 = dktJ24_resize_15 := dk_seg dksJ24_resize_14 24 rfl rfl
theorem dJ24_resize_0 : decode cJ24_resize 0 = .ok (.aload_n 0, 1) := dk_42 (dk_at dksJ24_resize_0 0 rfl rfl)
theorem dJ24_resize_1 : decode cJ24_resize 1 = .ok (.getfield 105, 3) := dk_180 0 105 (dk_at dksJ24_resize_0 1 rfl rfl)
theorem dJ24_resize_4 : decode cJ24_resize 4 = .ok (.astore_n 1, 1) := dk_76 (dk_at dksJ24_resize_0 4 rfl rfl)
theorem dJ24_resize_5 : decode cJ24_resize 5 = .ok (.aload_n 1, 1) := dk_43 (dk_at dksJ24_resize_0 5 rfl rfl)
theorem dJ24_resize_6 : decode cJ24_resize 6 = .ok (.ifnonnull 7, 3) := dk_199 0 7 (dk_at dksJ24_resize_0 6 rfl rfl)
theorem dJ24_resize_9 : decode cJ24_resize 9 = .ok (.iconst 0, 1) := dk_3 (dk_at dksJ24_resize_0 9 rfl rfl)
theorem dJ24_resize_10 : decode cJ24_resize 10 = .ok (.goto 5, 3) := dk_167 0 5 (dk_at dksJ24_resize_0 10 rfl rfl)
theorem dJ24_resize_13 : decode cJ24_resize 13 = .ok (.aload_n 1, 1) := dk_43 (dk_at dksJ24_resize_0 13 rfl rfl)
theorem dJ24_resize_14 : decode cJ24_resize 14 = .ok (.arraylength, 1) := dk_190 (dk_at dksJ24_resize_0 14 rfl rfl)
theorem dJ24_resize_15 : decode cJ24_resize 15 = .ok (.istore_n 2, 1) := dk_61 (dk_at dksJ24_resize_0 15 rfl rfl)
theorem dJ24_resize_16 : decode cJ24_resize 16 = .ok (.aload_n 0, 1) := dk_42 (dk_at dksJ24_resize_0 16 rfl rfl)
theorem dJ24_resize_17 : decode cJ24_resize 17 = .ok (.getfield 88, 3) := dk_180 0 88 (dk_at dksJ24_resize_0 17 rfl rfl)
theorem dJ24_resize_20 : decode cJ24_resize 20 = .ok (.istore_n 3, 1) := dk_62 (dk_at dksJ24_resize_0 20 rfl rfl)
theorem dJ24_resize_21 : decode cJ24_resize 21 = .ok (.iconst 0, 1) := dk_3 (dk_at dksJ24_resize_0 21 rfl rfl)
theorem dJ24_resize_22 : decode cJ24_resize 22 = .ok (.istore 5, 2) := dk_54 5 (dk_at dksJ24_resize_0 22 rfl rfl)
theorem dJ24_resize_24 : decode cJ24_resize 24 = .ok (.iload_n 2, 1) := dk_28 (dk_at dksJ24_resize_1 0 rfl rfl)
theorem dJ24_resize_25 : decode cJ24_resize 25 = .ok (.ifCond .le 42, 3) := dk_158 0 42 (dk_at dksJ24_resize_1 1 rfl rfl)
theorem dJ24_resize_28 : decode cJ24_resize 28 = .ok (.iload_n 2, 1) := dk_28 (dk_at dksJ24_resize_1 4 rfl rfl)
theorem dJ24_resize_29 : decode cJ24_resize 29 = .ok (.ldc 42, 2) := dk_18 42 (dk_at dksJ24_resize_1 5 rfl rfl)
theorem dJ24_resize_31 : decode cJ24_resize 31 = .ok (.if_icmp .lt 11, 3) := dk_161 0 11 (dk_at dksJ24_resize_1 7 rfl rfl)
theorem dJ24_resize_34 : decode cJ24_resize 34 = .ok (.aload_n 0, 1) := dk_42 (dk_at dksJ24_resize_1 10 rfl rfl)
theorem dJ24_resize_35 : decode cJ24_resize 35 = .ok (.ldc 209, 2) := dk_18 209 (dk_at dksJ24_resize_1 11 rfl rfl)
theorem dJ24_resize_37 : decode cJ24_resize 37 = .ok (.putfield 88, 3) := dk_181 0 88 (dk_at dksJ24_resize_1 13 rfl rfl)
theorem dJ24_resize_40 : decode cJ24_resize 40 = .ok (.aload_n 1, 1) := dk_43 (dk_at dksJ24_resize_1 16 rfl rfl)
theorem dJ24_resize_41 : decode cJ24_resize 41 = .ok (.areturn, 1) := dk_176 (dk_at dksJ24_resize_1 17 rfl rfl)
theorem dJ24_resize_42 : decode cJ24_resize 42 = .ok (.iload_n 2, 1) := dk_28 (dk_at dksJ24_resize_1 18 rfl rfl)
theorem dJ24_resize_43 : decode cJ24_resize 43 = .ok (.iconst 1, 1) := dk_4 (dk_at dksJ24_resize_1 19 rfl rfl)
theorem dJ24_resize_44 : decode cJ24_resize 44 = .ok (.ishl, 1) := dk_120 (dk_at dksJ24_resize_1 20 rfl rfl)
theorem dJ24_resize_45 : decode cJ24_resize 45 = .ok (.dup, 1) := dk_89 (dk_at dksJ24_resize_1 21 rfl rfl)
theorem dJ24_resize_46 : decode cJ24_resize 46 = .ok (.istore 4, 2) := dk_54 4 (dk_at dksJ24_resize_1 22 rfl rfl)
theorem dJ24_resize_48 : decode cJ24_resize 48 = .ok (.ldc 42, 2) := dk_18 42 (dk_at dksJ24_resize_2 0 rfl rfl)
theorem dJ24_resize_50 : decode cJ24_resize 50 = .ok (.if_icmp .ge 35, 3) := dk_162 0 35 (dk_at dksJ24_resize_2 2 rfl rfl)
theorem dJ24_resize_53 : decode cJ24_resize 53 = .ok (.iload_n 2, 1) := dk_28 (dk_at dksJ24_resize_2 5 rfl rfl)
theorem dJ24_resize_54 : decode cJ24_resize 54 = .ok (.bipush 16, 2) := dk_16 16 (dk_at dksJ24_resize_2 6 rfl rfl)
theorem dJ24_resize_56 : decode cJ24_resize 56 = .ok (.if_icmp .lt 29, 3) := dk_161 0 29 (dk_at dksJ24_resize_2 8 rfl rfl)
theorem dJ24_resize_59 : decode cJ24_resize 59 = .ok (.iload_n 3, 1) := dk_29 (dk_at dksJ24_resize_2 11 rfl rfl)
theorem dJ24_resize_60 : decode cJ24_resize 60 = .ok (.iconst 1, 1) := dk_4 (dk_at dksJ24_resize_2 12 rfl rfl)
theorem dJ24_resize_61 : decode cJ24_resize 61 = .ok (.ishl, 1) := dk_120 (dk_at dksJ24_resize_2 13 rfl rfl)
theorem dJ24_resize_62 : decode cJ24_resize 62 = .ok (.istore 5, 2) := dk_54 5 (dk_at dksJ24_resize_2 14 rfl rfl)
theorem dJ24_resize_64 : decode cJ24_resize 64 = .ok (.goto 21, 3) := dk_167 0 21 (dk_at dksJ24_resize_2 16 rfl rfl)
theorem dJ24_resize_67 : decode cJ24_resize 67 = .ok (.iload_n 3, 1) := dk_29 (dk_at dksJ24_resize_2 19 rfl rfl)
theorem dJ24_resize_68 : decode cJ24_resize 68 = .ok (.ifCond .le 9, 3) := dk_158 0 9 (dk_at dksJ24_resize_2 20 rfl rfl)
theorem dJ24_resize_71 : decode cJ24_resize 71 = .ok (.iload_n 3, 1) := dk_29 (dk_at dksJ24_resize_2 23 rfl rfl)
theorem dJ24_resize_72 : decode cJ24_resize 72 = .ok (.istore 4, 2) := dk_54 4 (dk_at dksJ24_resize_3 0 rfl rfl)
theorem dJ24_resize_74 : decode cJ24_resize 74 = .ok (.goto 11, 3) := dk_167 0 11 (dk_at dksJ24_resize_3 2 rfl rfl)
theorem dJ24_resize_77 : decode cJ24_resize 77 = .ok (.bipush 16, 2) := dk_16 16 (dk_at dksJ24_resize_3 5 rfl rfl)
theorem dJ24_resize_79 : decode cJ24_resize 79 = .ok (.istore 4, 2) := dk_54 4 (dk_at dksJ24_resize_3 7 rfl rfl)
theorem dJ24_resize_81 : decode cJ24_resize 81 = .ok (.bipush 12, 2) := dk_16 12 (dk_at dksJ24_resize_3 9 rfl rfl)
theorem dJ24_resize_83 : decode cJ24_resize 83 = .ok (.istore 5, 2) := dk_54 5 (dk_at dksJ24_resize_3 11 rfl rfl)
theorem dJ24_resize_85 : decode cJ24_resize 85 = .ok (.iload 5, 2) := dk_21 5 (dk_at dksJ24_resize_3 13 rfl rfl)
theorem dJ24_resize_87 : decode cJ24_resize 87 = .ok (.ifCond .ne 38, 3) := dk_154 0 38 (dk_at dksJ24_resize_3 15 rfl rfl)
theorem dJ24_resize_90 : decode cJ24_resize 90 = .ok (.iload 4, 2) := dk_21 4 (dk_at dksJ24_resize_3 18 rfl rfl)
theorem dJ24_resize_92 : decode cJ24_resize 92 = .ok (.i2f, 1) := dk_134 (dk_at dksJ24_resize_3 20 rfl rfl)
theorem dJ24_resize_93 : decode cJ24_resize 93 = .ok (.aload_n 0, 1) := dk_42 (dk_at dksJ24_resize_3 21 rfl rfl)
theorem dJ24_resize_94 : decode cJ24_resize 94 = .ok (.getfield 81, 3) := dk_180 0 81 (dk_at dksJ24_resize_4 0 rfl rfl)
theorem dJ24_resize_97 : decode cJ24_resize 97 = .ok (.fmul, 1) := dk_106 (dk_at dksJ24_resize_4 3 rfl rfl)
theorem dJ24_resize_98 : decode cJ24_resize 98 = .ok (.fstore 6, 2) := dk_56 6 (dk_at dksJ24_resize_4 4 rfl rfl)
theorem dJ24_resize_100 : decode cJ24_resize 100 = .ok (.iload 4, 2) := dk_21 4 (dk_at dksJ24_resize_4 6 rfl rfl)
theorem dJ24_resize_102 : decode cJ24_resize 102 = .ok (.ldc 42, 2) := dk_18 42 (dk_at dksJ24_resize_4 8 rfl rfl)
theorem dJ24_resize_104 : decode cJ24_resize 104 = .ok (.if_icmp .ge 17, 3) := dk_162 0 17 (dk_at dksJ24_resize_4 10 rfl rfl)
theorem dJ24_resize_107 : decode cJ24_resize 107 = .ok (.fload 6, 2) := dk_23 6 (dk_at dksJ24_resize_4 13 rfl rfl)
theorem dJ24_resize_109 : decode cJ24_resize 109 = .ok (.ldc 210, 2) := dk_18 210 (dk_at dksJ24_resize_4 15 rfl rfl)
theorem dJ24_resize_111 : decode cJ24_resize 111 = .ok (.fcmp .g, 1) := dk_150 (dk_at dksJ24_resize_4 17 rfl rfl)
theorem dJ24_resize_112 : decode cJ24_resize 112 = .ok (.ifCond .ge 9, 3) := dk_156 0 9 (dk_at dksJ24_resize_4 18 rfl rfl)
theorem dJ24_resize_115 : decode cJ24_resize 115 = .ok (.fload 6, 2) := dk_23 6 (dk_at dksJ24_resize_4 21 rfl rfl)
theorem dJ24_resize_117 : decode cJ24_resize 117 = .ok (.f2i, 1) := dk_139 (dk_at dksJ24_resize_4 23 rfl rfl)
theorem dJ24_resize_118 : decode cJ24_resize 118 = .ok (.goto 5, 3) := dk_167 0 5 (dk_at dksJ24_resize_5 0 rfl rfl)
theorem dJ24_resize_121 : decode cJ24_resize 121 = .ok (.ldc 209, 2) := dk_18 209 (dk_at dksJ24_resize_5 3 rfl rfl)
theorem dJ24_resize_123 : decode cJ24_resize 123 = .ok (.istore 5, 2) := dk_54 5 (dk_at dksJ24_resize_5 5 rfl rfl)
theorem dJ24_resize_125 : decode cJ24_resize 125 = .ok (.aload_n 0, 1) := dk_42 (dk_at dksJ24_resize_5 7 rfl rfl)
theorem dJ24_resize_126 : decode cJ24_resize 126 = .ok (.iload 5, 2) := dk_21 5 (dk_at dksJ24_resize_5 8 rfl rfl)
theorem dJ24_resize_128 : decode cJ24_resize 128 = .ok (.putfield 88, 3) := dk_181 0 88 (dk_at dksJ24_resize_5 10 rfl rfl)
theorem dJ24_resize_131 : decode cJ24_resize 131 = .ok (.iload 4, 2) := dk_21 4 (dk_at dksJ24_resize_5 13 rfl rfl)
theorem dJ24_resize_133 : decode cJ24_resize 133 = .ok (.anewarray 163, 3) := dk_189 0 163 (dk_at dksJ24_resize_5 15 rfl rfl)
theorem dJ24_resize_136 : decode cJ24_resize 136 = .ok (.astore 6, 2) := dk_58 6 (dk_at dksJ24_resize_5 18 rfl rfl)
theorem dJ24_resize_138 : decode cJ24_resize 138 = .ok (.aload_n 0, 1) := dk_42 (dk_at dksJ24_resize_5 20 rfl rfl)
theorem dJ24_resize_139 : decode cJ24_resize 139 = .ok (.aload 6, 2) := dk_25 6 (dk_at dksJ24_resize_5 21 rfl rfl)
theorem dJ24_resize_141 : decode cJ24_resize 141 = .ok (.putfield 105, 3) := dk_181 0 105 (dk_at dksJ24_resize_6 0 rfl rfl)
theorem dJ24_resize_144 : decode cJ24_resize 144 = .ok (.aload_n 1, 1) := dk_43 (dk_at dksJ24_resize_6 3 rfl rfl)
theorem dJ24_resize_145 : decode cJ24_resize 145 = .ok (.ifnull 208, 3) := dk_198 0 208 (dk_at dksJ24_resize_6 4 rfl rfl)
theorem dJ24_resize_148 : decode cJ24_resize 148 = .ok (.iconst 0, 1) := dk_3 (dk_at dksJ24_resize_6 7 rfl rfl)
theorem dJ24_resize_149 : decode cJ24_resize 149 = .ok (.istore 7, 2) := dk_54 7 (dk_at dksJ24_resize_6 8 rfl rfl)
theorem dJ24_resize_151 : decode cJ24_resize 151 = .ok (.iload 7, 2) := dk_21 7 (dk_at dksJ24_resize_6 10 rfl rfl)
theorem dJ24_resize_153 : decode cJ24_resize 153 = .ok (.iload_n 2, 1) := dk_28 (dk_at dksJ24_resize_6 12 rfl rfl)
theorem dJ24_resize_154 : decode cJ24_resize 154 = .ok (.if_icmp .ge 199, 3) := dk_162 0 199 (dk_at dksJ24_resize_6 13 rfl rfl)
theorem dJ24_resize_157 : decode cJ24_resize 157 = .ok (.aload_n 1, 1) := dk_43 (dk_at dksJ24_resize_6 16 rfl rfl)
theorem dJ24_resize_158 : decode cJ24_resize 158 = .ok (.iload 7, 2) := dk_21 7 (dk_at dksJ24_resize_6 17 rfl rfl)
theorem dJ24_resize_160 : decode cJ24_resize 160 = .ok (.aaload, 1) := dk_50 (dk_at dksJ24_resize_6 19 rfl rfl)
theorem dJ24_resize_161 : decode cJ24_resize 161 = .ok (.dup, 1) := dk_89 (dk_at dksJ24_resize_6 20 rfl rfl)
theorem dJ24_resize_162 : decode cJ24_resize 162 = .ok (.astore 8, 2) := dk_58 8 (dk_at dksJ24_resize_6 21 rfl rfl)
theorem dJ24_resize_164 : decode cJ24_resize 164 = .ok (.ifnull 183, 3) := dk_198 0 183 (dk_at dksJ24_resize_7 0 rfl rfl)
theorem dJ24_resize_167 : decode cJ24_resize 167 = .ok (.aload_n 1, 1) := dk_43 (dk_at dksJ24_resize_7 3 rfl rfl)
theorem dJ24_resize_168 : decode cJ24_resize 168 = .ok (.iload 7, 2) := dk_21 7 (dk_at dksJ24_resize_7 4 rfl rfl)
theorem dJ24_resize_170 : decode cJ24_resize 170 = .ok (.aconst_null, 1) := dk_1 (dk_at dksJ24_resize_7 6 rfl rfl)
theorem dJ24_resize_171 : decode cJ24_resize 171 = .ok (.aastore, 1) := dk_83 (dk_at dksJ24_resize_7 7 rfl rfl)
theorem dJ24_resize_172 : decode cJ24_resize 172 = .ok (.aload 8, 2) := dk_25 8 (dk_at dksJ24_resize_7 8 rfl rfl)
theorem dJ24_resize_174 : decode cJ24_resize 174 = .ok (.getfield 177, 3) := dk_180 0 177 (dk_at dksJ24_resize_7 10 rfl rfl)
theorem dJ24_resize_177 : decode cJ24_resize 177 = .ok (.ifnonnull 21, 3) := dk_199 0 21 (dk_at dksJ24_resize_7 13 rfl rfl)
theorem dJ24_resize_180 : decode cJ24_resize 180 = .ok (.aload 6, 2) := dk_25 6 (dk_at dksJ24_resize_7 16 rfl rfl)
theorem dJ24_resize_182 : decode cJ24_resize 182 = .ok (.aload 8, 2) := dk_25 8 (dk_at dksJ24_resize_7 18 rfl rfl)
theorem dJ24_resize_184 : decode cJ24_resize 184 = .ok (.getfield 168, 3) := dk_180 0 168 (dk_at dksJ24_resize_7 20 rfl rfl)
theorem dJ24_resize_187 : decode cJ24_resize 187 = .ok (.iload 4, 2) := dk_21 4 (dk_at dksJ24_resize_8 0 rfl rfl)
theorem dJ24_resize_189 : decode cJ24_resize 189 = .ok (.iconst 1, 1) := dk_4 (dk_at dksJ24_resize_8 2 rfl rfl)
theorem dJ24_resize_190 : decode cJ24_resize 190 = .ok (.isub, 1) := dk_100 (dk_at dksJ24_resize_8 3 rfl rfl)
theorem dJ24_resize_191 : decode cJ24_resize 191 = .ok (.iand, 1) := dk_126 (dk_at dksJ24_resize_8 4 rfl rfl)
theorem dJ24_resize_192 : decode cJ24_resize 192 = .ok (.aload 8, 2) := dk_25 8 (dk_at dksJ24_resize_8 5 rfl rfl)
theorem dJ24_resize_194 : decode cJ24_resize 194 = .ok (.aastore, 1) := dk_83 (dk_at dksJ24_resize_8 7 rfl rfl)
theorem dJ24_resize_195 : decode cJ24_resize 195 = .ok (.goto 152, 3) := dk_167 0 152 (dk_at dksJ24_resize_8 8 rfl rfl)
theorem dJ24_resize_198 : decode cJ24_resize 198 = .ok (.aload 8, 2) := dk_25 8 (dk_at dksJ24_resize_8 11 rfl rfl)
theorem dJ24_resize_200 : decode cJ24_resize 200 = .ok (.instanceof 180, 3) := dk_193 0 180 (dk_at dksJ24_resize_8 13 rfl rfl)
theorem dJ24_resize_203 : decode cJ24_resize 203 = .ok (.ifCond .eq 20, 3) := dk_153 0 20 (dk_at dksJ24_resize_8 16 rfl rfl)
theorem dJ24_resize_206 : decode cJ24_resize 206 = .ok (.aload 8, 2) := dk_25 8 (dk_at dksJ24_resize_8 19 rfl rfl)
theorem dJ24_resize_208 : decode cJ24_resize 208 = .ok (.checkcast 180, 3) := dk_192 0 180 (dk_at dksJ24_resize_8 21 rfl rfl)
theorem dJ24_resize_211 : decode cJ24_resize 211 = .ok (.aload_n 0, 1) := dk_42 (dk_at dksJ24_resize_9 0 rfl rfl)
theorem dJ24_resize_212 : decode cJ24_resize 212 = .ok (.aload 6, 2) := dk_25 6 (dk_at dksJ24_resize_9 1 rfl rfl)
theorem dJ24_resize_214 : decode cJ24_resize 214 = .ok (.iload 7, 2) := dk_21 7 (dk_at dksJ24_resize_9 3 rfl rfl)
theorem dJ24_resize_216 : decode cJ24_resize 216 = .ok (.iload_n 2, 1) := dk_28 (dk_at dksJ24_resize_9 5 rfl rfl)
theorem dJ24_resize_217 : decode cJ24_resize 217 = .ok (.invokevirtual 211, 3) := dk_182 0 211 (dk_at dksJ24_resize_9 6 rfl rfl)
theorem dJ24_resize_220 : decode cJ24_resize 220 = .ok (.goto 127, 3) := dk_167 0 127 (dk_at dksJ24_resize_9 9 rfl rfl)
theorem dJ24_resize_223 : decode cJ24_resize 223 = .ok (.aconst_null, 1) := dk_1 (dk_at dksJ24_resize_9 12 rfl rfl)
theorem dJ24_resize_224 : decode cJ24_resize 224 = .ok (.astore 9, 2) := dk_58 9 (dk_at dksJ24_resize_9 13 rfl rfl)
theorem dJ24_resize_226 : decode cJ24_resize 226 = .ok (.aconst_null, 1) := dk_1 (dk_at dksJ24_resize_9 15 rfl rfl)
theorem dJ24_resize_227 : decode cJ24_resize 227 = .ok (.astore 10, 2) := dk_58 10 (dk_at dksJ24_resize_9 16 rfl rfl)
theorem dJ24_resize_229 : decode cJ24_resize 229 = .ok (.aconst_null, 1) := dk_1 (dk_at dksJ24_resize_9 18 rfl rfl)
theorem dJ24_resize_230 : decode cJ24_resize 230 = .ok (.astore 11, 2) := dk_58 11 (dk_at dksJ24_resize_9 19 rfl rfl)
theorem dJ24_resize_232 : decode cJ24_resize 232 = .ok (.aconst_null, 1) := dk_1 (dk_at dksJ24_resize_9 21 rfl rfl)
theorem dJ24_resize_233 : decode cJ24_resize 233 = .ok (.astore 12, 2) := dk_58 12 (dk_at dksJ24_resize_9 22 rfl rfl)
theorem dJ24_resize_235 : decode cJ24_resize 235 = .ok (.aload 8, 2) := dk_25 8 (dk_at dksJ24_resize_10 0 rfl rfl)
theorem dJ24_resize_237 : decode cJ24_resize 237 = .ok (.getfield 177, 3) := dk_180 0 177 (dk_at dksJ24_resize_10 2 rfl rfl)
theorem dJ24_resize_240 : decode cJ24_resize 240 = .ok (.astore 13, 2) := dk_58 13 (dk_at dksJ24_resize_10 5 rfl rfl)
theorem dJ24_resize_242 : decode cJ24_resize 242 = .ok (.aload 8, 2) := dk_25 8 (dk_at dksJ24_resize_10 7 rfl rfl)
theorem dJ24_resize_244 : decode cJ24_resize 244 = .ok (.getfield 168, 3) := dk_180 0 168 (dk_at dksJ24_resize_10 9 rfl rfl)
theorem dJ24_resize_247 : decode cJ24_resize 247 = .ok (.iload_n 2, 1) := dk_28 (dk_at dksJ24_resize_10 12 rfl rfl)
theorem dJ24_resize_248 : decode cJ24_resize 248 = .ok (.iand, 1) := dk_126 (dk_at dksJ24_resize_10 13 rfl rfl)
theorem dJ24_resize_249 : decode cJ24_resize 249 = .ok (.ifCond .ne 29, 3) := dk_154 0 29 (dk_at dksJ24_resize_10 14 rfl rfl)
theorem dJ24_resize_252 : decode cJ24_resize 252 = .ok (.aload 10, 2) := dk_25 10 (dk_at dksJ24_resize_10 17 rfl rfl)
theorem dJ24_resize_254 : decode cJ24_resize 254 = .ok (.ifnonnull 10, 3) := dk_199 0 10 (dk_at dksJ24_resize_10 19 rfl rfl)
theorem dJ24_resize_257 : decode cJ24_resize 257 = .ok (.aload 8, 2) := dk_25 8 (dk_at dksJ24_resize_10 22 rfl rfl)
theorem dJ24_resize_259 : decode cJ24_resize 259 = .ok (.astore 9, 2) := dk_58 9 (dk_at dksJ24_resize_11 0 rfl rfl)
theorem dJ24_resize_261 : decode cJ24_resize 261 = .ok (.goto 10, 3) := dk_167 0 10 (dk_at dksJ24_resize_11 2 rfl rfl)
theorem dJ24_resize_264 : decode cJ24_resize 264 = .ok (.aload 10, 2) := dk_25 10 (dk_at dksJ24_resize_11 5 rfl rfl)
theorem dJ24_resize_266 : decode cJ24_resize 266 = .ok (.aload 8, 2) := dk_25 8 (dk_at dksJ24_resize_11 7 rfl rfl)
theorem dJ24_resize_268 : decode cJ24_resize 268 = .ok (.putfield 177, 3) := dk_181 0 177 (dk_at dksJ24_resize_11 9 rfl rfl)
theorem dJ24_resize_271 : decode cJ24_resize 271 = .ok (.aload 8, 2) := dk_25 8 (dk_at dksJ24_resize_11 12 rfl rfl)
theorem dJ24_resize_273 : decode cJ24_resize 273 = .ok (.astore 10, 2) := dk_58 10 (dk_at dksJ24_resize_11 14 rfl rfl)
theorem dJ24_resize_275 : decode cJ24_resize 275 = .ok (.goto 26, 3) := dk_167 0 26 (dk_at dksJ24_resize_11 16 rfl rfl)
theorem dJ24_resize_278 : decode cJ24_resize 278 = .ok (.aload 12, 2) := dk_25 12 (dk_at dksJ24_resize_11 19 rfl rfl)
theorem dJ24_resize_280 : decode cJ24_resize 280 = .ok (.ifnonnull 10, 3) := dk_199 0 10 (dk_at dksJ24_resize_11 21 rfl rfl)
theorem dJ24_resize_283 : decode cJ24_resize 283 = .ok (.aload 8, 2) := dk_25 8 (dk_at dksJ24_resize_12 0 rfl rfl)
theorem dJ24_resize_285 : decode cJ24_resize 285 = .ok (.astore 11, 2) := dk_58 11 (dk_at dksJ24_resize_12 2 rfl rfl)
theorem dJ24_resize_287 : decode cJ24_resize 287 = .ok (.goto 10, 3) := dk_167 0 10 (dk_at dksJ24_resize_12 4 rfl rfl)
theorem dJ24_resize_290 : decode cJ24_resize 290 = .ok (.aload 12, 2) := dk_25 12 (dk_at dksJ24_resize_12 7 rfl rfl)
theorem dJ24_resize_292 : decode cJ24_resize 292 = .ok (.aload 8, 2) := dk_25 8 (dk_at dksJ24_resize_12 9 rfl rfl)
theorem dJ24_resize_294 : decode cJ24_resize 294 = .ok (.putfield 177, 3) := dk_181 0 177 (dk_at dksJ24_resize_12 11 rfl rfl)
theorem dJ24_resize_297 : decode cJ24_resize 297 = .ok (.aload 8, 2) := dk_25 8 (dk_at dksJ24_resize_12 14 rfl rfl)
theorem dJ24_resize_299 : decode cJ24_resize 299 = .ok (.astore 12, 2) := dk_58 12 (dk_at dksJ24_resize_12 16 rfl rfl)
theorem dJ24_resize_301 : decode cJ24_resize 301 = .ok (.aload 13, 2) := dk_25 13 (dk_at dksJ24_resize_12 18 rfl rfl)
theorem dJ24_resize_303 : decode cJ24_resize 303 = .ok (.dup, 1) := dk_89 (dk_at dksJ24_resize_12 20 rfl rfl)
theorem dJ24_resize_304 : decode cJ24_resize 304 = .ok (.astore 8, 2) := dk_58 8 (dk_at dksJ24_resize_12 21 rfl rfl)
theorem dJ24_resize_306 : decode cJ24_resize 306 = .ok (.ifnonnull (-71), 3) := dk_199 255 185 (dk_at dksJ24_resize_13 0 rfl rfl)
theorem dJ24_resize_309 : decode cJ24_resize 309 = .ok (.aload 10, 2) := dk_25 10 (dk_at dksJ24_resize_13 3 rfl rfl)
theorem dJ24_resize_311 : decode cJ24_resize 311 = .ok (.ifnull 16, 3) := dk_198 0 16 (dk_at dksJ24_resize_13 5 rfl rfl)
theorem dJ24_resize_314 : decode cJ24_resize 314 = .ok (.aload 10, 2) := dk_25 10 (dk_at dksJ24_resize_13 8 rfl rfl)
theorem dJ24_resize_316 : decode cJ24_resize 316 = .ok (.aconst_null, 1) := dk_1 (dk_at dksJ24_resize_13 10 rfl rfl)
theorem dJ24_resize_317 : decode cJ24_resize 317 = .ok (.putfield 177, 3) := dk_181 0 177 (dk_at dksJ24_resize_13 11 rfl rfl)
theorem dJ24_resize_320 : decode cJ24_resize 320 = .ok (.aload 6, 2) := dk_25 6 (dk_at dksJ24_resize_13 14 rfl rfl)
theorem dJ24_resize_322 : decode cJ24_resize 322 = .ok (.iload 7, 2) := dk_21 7 (dk_at dksJ24_resize_13 16 rfl rfl)
theorem dJ24_resize_324 : decode cJ24_resize 324 = .ok (.aload 9, 2) := dk_25 9 (dk_at dksJ24_resize_13 18 rfl rfl)
theorem dJ24_resize_326 : decode cJ24_resize 326 = .ok (.aastore, 1) := dk_83 (dk_at dksJ24_resize_13 20 rfl rfl)
theorem dJ24_resize_327 : decode cJ24_resize 327 = .ok (.aload 12, 2) := dk_25 12 (dk_at dksJ24_resize_13 21 rfl rfl)
theorem dJ24_resize_329 : decode cJ24_resize 329 = .ok (.ifnull 18, 3) := dk_198 0 18 (dk_at dksJ24_resize_14 0 rfl rfl)
theorem dJ24_resize_332 : decode cJ24_resize 332 = .ok (.aload 12, 2) := dk_25 12 (dk_at dksJ24_resize_14 3 rfl rfl)
theorem dJ24_resize_334 : decode cJ24_resize 334 = .ok (.aconst_null, 1) := dk_1 (dk_at dksJ24_resize_14 5 rfl rfl)
theorem dJ24_resize_335 : decode cJ24_resize 335 = .ok (.putfield 177, 3) := dk_181 0 177 (dk_at dksJ24_resize_14 6 rfl rfl)
theorem dJ24_resize_338 : decode cJ24_resize 338 = .ok (.aload 6, 2) := dk_25 6 (dk_at dksJ24_resize_14 9 rfl rfl)
theorem dJ24_resize_340 : decode cJ24_resize 340 = .ok (.iload 7, 2) := dk_21 7 (dk_at dksJ24_resize_14 11 rfl rfl)
theorem dJ24_resize_342 : decode cJ24_resize 342 = .ok (.iload_n 2, 1) := dk_28 (dk_at dksJ24_resize_14 13 rfl rfl)
theorem dJ24_resize_343 : decode cJ24_resize 343 = .ok (.iadd, 1) := dk_96 (dk_at dksJ24_resize_14 14 rfl rfl)
theorem dJ24_resize_344 : decode cJ24_resize 344 = .ok (.aload 11, 2) := dk_25 11 (dk_at dksJ24_resize_14 15 rfl rfl)
theorem dJ24_resize_346 : decode cJ24_resize 346 = .ok (.aastore, 1) := dk_83 (dk_at dksJ24_resize_14 17 rfl rfl)
theorem dJ24_resize_347 : decode cJ24_resize 347 = .ok (.iinc 7 1, 3) := dk_132 7 1 (dk_at dksJ24_resize_14 18 rfl rfl)
theorem dJ24_resize_350 : decode cJ24_resize 350 = .ok (.goto (-199), 3) := dk_167 255 57 (dk_at dksJ24_resize_14 21 rfl rfl)
theorem dJ24_resize_353 : decode cJ24_resize 353 = .ok (.aload 6, 2) := dk_25 6 (dk_at dksJ24_resize_15 0 rfl rfl)
theorem dJ24_resize_355 : decode cJ24_resize 355 = .ok (.areturn, 1) := dk_176 (dk_at dksJ24_resize_15 2 rfl rfl)
abbrev cJ24_replacementNode : ByteArray := prog_44_method_47_code
def yJ24_replacementNode : MethodName := ⟨RJ24, "replacementNode", "(Ljava/util/HashMap$Node;Ljava/util/HashMap$Node;)Ljava/util/HashMap$Node;"⟩
def dkwJ24_replacementNode_0 : List UInt8 := [187, 0, 163, 89, 43, 180, 0, 168, 43, 180, 0, 170, 43, 180, 0, 162, 44, 183, 1, 119, 176]
abbrev dktJ24_replacementNode_0 : List UInt8 := dkwJ24_replacementNode_0 ++ []
theorem dksJ24_replacementNode_0 : cJ24_replacementNode.data.toList.drop 0 = dktJ24_replacementNode_0 := by decide +kernel
theorem dJ24_replacementNode_0 : decode cJ24_replacementNode 0 = .ok (.new 163, 3) := dk_187 0 163 (dk_at dksJ24_replacementNode_0 0 rfl rfl)
theorem dJ24_replacementNode_3 : decode cJ24_replacementNode 3 = .ok (.dup, 1) := dk_89 (dk_at dksJ24_replacementNode_0 3 rfl rfl)
theorem dJ24_replacementNode_4 : decode cJ24_replacementNode 4 = .ok (.aload_n 1, 1) := dk_43 (dk_at dksJ24_replacementNode_0 4 rfl rfl)
theorem dJ24_replacementNode_5 : decode cJ24_replacementNode 5 = .ok (.getfield 168, 3) := dk_180 0 168 (dk_at dksJ24_replacementNode_0 5 rfl rfl)
theorem dJ24_replacementNode_8 : decode cJ24_replacementNode 8 = .ok (.aload_n 1, 1) := dk_43 (dk_at dksJ24_replacementNode_0 8 rfl rfl)
theorem dJ24_replacementNode_9 : decode cJ24_replacementNode 9 = .ok (.getfield 170, 3) := dk_180 0 170 (dk_at dksJ24_replacementNode_0 9 rfl rfl)
theorem dJ24_replacementNode_12 : decode cJ24_replacementNode 12 = .ok (.aload_n 1, 1) := dk_43 (dk_at dksJ24_replacementNode_0 12 rfl rfl)
theorem dJ24_replacementNode_13 : decode cJ24_replacementNode 13 = .ok (.getfield 162, 3) := dk_180 0 162 (dk_at dksJ24_replacementNode_0 13 rfl rfl)
theorem dJ24_replacementNode_16 : decode cJ24_replacementNode 16 = .ok (.aload_n 2, 1) := dk_44 (dk_at dksJ24_replacementNode_0 16 rfl rfl)
theorem dJ24_replacementNode_17 : decode cJ24_replacementNode 17 = .ok (.invokespecial 375, 3) := dk_183 1 119 (dk_at dksJ24_replacementNode_0 17 rfl rfl)
theorem dJ24_replacementNode_20 : decode cJ24_replacementNode 20 = .ok (.areturn, 1) := dk_176 (dk_at dksJ24_replacementNode_0 20 rfl rfl)
abbrev cJ24_newNode : ByteArray := prog_44_method_46_code
def yJ24_newNode : MethodName := ⟨RJ24, "newNode", "(ILjava/lang/Object;Ljava/lang/Object;Ljava/util/HashMap$Node;)Ljava/util/HashMap$Node;"⟩
def dkwJ24_newNode_0 : List UInt8 := [187, 0, 163, 89, 27, 44, 45, 25, 4, 183, 1, 119, 176]
abbrev dktJ24_newNode_0 : List UInt8 := dkwJ24_newNode_0 ++ []
theorem dksJ24_newNode_0 : cJ24_newNode.data.toList.drop 0 = dktJ24_newNode_0 := by decide +kernel
theorem dJ24_newNode_0 : decode cJ24_newNode 0 = .ok (.new 163, 3) := dk_187 0 163 (dk_at dksJ24_newNode_0 0 rfl rfl)
theorem dJ24_newNode_3 : decode cJ24_newNode 3 = .ok (.dup, 1) := dk_89 (dk_at dksJ24_newNode_0 3 rfl rfl)
theorem dJ24_newNode_4 : decode cJ24_newNode 4 = .ok (.iload_n 1, 1) := dk_27 (dk_at dksJ24_newNode_0 4 rfl rfl)
theorem dJ24_newNode_5 : decode cJ24_newNode 5 = .ok (.aload_n 2, 1) := dk_44 (dk_at dksJ24_newNode_0 5 rfl rfl)
theorem dJ24_newNode_6 : decode cJ24_newNode 6 = .ok (.aload_n 3, 1) := dk_45 (dk_at dksJ24_newNode_0 6 rfl rfl)
theorem dJ24_newNode_7 : decode cJ24_newNode 7 = .ok (.aload 4, 2) := dk_25 4 (dk_at dksJ24_newNode_0 7 rfl rfl)
theorem dJ24_newNode_9 : decode cJ24_newNode 9 = .ok (.invokespecial 375, 3) := dk_183 1 119 (dk_at dksJ24_newNode_0 9 rfl rfl)
theorem dJ24_newNode_12 : decode cJ24_newNode 12 = .ok (.areturn, 1) := dk_176 (dk_at dksJ24_newNode_0 12 rfl rfl)
abbrev cJ24_newTreeNode : ByteArray := prog_44_method_48_code
def yJ24_newTreeNode : MethodName := ⟨RJ24, "newTreeNode", "(ILjava/lang/Object;Ljava/lang/Object;Ljava/util/HashMap$Node;)Ljava/util/HashMap$TreeNode;"⟩
def dkwJ24_newTreeNode_0 : List UInt8 := [187, 0, 180, 89, 27, 44, 45, 25, 4, 183, 1, 122, 176]
abbrev dktJ24_newTreeNode_0 : List UInt8 := dkwJ24_newTreeNode_0 ++ []
theorem dksJ24_newTreeNode_0 : cJ24_newTreeNode.data.toList.drop 0 = dktJ24_newTreeNode_0 := by decide +kernel
theorem dJ24_newTreeNode_0 : decode cJ24_newTreeNode 0 = .ok (.new 180, 3) := dk_187 0 180 (dk_at dksJ24_newTreeNode_0 0 rfl rfl)
theorem dJ24_newTreeNode_3 : decode cJ24_newTreeNode 3 = .ok (.dup, 1) := dk_89 (dk_at dksJ24_newTreeNode_0 3 rfl rfl)
theorem dJ24_newTreeNode_4 : decode cJ24_newTreeNode 4 = .ok (.iload_n 1, 1) := dk_27 (dk_at dksJ24_newTreeNode_0 4 rfl rfl)
theorem dJ24_newTreeNode_5 : decode cJ24_newTreeNode 5 = .ok (.aload_n 2, 1) := dk_44 (dk_at dksJ24_newTreeNode_0 5 rfl rfl)
theorem dJ24_newTreeNode_6 : decode cJ24_newTreeNode 6 = .ok (.aload_n 3, 1) := dk_45 (dk_at dksJ24_newTreeNode_0 6 rfl rfl)
theorem dJ24_newTreeNode_7 : decode cJ24_newTreeNode 7 = .ok (.aload 4, 2) := dk_25 4 (dk_at dksJ24_newTreeNode_0 7 rfl rfl)
theorem dJ24_newTreeNode_9 : decode cJ24_newTreeNode 9 = .ok (.invokespecial 378, 3) := dk_183 1 122 (dk_at dksJ24_newTreeNode_0 9 rfl rfl)
theorem dJ24_newTreeNode_12 : decode cJ24_newTreeNode 12 = .ok (.areturn, 1) := dk_176 (dk_at dksJ24_newTreeNode_0 12 rfl rfl)
abbrev cJ24_treeifyBin : ByteArray := prog_44_method_18_code
def yJ24_treeifyBin : MethodName := ⟨RJ24, "treeifyBin", "([Ljava/util/HashMap$Node;I)V"⟩
def dkwJ24_treeifyBin_4 : List UInt8 := [21, 4, 25, 6, 91, 83, 198, 0, 9, 25, 6, 43, 182, 0, 224, 177]
abbrev dktJ24_treeifyBin_4 : List UInt8 := dkwJ24_treeifyBin_4 ++ []
def dkwJ24_treeifyBin_3 : List UInt8 := [25, 7, 25, 8, 181, 0, 223, 25, 8, 58, 7, 25, 5, 180, 0, 177, 89, 58, 5, 199, 255, 209, 43]
abbrev dktJ24_treeifyBin_3 : List UInt8 := dkwJ24_treeifyBin_3 ++ dktJ24_treeifyBin_4
def dkwJ24_treeifyBin_2 : List UInt8 := [182, 0, 215, 58, 8, 25, 7, 199, 0, 10, 25, 8, 58, 6, 167, 0, 17, 25, 8, 25, 7, 181, 0, 219]
abbrev dktJ24_treeifyBin_2 : List UInt8 := dkwJ24_treeifyBin_2 ++ dktJ24_treeifyBin_3
def dkwJ24_treeifyBin_1 : List UInt8 := [100, 28, 126, 89, 54, 4, 50, 89, 58, 5, 198, 0, 75, 1, 58, 6, 1, 58, 7, 42, 25, 5, 1]
abbrev dktJ24_treeifyBin_1 : List UInt8 := dkwJ24_treeifyBin_1 ++ dktJ24_treeifyBin_2
def dkwJ24_treeifyBin_0 : List UInt8 := [43, 198, 0, 12, 43, 190, 89, 62, 16, 64, 162, 0, 11, 42, 182, 0, 117, 87, 167, 0, 91, 43, 29, 4]
abbrev dktJ24_treeifyBin_0 : List UInt8 := dkwJ24_treeifyBin_0 ++ dktJ24_treeifyBin_1
theorem dksJ24_treeifyBin_0 : cJ24_treeifyBin.data.toList.drop 0 = dktJ24_treeifyBin_0 := by decide +kernel
theorem dksJ24_treeifyBin_1 : cJ24_treeifyBin.data.toList.drop 24 = dktJ24_treeifyBin_1 := dk_seg dksJ24_treeifyBin_0 24 rfl rfl
theorem dksJ24_treeifyBin_2 : cJ24_treeifyBin.data.toList.drop 47 = dktJ24_treeifyBin_2 := dk_seg dksJ24_treeifyBin_1 23 rfl rfl
theorem dksJ24_treeifyBin_3 : cJ24_treeifyBin.data.toList.drop 71 = dktJ24_treeifyBin_3 := dk_seg dksJ24_treeifyBin_2 24 rfl rfl
theorem dksJ24_treeifyBin_4 : cJ24_treeifyBin.data.toList.drop 94 = dktJ24_treeifyBin_4 := dk_seg dksJ24_treeifyBin_3 23 rfl rfl
theorem dJ24_treeifyBin_0 : decode cJ24_treeifyBin 0 = .ok (.aload_n 1, 1) := dk_43 (dk_at dksJ24_treeifyBin_0 0 rfl rfl)
theorem dJ24_treeifyBin_1 : decode cJ24_treeifyBin 1 = .ok (.ifnull 12, 3) := dk_198 0 12 (dk_at dksJ24_treeifyBin_0 1 rfl rfl)
theorem dJ24_treeifyBin_4 : decode cJ24_treeifyBin 4 = .ok (.aload_n 1, 1) := dk_43 (dk_at dksJ24_treeifyBin_0 4 rfl rfl)
theorem dJ24_treeifyBin_5 : decode cJ24_treeifyBin 5 = .ok (.arraylength, 1) := dk_190 (dk_at dksJ24_treeifyBin_0 5 rfl rfl)
theorem dJ24_treeifyBin_6 : decode cJ24_treeifyBin 6 = .ok (.dup, 1) := dk_89 (dk_at dksJ24_treeifyBin_0 6 rfl rfl)
theorem dJ24_treeifyBin_7 : decode cJ24_treeifyBin 7 = .ok (.istore_n 3, 1) := dk_62 (dk_at dksJ24_treeifyBin_0 7 rfl rfl)
theorem dJ24_treeifyBin_8 : decode cJ24_treeifyBin 8 = .ok (.bipush 64, 2) := dk_16 64 (dk_at dksJ24_treeifyBin_0 8 rfl rfl)
theorem dJ24_treeifyBin_10 : decode cJ24_treeifyBin 10 = .ok (.if_icmp .ge 11, 3) := dk_162 0 11 (dk_at dksJ24_treeifyBin_0 10 rfl rfl)
theorem dJ24_treeifyBin_13 : decode cJ24_treeifyBin 13 = .ok (.aload_n 0, 1) := dk_42 (dk_at dksJ24_treeifyBin_0 13 rfl rfl)
theorem dJ24_treeifyBin_14 : decode cJ24_treeifyBin 14 = .ok (.invokevirtual 117, 3) := dk_182 0 117 (dk_at dksJ24_treeifyBin_0 14 rfl rfl)
theorem dJ24_treeifyBin_17 : decode cJ24_treeifyBin 17 = .ok (.pop, 1) := dk_87 (dk_at dksJ24_treeifyBin_0 17 rfl rfl)
theorem dJ24_treeifyBin_18 : decode cJ24_treeifyBin 18 = .ok (.goto 91, 3) := dk_167 0 91 (dk_at dksJ24_treeifyBin_0 18 rfl rfl)
theorem dJ24_treeifyBin_21 : decode cJ24_treeifyBin 21 = .ok (.aload_n 1, 1) := dk_43 (dk_at dksJ24_treeifyBin_0 21 rfl rfl)
theorem dJ24_treeifyBin_22 : decode cJ24_treeifyBin 22 = .ok (.iload_n 3, 1) := dk_29 (dk_at dksJ24_treeifyBin_0 22 rfl rfl)
theorem dJ24_treeifyBin_23 : decode cJ24_treeifyBin 23 = .ok (.iconst 1, 1) := dk_4 (dk_at dksJ24_treeifyBin_0 23 rfl rfl)
theorem dJ24_treeifyBin_24 : decode cJ24_treeifyBin 24 = .ok (.isub, 1) := dk_100 (dk_at dksJ24_treeifyBin_1 0 rfl rfl)
theorem dJ24_treeifyBin_25 : decode cJ24_treeifyBin 25 = .ok (.iload_n 2, 1) := dk_28 (dk_at dksJ24_treeifyBin_1 1 rfl rfl)
theorem dJ24_treeifyBin_26 : decode cJ24_treeifyBin 26 = .ok (.iand, 1) := dk_126 (dk_at dksJ24_treeifyBin_1 2 rfl rfl)
theorem dJ24_treeifyBin_27 : decode cJ24_treeifyBin 27 = .ok (.dup, 1) := dk_89 (dk_at dksJ24_treeifyBin_1 3 rfl rfl)
theorem dJ24_treeifyBin_28 : decode cJ24_treeifyBin 28 = .ok (.istore 4, 2) := dk_54 4 (dk_at dksJ24_treeifyBin_1 4 rfl rfl)
theorem dJ24_treeifyBin_30 : decode cJ24_treeifyBin 30 = .ok (.aaload, 1) := dk_50 (dk_at dksJ24_treeifyBin_1 6 rfl rfl)
theorem dJ24_treeifyBin_31 : decode cJ24_treeifyBin 31 = .ok (.dup, 1) := dk_89 (dk_at dksJ24_treeifyBin_1 7 rfl rfl)
theorem dJ24_treeifyBin_32 : decode cJ24_treeifyBin 32 = .ok (.astore 5, 2) := dk_58 5 (dk_at dksJ24_treeifyBin_1 8 rfl rfl)
theorem dJ24_treeifyBin_34 : decode cJ24_treeifyBin 34 = .ok (.ifnull 75, 3) := dk_198 0 75 (dk_at dksJ24_treeifyBin_1 10 rfl rfl)
theorem dJ24_treeifyBin_37 : decode cJ24_treeifyBin 37 = .ok (.aconst_null, 1) := dk_1 (dk_at dksJ24_treeifyBin_1 13 rfl rfl)
theorem dJ24_treeifyBin_38 : decode cJ24_treeifyBin 38 = .ok (.astore 6, 2) := dk_58 6 (dk_at dksJ24_treeifyBin_1 14 rfl rfl)
theorem dJ24_treeifyBin_40 : decode cJ24_treeifyBin 40 = .ok (.aconst_null, 1) := dk_1 (dk_at dksJ24_treeifyBin_1 16 rfl rfl)
theorem dJ24_treeifyBin_41 : decode cJ24_treeifyBin 41 = .ok (.astore 7, 2) := dk_58 7 (dk_at dksJ24_treeifyBin_1 17 rfl rfl)
theorem dJ24_treeifyBin_43 : decode cJ24_treeifyBin 43 = .ok (.aload_n 0, 1) := dk_42 (dk_at dksJ24_treeifyBin_1 19 rfl rfl)
theorem dJ24_treeifyBin_44 : decode cJ24_treeifyBin 44 = .ok (.aload 5, 2) := dk_25 5 (dk_at dksJ24_treeifyBin_1 20 rfl rfl)
theorem dJ24_treeifyBin_46 : decode cJ24_treeifyBin 46 = .ok (.aconst_null, 1) := dk_1 (dk_at dksJ24_treeifyBin_1 22 rfl rfl)
theorem dJ24_treeifyBin_47 : decode cJ24_treeifyBin 47 = .ok (.invokevirtual 215, 3) := dk_182 0 215 (dk_at dksJ24_treeifyBin_2 0 rfl rfl)
theorem dJ24_treeifyBin_50 : decode cJ24_treeifyBin 50 = .ok (.astore 8, 2) := dk_58 8 (dk_at dksJ24_treeifyBin_2 3 rfl rfl)
theorem dJ24_treeifyBin_52 : decode cJ24_treeifyBin 52 = .ok (.aload 7, 2) := dk_25 7 (dk_at dksJ24_treeifyBin_2 5 rfl rfl)
theorem dJ24_treeifyBin_54 : decode cJ24_treeifyBin 54 = .ok (.ifnonnull 10, 3) := dk_199 0 10 (dk_at dksJ24_treeifyBin_2 7 rfl rfl)
theorem dJ24_treeifyBin_57 : decode cJ24_treeifyBin 57 = .ok (.aload 8, 2) := dk_25 8 (dk_at dksJ24_treeifyBin_2 10 rfl rfl)
theorem dJ24_treeifyBin_59 : decode cJ24_treeifyBin 59 = .ok (.astore 6, 2) := dk_58 6 (dk_at dksJ24_treeifyBin_2 12 rfl rfl)
theorem dJ24_treeifyBin_61 : decode cJ24_treeifyBin 61 = .ok (.goto 17, 3) := dk_167 0 17 (dk_at dksJ24_treeifyBin_2 14 rfl rfl)
theorem dJ24_treeifyBin_64 : decode cJ24_treeifyBin 64 = .ok (.aload 8, 2) := dk_25 8 (dk_at dksJ24_treeifyBin_2 17 rfl rfl)
theorem dJ24_treeifyBin_66 : decode cJ24_treeifyBin 66 = .ok (.aload 7, 2) := dk_25 7 (dk_at dksJ24_treeifyBin_2 19 rfl rfl)
theorem dJ24_treeifyBin_68 : decode cJ24_treeifyBin 68 = .ok (.putfield 219, 3) := dk_181 0 219 (dk_at dksJ24_treeifyBin_2 21 rfl rfl)
theorem dJ24_treeifyBin_71 : decode cJ24_treeifyBin 71 = .ok (.aload 7, 2) := dk_25 7 (dk_at dksJ24_treeifyBin_3 0 rfl rfl)
theorem dJ24_treeifyBin_73 : decode cJ24_treeifyBin 73 = .ok (.aload 8, 2) := dk_25 8 (dk_at dksJ24_treeifyBin_3 2 rfl rfl)
theorem dJ24_treeifyBin_75 : decode cJ24_treeifyBin 75 = .ok (.putfield 223, 3) := dk_181 0 223 (dk_at dksJ24_treeifyBin_3 4 rfl rfl)
theorem dJ24_treeifyBin_78 : decode cJ24_treeifyBin 78 = .ok (.aload 8, 2) := dk_25 8 (dk_at dksJ24_treeifyBin_3 7 rfl rfl)
theorem dJ24_treeifyBin_80 : decode cJ24_treeifyBin 80 = .ok (.astore 7, 2) := dk_58 7 (dk_at dksJ24_treeifyBin_3 9 rfl rfl)
theorem dJ24_treeifyBin_82 : decode cJ24_treeifyBin 82 = .ok (.aload 5, 2) := dk_25 5 (dk_at dksJ24_treeifyBin_3 11 rfl rfl)
theorem dJ24_treeifyBin_84 : decode cJ24_treeifyBin 84 = .ok (.getfield 177, 3) := dk_180 0 177 (dk_at dksJ24_treeifyBin_3 13 rfl rfl)
theorem dJ24_treeifyBin_87 : decode cJ24_treeifyBin 87 = .ok (.dup, 1) := dk_89 (dk_at dksJ24_treeifyBin_3 16 rfl rfl)
theorem dJ24_treeifyBin_88 : decode cJ24_treeifyBin 88 = .ok (.astore 5, 2) := dk_58 5 (dk_at dksJ24_treeifyBin_3 17 rfl rfl)
theorem dJ24_treeifyBin_90 : decode cJ24_treeifyBin 90 = .ok (.ifnonnull (-47), 3) := dk_199 255 209 (dk_at dksJ24_treeifyBin_3 19 rfl rfl)
theorem dJ24_treeifyBin_93 : decode cJ24_treeifyBin 93 = .ok (.aload_n 1, 1) := dk_43 (dk_at dksJ24_treeifyBin_3 22 rfl rfl)
theorem dJ24_treeifyBin_94 : decode cJ24_treeifyBin 94 = .ok (.iload 4, 2) := dk_21 4 (dk_at dksJ24_treeifyBin_4 0 rfl rfl)
theorem dJ24_treeifyBin_96 : decode cJ24_treeifyBin 96 = .ok (.aload 6, 2) := dk_25 6 (dk_at dksJ24_treeifyBin_4 2 rfl rfl)
theorem dJ24_treeifyBin_98 : decode cJ24_treeifyBin 98 = .ok (.dup_x2, 1) := dk_91 (dk_at dksJ24_treeifyBin_4 4 rfl rfl)
theorem dJ24_treeifyBin_99 : decode cJ24_treeifyBin 99 = .ok (.aastore, 1) := dk_83 (dk_at dksJ24_treeifyBin_4 5 rfl rfl)
theorem dJ24_treeifyBin_100 : decode cJ24_treeifyBin 100 = .ok (.ifnull 9, 3) := dk_198 0 9 (dk_at dksJ24_treeifyBin_4 6 rfl rfl)
theorem dJ24_treeifyBin_103 : decode cJ24_treeifyBin 103 = .ok (.aload 6, 2) := dk_25 6 (dk_at dksJ24_treeifyBin_4 9 rfl rfl)
theorem dJ24_treeifyBin_105 : decode cJ24_treeifyBin 105 = .ok (.aload_n 1, 1) := dk_43 (dk_at dksJ24_treeifyBin_4 11 rfl rfl)
theorem dJ24_treeifyBin_106 : decode cJ24_treeifyBin 106 = .ok (.invokevirtual 224, 3) := dk_182 0 224 (dk_at dksJ24_treeifyBin_4 12 rfl rfl)
theorem dJ24_treeifyBin_109 : decode cJ24_treeifyBin 109 = .ok (.return_, 1) := dk_177 (dk_at dksJ24_treeifyBin_4 15 rfl rfl)
abbrev cJ24_replacementTreeNode : ByteArray := prog_44_method_49_code
def yJ24_replacementTreeNode : MethodName := ⟨RJ24, "replacementTreeNode", "(Ljava/util/HashMap$Node;Ljava/util/HashMap$Node;)Ljava/util/HashMap$TreeNode;"⟩
def dkwJ24_replacementTreeNode_0 : List UInt8 := [187, 0, 180, 89, 43, 180, 0, 168, 43, 180, 0, 170, 43, 180, 0, 162, 44, 183, 1, 122, 176]
abbrev dktJ24_replacementTreeNode_0 : List UInt8 := dkwJ24_replacementTreeNode_0 ++ []
theorem dksJ24_replacementTreeNode_0 : cJ24_replacementTreeNode.data.toList.drop 0 = dktJ24_replacementTreeNode_0 := by decide +kernel
theorem dJ24_replacementTreeNode_0 : decode cJ24_replacementTreeNode 0 = .ok (.new 180, 3) := dk_187 0 180 (dk_at dksJ24_replacementTreeNode_0 0 rfl rfl)
theorem dJ24_replacementTreeNode_3 : decode cJ24_replacementTreeNode 3 = .ok (.dup, 1) := dk_89 (dk_at dksJ24_replacementTreeNode_0 3 rfl rfl)
theorem dJ24_replacementTreeNode_4 : decode cJ24_replacementTreeNode 4 = .ok (.aload_n 1, 1) := dk_43 (dk_at dksJ24_replacementTreeNode_0 4 rfl rfl)
theorem dJ24_replacementTreeNode_5 : decode cJ24_replacementTreeNode 5 = .ok (.getfield 168, 3) := dk_180 0 168 (dk_at dksJ24_replacementTreeNode_0 5 rfl rfl)
theorem dJ24_replacementTreeNode_8 : decode cJ24_replacementTreeNode 8 = .ok (.aload_n 1, 1) := dk_43 (dk_at dksJ24_replacementTreeNode_0 8 rfl rfl)
theorem dJ24_replacementTreeNode_9 : decode cJ24_replacementTreeNode 9 = .ok (.getfield 170, 3) := dk_180 0 170 (dk_at dksJ24_replacementTreeNode_0 9 rfl rfl)
theorem dJ24_replacementTreeNode_12 : decode cJ24_replacementTreeNode 12 = .ok (.aload_n 1, 1) := dk_43 (dk_at dksJ24_replacementTreeNode_0 12 rfl rfl)
theorem dJ24_replacementTreeNode_13 : decode cJ24_replacementTreeNode 13 = .ok (.getfield 162, 3) := dk_180 0 162 (dk_at dksJ24_replacementTreeNode_0 13 rfl rfl)
theorem dJ24_replacementTreeNode_16 : decode cJ24_replacementTreeNode 16 = .ok (.aload_n 2, 1) := dk_44 (dk_at dksJ24_replacementTreeNode_0 16 rfl rfl)
theorem dJ24_replacementTreeNode_17 : decode cJ24_replacementTreeNode 17 = .ok (.invokespecial 378, 3) := dk_183 1 122 (dk_at dksJ24_replacementTreeNode_0 17 rfl rfl)
theorem dJ24_replacementTreeNode_20 : decode cJ24_replacementTreeNode 20 = .ok (.areturn, 1) := dk_176 (dk_at dksJ24_replacementTreeNode_0 20 rfl rfl)
abbrev cJ24_afterNodeAccess : ByteArray := prog_44_method_51_code
def yJ24_afterNodeAccess : MethodName := ⟨RJ24, "afterNodeAccess", "(Ljava/util/HashMap$Node;)V"⟩
theorem dJ24_afterNodeAccess_0 : decode cJ24_afterNodeAccess 0 = .ok (.return_, 1) := by decide +kernel
abbrev cJ24_afterNodeInsertion : ByteArray := prog_44_method_52_code
def yJ24_afterNodeInsertion : MethodName := ⟨RJ24, "afterNodeInsertion", "(Z)V"⟩
theorem dJ24_afterNodeInsertion_0 : decode cJ24_afterNodeInsertion 0 = .ok (.return_, 1) := by decide +kernel
abbrev cJ24_values : ByteArray := prog_44_method_28_code
def yJ24_values : MethodName := ⟨RJ24, "values", "()Ljava/util/Collection;"⟩
def dkwJ24_values_1 : List UInt8 := [176]
abbrev dktJ24_values_1 : List UInt8 := dkwJ24_values_1 ++ []
def dkwJ24_values_0 : List UInt8 := [42, 180, 1, 3, 76, 43, 199, 0, 17, 187, 1, 7, 89, 42, 183, 1, 9, 76, 42, 43, 181, 1, 3, 43]
abbrev dktJ24_values_0 : List UInt8 := dkwJ24_values_0 ++ dktJ24_values_1
theorem dksJ24_values_0 : cJ24_values.data.toList.drop 0 = dktJ24_values_0 := by decide +kernel
theorem dksJ24_values_1 : cJ24_values.data.toList.drop 24 = dktJ24_values_1 := dk_seg dksJ24_values_0 24 rfl rfl
theorem dJ24_values_0 : decode cJ24_values 0 = .ok (.aload_n 0, 1) := dk_42 (dk_at dksJ24_values_0 0 rfl rfl)
theorem dJ24_values_1 : decode cJ24_values 1 = .ok (.getfield 259, 3) := dk_180 1 3 (dk_at dksJ24_values_0 1 rfl rfl)
theorem dJ24_values_4 : decode cJ24_values 4 = .ok (.astore_n 1, 1) := dk_76 (dk_at dksJ24_values_0 4 rfl rfl)
theorem dJ24_values_5 : decode cJ24_values 5 = .ok (.aload_n 1, 1) := dk_43 (dk_at dksJ24_values_0 5 rfl rfl)
theorem dJ24_values_6 : decode cJ24_values 6 = .ok (.ifnonnull 17, 3) := dk_199 0 17 (dk_at dksJ24_values_0 6 rfl rfl)
theorem dJ24_values_9 : decode cJ24_values 9 = .ok (.new 263, 3) := dk_187 1 7 (dk_at dksJ24_values_0 9 rfl rfl)
theorem dJ24_values_12 : decode cJ24_values 12 = .ok (.dup, 1) := dk_89 (dk_at dksJ24_values_0 12 rfl rfl)
theorem dJ24_values_13 : decode cJ24_values 13 = .ok (.aload_n 0, 1) := dk_42 (dk_at dksJ24_values_0 13 rfl rfl)
theorem dJ24_values_14 : decode cJ24_values 14 = .ok (.invokespecial 265, 3) := dk_183 1 9 (dk_at dksJ24_values_0 14 rfl rfl)
theorem dJ24_values_17 : decode cJ24_values 17 = .ok (.astore_n 1, 1) := dk_76 (dk_at dksJ24_values_0 17 rfl rfl)
theorem dJ24_values_18 : decode cJ24_values 18 = .ok (.aload_n 0, 1) := dk_42 (dk_at dksJ24_values_0 18 rfl rfl)
theorem dJ24_values_19 : decode cJ24_values 19 = .ok (.aload_n 1, 1) := dk_43 (dk_at dksJ24_values_0 19 rfl rfl)
theorem dJ24_values_20 : decode cJ24_values 20 = .ok (.putfield 259, 3) := dk_181 1 3 (dk_at dksJ24_values_0 20 rfl rfl)
theorem dJ24_values_23 : decode cJ24_values 23 = .ok (.aload_n 1, 1) := dk_43 (dk_at dksJ24_values_0 23 rfl rfl)
theorem dJ24_values_24 : decode cJ24_values 24 = .ok (.areturn, 1) := dk_176 (dk_at dksJ24_values_1 0 rfl rfl)
abbrev cJ24_keySet : ByteArray := prog_44_method_24_code
def yJ24_keySet : MethodName := ⟨RJ24, "keySet", "()Ljava/util/Set;"⟩
def dkwJ24_keySet_1 : List UInt8 := [176]
abbrev dktJ24_keySet_1 : List UInt8 := dkwJ24_keySet_1 ++ []
def dkwJ24_keySet_0 : List UInt8 := [42, 180, 0, 239, 76, 43, 199, 0, 17, 187, 0, 243, 89, 42, 183, 0, 245, 76, 42, 43, 181, 0, 239, 43]
abbrev dktJ24_keySet_0 : List UInt8 := dkwJ24_keySet_0 ++ dktJ24_keySet_1
theorem dksJ24_keySet_0 : cJ24_keySet.data.toList.drop 0 = dktJ24_keySet_0 := by decide +kernel
theorem dksJ24_keySet_1 : cJ24_keySet.data.toList.drop 24 = dktJ24_keySet_1 := dk_seg dksJ24_keySet_0 24 rfl rfl
theorem dJ24_keySet_0 : decode cJ24_keySet 0 = .ok (.aload_n 0, 1) := dk_42 (dk_at dksJ24_keySet_0 0 rfl rfl)
theorem dJ24_keySet_1 : decode cJ24_keySet 1 = .ok (.getfield 239, 3) := dk_180 0 239 (dk_at dksJ24_keySet_0 1 rfl rfl)
theorem dJ24_keySet_4 : decode cJ24_keySet 4 = .ok (.astore_n 1, 1) := dk_76 (dk_at dksJ24_keySet_0 4 rfl rfl)
theorem dJ24_keySet_5 : decode cJ24_keySet 5 = .ok (.aload_n 1, 1) := dk_43 (dk_at dksJ24_keySet_0 5 rfl rfl)
theorem dJ24_keySet_6 : decode cJ24_keySet 6 = .ok (.ifnonnull 17, 3) := dk_199 0 17 (dk_at dksJ24_keySet_0 6 rfl rfl)
theorem dJ24_keySet_9 : decode cJ24_keySet 9 = .ok (.new 243, 3) := dk_187 0 243 (dk_at dksJ24_keySet_0 9 rfl rfl)
theorem dJ24_keySet_12 : decode cJ24_keySet 12 = .ok (.dup, 1) := dk_89 (dk_at dksJ24_keySet_0 12 rfl rfl)
theorem dJ24_keySet_13 : decode cJ24_keySet 13 = .ok (.aload_n 0, 1) := dk_42 (dk_at dksJ24_keySet_0 13 rfl rfl)
theorem dJ24_keySet_14 : decode cJ24_keySet 14 = .ok (.invokespecial 245, 3) := dk_183 0 245 (dk_at dksJ24_keySet_0 14 rfl rfl)
theorem dJ24_keySet_17 : decode cJ24_keySet 17 = .ok (.astore_n 1, 1) := dk_76 (dk_at dksJ24_keySet_0 17 rfl rfl)
theorem dJ24_keySet_18 : decode cJ24_keySet 18 = .ok (.aload_n 0, 1) := dk_42 (dk_at dksJ24_keySet_0 18 rfl rfl)
theorem dJ24_keySet_19 : decode cJ24_keySet 19 = .ok (.aload_n 1, 1) := dk_43 (dk_at dksJ24_keySet_0 19 rfl rfl)
theorem dJ24_keySet_20 : decode cJ24_keySet 20 = .ok (.putfield 239, 3) := dk_181 0 239 (dk_at dksJ24_keySet_0 20 rfl rfl)
theorem dJ24_keySet_23 : decode cJ24_keySet 23 = .ok (.aload_n 1, 1) := dk_43 (dk_at dksJ24_keySet_0 23 rfl rfl)
theorem dJ24_keySet_24 : decode cJ24_keySet 24 = .ok (.areturn, 1) := dk_176 (dk_at dksJ24_keySet_1 0 rfl rfl)
theorem q109 : (Jvm.Cond.initialized "java/util/HashMap") ∈ lw_all := lw_g (lw_at lw_m1 32 rfl) rfl
theorem q474 : (Jvm.Cond.selects "java/util/HashMap" ({ cls := "java/lang/Object", name := "getClass", desc := "()Ljava/lang/Class;" } : Jvm.MethodName) ({ cls := "java/lang/Object", name := "getClass", desc := "()Ljava/lang/Class;" } : Jvm.MethodName)) ∈ lw_all := lw_g (lw_at lw_m2 157 rfl) rfl
theorem q816 : (Jvm.Cond.instanceMethod ({ cls := "java/util/HashMap", name := "keysToArray", desc := "([Ljava/lang/Object;)[Ljava/lang/Object;" } : Jvm.MethodName)) ∈ lw_all := lw_g (lw_at lw_m4 19 rfl) rfl
theorem q817 : (Jvm.Cond.selects "java/util/HashMap" ({ cls := "java/util/HashMap", name := "keysToArray", desc := "([Ljava/lang/Object;)[Ljava/lang/Object;" } : Jvm.MethodName) ({ cls := "java/util/HashMap", name := "keysToArray", desc := "([Ljava/lang/Object;)[Ljava/lang/Object;" } : Jvm.MethodName)) ∈ lw_all := lw_g (lw_at lw_m4 20 rfl) rfl
theorem q818 : (Jvm.Cond.code ({ cls := "java/util/HashMap", name := "keysToArray", desc := "([Ljava/lang/Object;)[Ljava/lang/Object;" } : Jvm.MethodName) prog_44_method_26_code (9 : Nat) (Option.some (Jvm.ClassFile.FieldType.array (Jvm.ClassFile.FieldType.object "java/lang/Object")))) ∈ lw_all := lw_g (lw_at lw_m4 21 rfl) rfl
theorem q827 : (Jvm.Cond.instanceMethod ({ cls := "java/util/HashMap", name := "valuesToArray", desc := "([Ljava/lang/Object;)[Ljava/lang/Object;" } : Jvm.MethodName)) ∈ lw_all := lw_g (lw_at lw_m4 30 rfl) rfl
theorem q828 : (Jvm.Cond.selects "java/util/HashMap" ({ cls := "java/util/HashMap", name := "valuesToArray", desc := "([Ljava/lang/Object;)[Ljava/lang/Object;" } : Jvm.MethodName) ({ cls := "java/util/HashMap", name := "valuesToArray", desc := "([Ljava/lang/Object;)[Ljava/lang/Object;" } : Jvm.MethodName)) ∈ lw_all := lw_g (lw_at lw_m4 31 rfl) rfl
theorem q829 : (Jvm.Cond.code ({ cls := "java/util/HashMap", name := "valuesToArray", desc := "([Ljava/lang/Object;)[Ljava/lang/Object;" } : Jvm.MethodName) prog_44_method_27_code (9 : Nat) (Option.some (Jvm.ClassFile.FieldType.array (Jvm.ClassFile.FieldType.object "java/lang/Object")))) ∈ lw_all := lw_g (lw_at lw_m4 32 rfl) rfl
theorem q837 : (Jvm.Cond.instanceMethod ({ cls := "java/util/HashMap", name := "size", desc := "()I" } : Jvm.MethodName)) ∈ lw_all := lw_g (lw_at lw_m4 40 rfl) rfl
theorem q838 : (Jvm.Cond.selects "java/util/HashMap" ({ cls := "java/util/HashMap", name := "size", desc := "()I" } : Jvm.MethodName) ({ cls := "java/util/HashMap", name := "size", desc := "()I" } : Jvm.MethodName)) ∈ lw_all := lw_g (lw_at lw_m4 41 rfl) rfl
theorem q839 : (Jvm.Cond.code ({ cls := "java/util/HashMap", name := "size", desc := "()I" } : Jvm.MethodName) prog_44_method_10_code (1 : Nat) (Option.some Jvm.ClassFile.FieldType.int)) ∈ lw_all := lw_g (lw_at lw_m4 42 rfl) rfl
theorem q1258 : (Jvm.Cond.instantiable "java/util/HashMap" (8 : Nat)) ∈ lw_all := lw_g (lw_at lw_m5 221 rfl) rfl
theorem q1260 : (Jvm.Cond.instanceMethod ({ cls := "java/util/HashMap", name := "<init>", desc := "()V" } : Jvm.MethodName)) ∈ lw_all := lw_g (lw_at lw_m5 223 rfl) rfl
theorem q1261 : (Jvm.Cond.code ({ cls := "java/util/HashMap", name := "<init>", desc := "()V" } : Jvm.MethodName) prog_44_method_7_code (1 : Nat) (Option.none : Option Jvm.ClassFile.FieldType)) ∈ lw_all := lw_g (lw_at lw_m5 224 rfl) rfl
theorem q1262 : (Jvm.Cond.methodLink "java/util/HashMap" (43 : Nat) ({ cls := "java/util/AbstractMap", name := "<init>", desc := "()V" } : Jvm.MethodName)) ∈ lw_all := lw_g (lw_at lw_m5 225 rfl) rfl
theorem q1266 : (Jvm.Cond.constantFloat "java/util/HashMap" (92 : Nat) (1061158912 : UInt32)) ∈ lw_all := lw_g (lw_at lw_m5 229 rfl) rfl
theorem q1268 : (Jvm.Cond.fieldLink "java/util/HashMap" (105 : Nat) "java/util/HashMap" "table" "[Ljava/util/HashMap$Node;") ∈ lw_all := lw_g (lw_at lw_m5 231 rfl) rfl
theorem q1272 : (Jvm.Cond.fieldLink "java/util/HashMap" (156 : Nat) "java/util/HashMap" "size" "I") ∈ lw_all := lw_g (lw_at lw_m5 235 rfl) rfl
theorem q1274 : (Jvm.Cond.fieldLink "java/util/HashMap" (202 : Nat) "java/util/HashMap" "modCount" "I") ∈ lw_all := lw_g (lw_at lw_m5 237 rfl) rfl
theorem q1275 : (Jvm.Cond.fieldLink "java/util/HashMap" (88 : Nat) "java/util/HashMap" "threshold" "I") ∈ lw_all := lw_g (lw_at lw_m5 238 rfl) rfl
theorem q1276 : (Jvm.Cond.fieldLink "java/util/HashMap" (81 : Nat) "java/util/HashMap" "loadFactor" "F") ∈ lw_all := lw_g (lw_at lw_m5 239 rfl) rfl
theorem q1277 : (Jvm.Cond.fieldLink "java/util/HashMap" (239 : Nat) "java/util/HashMap" "keySet" "Ljava/util/Set;") ∈ lw_all := lw_g (lw_at lw_m6 0 rfl) rfl
theorem q1278 : (Jvm.Cond.sameField "java/util/HashMap" "java/util/AbstractMap" "keySet" "Ljava/util/Set;") ∈ lw_all := lw_g (lw_at lw_m6 1 rfl) rfl
theorem q1279 : (Jvm.Cond.fieldLink "java/util/HashMap" (259 : Nat) "java/util/HashMap" "values" "Ljava/util/Collection;") ∈ lw_all := lw_g (lw_at lw_m6 2 rfl) rfl
theorem q1280 : (Jvm.Cond.sameField "java/util/HashMap" "java/util/AbstractMap" "values" "Ljava/util/Collection;") ∈ lw_all := lw_g (lw_at lw_m6 3 rfl) rfl
theorem q1281 : (Jvm.Cond.lays "java/util/HashMap" "java/util/HashMap" "table" "[Ljava/util/HashMap$Node;") ∈ lw_all := lw_g (lw_at lw_m6 4 rfl) rfl
theorem q1282 : (Jvm.Cond.soleField "java/util/HashMap" "table") ∈ lw_all := lw_g (lw_at lw_m6 5 rfl) rfl
theorem q1283 : (Jvm.Cond.lays "java/util/HashMap" "java/util/HashMap" "entrySet" "Ljava/util/Set;") ∈ lw_all := lw_g (lw_at lw_m6 6 rfl) rfl
theorem q1284 : (Jvm.Cond.soleField "java/util/HashMap" "entrySet") ∈ lw_all := lw_g (lw_at lw_m6 7 rfl) rfl
theorem q1285 : (Jvm.Cond.lays "java/util/HashMap" "java/util/HashMap" "size" "I") ∈ lw_all := lw_g (lw_at lw_m6 8 rfl) rfl
theorem q1286 : (Jvm.Cond.soleField "java/util/HashMap" "size") ∈ lw_all := lw_g (lw_at lw_m6 9 rfl) rfl
theorem q1287 : (Jvm.Cond.lays "java/util/HashMap" "java/util/HashMap" "modCount" "I") ∈ lw_all := lw_g (lw_at lw_m6 10 rfl) rfl
theorem q1288 : (Jvm.Cond.soleField "java/util/HashMap" "modCount") ∈ lw_all := lw_g (lw_at lw_m6 11 rfl) rfl
theorem q1289 : (Jvm.Cond.lays "java/util/HashMap" "java/util/HashMap" "threshold" "I") ∈ lw_all := lw_g (lw_at lw_m6 12 rfl) rfl
theorem q1290 : (Jvm.Cond.soleField "java/util/HashMap" "threshold") ∈ lw_all := lw_g (lw_at lw_m6 13 rfl) rfl
theorem q1291 : (Jvm.Cond.laysFinal "java/util/HashMap" "java/util/HashMap" "loadFactor" "F") ∈ lw_all := lw_g (lw_at lw_m6 14 rfl) rfl
theorem q1292 : (Jvm.Cond.soleField "java/util/HashMap" "loadFactor") ∈ lw_all := lw_g (lw_at lw_m6 15 rfl) rfl
theorem q1293 : (Jvm.Cond.lays "java/util/HashMap" "java/util/AbstractMap" "keySet" "Ljava/util/Set;") ∈ lw_all := lw_g (lw_at lw_m6 16 rfl) rfl
theorem q1295 : (Jvm.Cond.lays "java/util/HashMap" "java/util/AbstractMap" "values" "Ljava/util/Collection;") ∈ lw_all := lw_g (lw_at lw_m6 18 rfl) rfl
theorem q1297 : (Jvm.Cond.superclass "java/util/HashMap" "java/util/AbstractMap") ∈ lw_all := lw_g (lw_at lw_m6 20 rfl) rfl
theorem q1332 : (Jvm.Cond.instanceMethod ({ cls := "java/util/HashMap", name := "get", desc := "(Ljava/lang/Object;)Ljava/lang/Object;" } : Jvm.MethodName)) ∈ lw_all := lw_g (lw_at lw_m6 55 rfl) rfl
theorem q1333 : (Jvm.Cond.selects "java/util/HashMap" ({ cls := "java/util/HashMap", name := "get", desc := "(Ljava/lang/Object;)Ljava/lang/Object;" } : Jvm.MethodName) ({ cls := "java/util/HashMap", name := "get", desc := "(Ljava/lang/Object;)Ljava/lang/Object;" } : Jvm.MethodName)) ∈ lw_all := lw_g (lw_at lw_m6 56 rfl) rfl
theorem q1334 : (Jvm.Cond.code ({ cls := "java/util/HashMap", name := "get", desc := "(Ljava/lang/Object;)Ljava/lang/Object;" } : Jvm.MethodName) prog_44_method_12_code (3 : Nat) (Option.some (Jvm.ClassFile.FieldType.object "java/lang/Object"))) ∈ lw_all := lw_g (lw_at lw_m6 57 rfl) rfl
theorem q1335 : (Jvm.Cond.methodLink "java/util/HashMap" (158 : Nat) ({ cls := "java/util/HashMap", name := "getNode", desc := "(Ljava/lang/Object;)Ljava/util/HashMap$Node;" } : Jvm.MethodName)) ∈ lw_all := lw_g (lw_at lw_m6 58 rfl) rfl
theorem q1336 : (Jvm.Cond.instanceMethod ({ cls := "java/util/HashMap", name := "getNode", desc := "(Ljava/lang/Object;)Ljava/util/HashMap$Node;" } : Jvm.MethodName)) ∈ lw_all := lw_g (lw_at lw_m6 59 rfl) rfl
theorem q1337 : (Jvm.Cond.selects "java/util/HashMap" ({ cls := "java/util/HashMap", name := "getNode", desc := "(Ljava/lang/Object;)Ljava/util/HashMap$Node;" } : Jvm.MethodName) ({ cls := "java/util/HashMap", name := "getNode", desc := "(Ljava/lang/Object;)Ljava/util/HashMap$Node;" } : Jvm.MethodName)) ∈ lw_all := lw_g (lw_at lw_m6 60 rfl) rfl
theorem q1338 : (Jvm.Cond.code ({ cls := "java/util/HashMap", name := "getNode", desc := "(Ljava/lang/Object;)Ljava/util/HashMap$Node;" } : Jvm.MethodName) prog_44_method_13_code (8 : Nat) (Option.some (Jvm.ClassFile.FieldType.object "java/util/HashMap$Node"))) ∈ lw_all := lw_g (lw_at lw_m6 61 rfl) rfl
theorem q1339 : (Jvm.Cond.methodLink "java/util/HashMap" (149 : Nat) ({ cls := "java/util/HashMap", name := "hash", desc := "(Ljava/lang/Object;)I" } : Jvm.MethodName)) ∈ lw_all := lw_g (lw_at lw_m6 62 rfl) rfl
theorem q1340 : (Jvm.Cond.static ({ cls := "java/util/HashMap", name := "hash", desc := "(Ljava/lang/Object;)I" } : Jvm.MethodName)) ∈ lw_all := lw_g (lw_at lw_m6 63 rfl) rfl
theorem q1341 : (Jvm.Cond.code ({ cls := "java/util/HashMap", name := "hash", desc := "(Ljava/lang/Object;)I" } : Jvm.MethodName) prog_44_method_1_code (2 : Nat) (Option.some Jvm.ClassFile.FieldType.int)) ∈ lw_all := lw_g (lw_at lw_m6 64 rfl) rfl
theorem q1343 : (Jvm.Cond.methodLink "java/util/HashMap" (1 : Nat) ({ cls := "java/lang/Object", name := "hashCode", desc := "()I" } : Jvm.MethodName)) ∈ lw_all := lw_g (lw_at lw_m6 66 rfl) rfl
theorem q1417 : (Jvm.Cond.methodLink "java/util/HashMap" (173 : Nat) ({ cls := "java/lang/Object", name := "equals", desc := "(Ljava/lang/Object;)Z" } : Jvm.MethodName)) ∈ lw_all := lw_g (lw_at lw_m6 140 rfl) rfl
theorem q1418 : (Jvm.Cond.classLink "java/util/HashMap" (180 : Nat) "java/util/HashMap$TreeNode") ∈ lw_all := lw_g (lw_at lw_m6 141 rfl) rfl
theorem q1419 : (Jvm.Cond.methodLink "java/util/HashMap" (182 : Nat) ({ cls := "java/util/HashMap$TreeNode", name := "getTreeNode", desc := "(ILjava/lang/Object;)Ljava/util/HashMap$TreeNode;" } : Jvm.MethodName)) ∈ lw_all := lw_g (lw_at lw_m6 142 rfl) rfl
theorem q1433 : (Jvm.Cond.static ({ cls := "java/util/HashMap", name := "comparableClassFor", desc := "(Ljava/lang/Object;)Ljava/lang/Class;" } : Jvm.MethodName)) ∈ lw_all := lw_g (lw_at lw_m6 156 rfl) rfl
theorem q1434 : (Jvm.Cond.code ({ cls := "java/util/HashMap", name := "comparableClassFor", desc := "(Ljava/lang/Object;)Ljava/lang/Class;" } : Jvm.MethodName) prog_44_method_2_code (9 : Nat) (Option.some (Jvm.ClassFile.FieldType.object "java/lang/Class"))) ∈ lw_all := lw_g (lw_at lw_m6 157 rfl) rfl
theorem q1435 : (Jvm.Cond.classLink "java/util/HashMap" (7 : Nat) "java/lang/Comparable") ∈ lw_all := lw_g (lw_at lw_m6 158 rfl) rfl
theorem q1436 : (Jvm.Cond.methodLink "java/util/HashMap" (9 : Nat) ({ cls := "java/lang/Object", name := "getClass", desc := "()Ljava/lang/Class;" } : Jvm.MethodName)) ∈ lw_all := lw_g (lw_at lw_m6 159 rfl) rfl
theorem q1437 : (Jvm.Cond.classLink "java/util/HashMap" (13 : Nat) "java/lang/String") ∈ lw_all := lw_g (lw_at lw_m6 160 rfl) rfl
theorem q1439 : (Jvm.Cond.static ({ cls := "java/util/HashMap", name := "compareComparables", desc := "(Ljava/lang/Class;Ljava/lang/Object;Ljava/lang/Object;)I" } : Jvm.MethodName)) ∈ lw_all := lw_g (lw_at lw_m6 162 rfl) rfl
theorem q1440 : (Jvm.Cond.code ({ cls := "java/util/HashMap", name := "compareComparables", desc := "(Ljava/lang/Class;Ljava/lang/Object;Ljava/lang/Object;)I" } : Jvm.MethodName) prog_44_method_3_code (3 : Nat) (Option.some Jvm.ClassFile.FieldType.int)) ∈ lw_all := lw_g (lw_at lw_m6 163 rfl) rfl
theorem q1441 : (Jvm.Cond.interfaceEntry "java/util/HashMap" (30 : Nat)) ∈ lw_tbl := lw_at lw_m6 164 rfl
theorem q1442 : (Jvm.Cond.methodLink "java/util/HashMap" (30 : Nat) ({ cls := "java/lang/Comparable", name := "compareTo", desc := "(Ljava/lang/Object;)I" } : Jvm.MethodName)) ∈ lw_all := lw_g (lw_at lw_m6 165 rfl) rfl
theorem q1637 : (Jvm.Cond.instanceMethod ({ cls := "java/util/HashMap", name := "put", desc := "(Ljava/lang/Object;Ljava/lang/Object;)Ljava/lang/Object;" } : Jvm.MethodName)) ∈ lw_all := lw_g (lw_at lw_m7 120 rfl) rfl
theorem q1638 : (Jvm.Cond.selects "java/util/HashMap" ({ cls := "java/util/HashMap", name := "put", desc := "(Ljava/lang/Object;Ljava/lang/Object;)Ljava/lang/Object;" } : Jvm.MethodName) ({ cls := "java/util/HashMap", name := "put", desc := "(Ljava/lang/Object;Ljava/lang/Object;)Ljava/lang/Object;" } : Jvm.MethodName)) ∈ lw_all := lw_g (lw_at lw_m7 121 rfl) rfl
theorem q1639 : (Jvm.Cond.code ({ cls := "java/util/HashMap", name := "put", desc := "(Ljava/lang/Object;Ljava/lang/Object;)Ljava/lang/Object;" } : Jvm.MethodName) prog_44_method_15_code (3 : Nat) (Option.some (Jvm.ClassFile.FieldType.object "java/lang/Object"))) ∈ lw_all := lw_g (lw_at lw_m7 122 rfl) rfl
theorem q1640 : (Jvm.Cond.methodLink "java/util/HashMap" (152 : Nat) ({ cls := "java/util/HashMap", name := "putVal", desc := "(ILjava/lang/Object;Ljava/lang/Object;ZZ)Ljava/lang/Object;" } : Jvm.MethodName)) ∈ lw_all := lw_g (lw_at lw_m7 123 rfl) rfl
theorem q1641 : (Jvm.Cond.instanceMethod ({ cls := "java/util/HashMap", name := "putVal", desc := "(ILjava/lang/Object;Ljava/lang/Object;ZZ)Ljava/lang/Object;" } : Jvm.MethodName)) ∈ lw_all := lw_g (lw_at lw_m7 124 rfl) rfl
theorem q1642 : (Jvm.Cond.selects "java/util/HashMap" ({ cls := "java/util/HashMap", name := "putVal", desc := "(ILjava/lang/Object;Ljava/lang/Object;ZZ)Ljava/lang/Object;" } : Jvm.MethodName) ({ cls := "java/util/HashMap", name := "putVal", desc := "(ILjava/lang/Object;Ljava/lang/Object;ZZ)Ljava/lang/Object;" } : Jvm.MethodName)) ∈ lw_all := lw_g (lw_at lw_m7 125 rfl) rfl
theorem q1643 : (Jvm.Cond.code ({ cls := "java/util/HashMap", name := "putVal", desc := "(ILjava/lang/Object;Ljava/lang/Object;ZZ)Ljava/lang/Object;" } : Jvm.MethodName) prog_44_method_16_code (13 : Nat) (Option.some (Jvm.ClassFile.FieldType.object "java/lang/Object"))) ∈ lw_all := lw_g (lw_at lw_m7 126 rfl) rfl
theorem q1644 : (Jvm.Cond.methodLink "java/util/HashMap" (117 : Nat) ({ cls := "java/util/HashMap", name := "resize", desc := "()[Ljava/util/HashMap$Node;" } : Jvm.MethodName)) ∈ lw_all := lw_g (lw_at lw_m7 127 rfl) rfl
theorem q1645 : (Jvm.Cond.instanceMethod ({ cls := "java/util/HashMap", name := "resize", desc := "()[Ljava/util/HashMap$Node;" } : Jvm.MethodName)) ∈ lw_all := lw_g (lw_at lw_m7 128 rfl) rfl
theorem q1646 : (Jvm.Cond.selects "java/util/HashMap" ({ cls := "java/util/HashMap", name := "resize", desc := "()[Ljava/util/HashMap$Node;" } : Jvm.MethodName) ({ cls := "java/util/HashMap", name := "resize", desc := "()[Ljava/util/HashMap$Node;" } : Jvm.MethodName)) ∈ lw_all := lw_g (lw_at lw_m7 129 rfl) rfl
theorem q1647 : (Jvm.Cond.code ({ cls := "java/util/HashMap", name := "resize", desc := "()[Ljava/util/HashMap$Node;" } : Jvm.MethodName) prog_44_method_17_code (14 : Nat) (Option.some (Jvm.ClassFile.FieldType.array (Jvm.ClassFile.FieldType.object "java/util/HashMap$Node")))) ∈ lw_all := lw_g (lw_at lw_m7 130 rfl) rfl
theorem q1648 : (Jvm.Cond.constant "java/util/HashMap" (42 : Nat) (1073741824 : Int32)) ∈ lw_all := lw_g (lw_at lw_m7 131 rfl) rfl
theorem q1649 : (Jvm.Cond.constant "java/util/HashMap" (209 : Nat) (2147483647 : Int32)) ∈ lw_all := lw_g (lw_at lw_m7 132 rfl) rfl
theorem q1650 : (Jvm.Cond.constantFloat "java/util/HashMap" (210 : Nat) (1317011456 : UInt32)) ∈ lw_all := lw_g (lw_at lw_m7 133 rfl) rfl
theorem q1651 : (Jvm.Cond.classLink "java/util/HashMap" (163 : Nat) "java/util/HashMap$Node") ∈ lw_all := lw_g (lw_at lw_m7 134 rfl) rfl
theorem q1653 : (Jvm.Cond.methodLink "java/util/HashMap" (211 : Nat) ({ cls := "java/util/HashMap$TreeNode", name := "split", desc := "(Ljava/util/HashMap;[Ljava/util/HashMap$Node;II)V" } : Jvm.MethodName)) ∈ lw_all := lw_g (lw_at lw_m7 136 rfl) rfl
theorem q1663 : (Jvm.Cond.instanceMethod ({ cls := "java/util/HashMap", name := "replacementNode", desc := "(Ljava/util/HashMap$Node;Ljava/util/HashMap$Node;)Ljava/util/HashMap$Node;" } : Jvm.MethodName)) ∈ lw_all := lw_g (lw_at lw_m7 146 rfl) rfl
theorem q1664 : (Jvm.Cond.selects "java/util/HashMap" ({ cls := "java/util/HashMap", name := "replacementNode", desc := "(Ljava/util/HashMap$Node;Ljava/util/HashMap$Node;)Ljava/util/HashMap$Node;" } : Jvm.MethodName) ({ cls := "java/util/HashMap", name := "replacementNode", desc := "(Ljava/util/HashMap$Node;Ljava/util/HashMap$Node;)Ljava/util/HashMap$Node;" } : Jvm.MethodName)) ∈ lw_all := lw_g (lw_at lw_m7 147 rfl) rfl
theorem q1665 : (Jvm.Cond.code ({ cls := "java/util/HashMap", name := "replacementNode", desc := "(Ljava/util/HashMap$Node;Ljava/util/HashMap$Node;)Ljava/util/HashMap$Node;" } : Jvm.MethodName) prog_44_method_47_code (3 : Nat) (Option.some (Jvm.ClassFile.FieldType.object "java/util/HashMap$Node"))) ∈ lw_all := lw_g (lw_at lw_m7 148 rfl) rfl
theorem q1667 : (Jvm.Cond.methodLink "java/util/HashMap" (375 : Nat) ({ cls := "java/util/HashMap$Node", name := "<init>", desc := "(ILjava/lang/Object;Ljava/lang/Object;Ljava/util/HashMap$Node;)V" } : Jvm.MethodName)) ∈ lw_all := lw_g (lw_at lw_m7 150 rfl) rfl
theorem q1674 : (Jvm.Cond.fieldLink "java/util/HashMap" (168 : Nat) "java/util/HashMap$Node" "hash" "I") ∈ lw_all := lw_g (lw_at lw_m7 157 rfl) rfl
theorem q1679 : (Jvm.Cond.fieldLink "java/util/HashMap" (170 : Nat) "java/util/HashMap$Node" "key" "Ljava/lang/Object;") ∈ lw_all := lw_g (lw_at lw_m7 162 rfl) rfl
theorem q1682 : (Jvm.Cond.fieldLink "java/util/HashMap" (162 : Nat) "java/util/HashMap$Node" "value" "Ljava/lang/Object;") ∈ lw_all := lw_g (lw_at lw_m7 165 rfl) rfl
theorem q1688 : (Jvm.Cond.fieldLink "java/util/HashMap" (177 : Nat) "java/util/HashMap$Node" "next" "Ljava/util/HashMap$Node;") ∈ lw_all := lw_g (lw_at lw_m7 171 rfl) rfl
theorem q1689 : (Jvm.Cond.fieldLink "java/util/HashMap" (223 : Nat) "java/util/HashMap$TreeNode" "next" "Ljava/util/HashMap$Node;") ∈ lw_all := lw_g (lw_at lw_m7 172 rfl) rfl
theorem q1717 : (Jvm.Cond.methodLink "java/util/HashMap" (186 : Nat) ({ cls := "java/util/HashMap", name := "newNode", desc := "(ILjava/lang/Object;Ljava/lang/Object;Ljava/util/HashMap$Node;)Ljava/util/HashMap$Node;" } : Jvm.MethodName)) ∈ lw_all := lw_g (lw_at lw_m7 200 rfl) rfl
theorem q1718 : (Jvm.Cond.instanceMethod ({ cls := "java/util/HashMap", name := "newNode", desc := "(ILjava/lang/Object;Ljava/lang/Object;Ljava/util/HashMap$Node;)Ljava/util/HashMap$Node;" } : Jvm.MethodName)) ∈ lw_all := lw_g (lw_at lw_m7 201 rfl) rfl
theorem q1719 : (Jvm.Cond.selects "java/util/HashMap" ({ cls := "java/util/HashMap", name := "newNode", desc := "(ILjava/lang/Object;Ljava/lang/Object;Ljava/util/HashMap$Node;)Ljava/util/HashMap$Node;" } : Jvm.MethodName) ({ cls := "java/util/HashMap", name := "newNode", desc := "(ILjava/lang/Object;Ljava/lang/Object;Ljava/util/HashMap$Node;)Ljava/util/HashMap$Node;" } : Jvm.MethodName)) ∈ lw_all := lw_g (lw_at lw_m7 202 rfl) rfl
theorem q1720 : (Jvm.Cond.code ({ cls := "java/util/HashMap", name := "newNode", desc := "(ILjava/lang/Object;Ljava/lang/Object;Ljava/util/HashMap$Node;)Ljava/util/HashMap$Node;" } : Jvm.MethodName) prog_44_method_46_code (5 : Nat) (Option.some (Jvm.ClassFile.FieldType.object "java/util/HashMap$Node"))) ∈ lw_all := lw_g (lw_at lw_m7 203 rfl) rfl
theorem q1721 : (Jvm.Cond.methodLink "java/util/HashMap" (190 : Nat) ({ cls := "java/util/HashMap$TreeNode", name := "putTreeVal", desc := "(Ljava/util/HashMap;[Ljava/util/HashMap$Node;ILjava/lang/Object;Ljava/lang/Object;)Ljava/util/HashMap$TreeNode;" } : Jvm.MethodName)) ∈ lw_all := lw_g (lw_at lw_m7 204 rfl) rfl
theorem q1726 : (Jvm.Cond.instanceMethod ({ cls := "java/util/HashMap", name := "newTreeNode", desc := "(ILjava/lang/Object;Ljava/lang/Object;Ljava/util/HashMap$Node;)Ljava/util/HashMap$TreeNode;" } : Jvm.MethodName)) ∈ lw_all := lw_g (lw_at lw_m7 209 rfl) rfl
theorem q1727 : (Jvm.Cond.selects "java/util/HashMap" ({ cls := "java/util/HashMap", name := "newTreeNode", desc := "(ILjava/lang/Object;Ljava/lang/Object;Ljava/util/HashMap$Node;)Ljava/util/HashMap$TreeNode;" } : Jvm.MethodName) ({ cls := "java/util/HashMap", name := "newTreeNode", desc := "(ILjava/lang/Object;Ljava/lang/Object;Ljava/util/HashMap$Node;)Ljava/util/HashMap$TreeNode;" } : Jvm.MethodName)) ∈ lw_all := lw_g (lw_at lw_m7 210 rfl) rfl
theorem q1728 : (Jvm.Cond.code ({ cls := "java/util/HashMap", name := "newTreeNode", desc := "(ILjava/lang/Object;Ljava/lang/Object;Ljava/util/HashMap$Node;)Ljava/util/HashMap$TreeNode;" } : Jvm.MethodName) prog_44_method_48_code (5 : Nat) (Option.some (Jvm.ClassFile.FieldType.object "java/util/HashMap$TreeNode"))) ∈ lw_all := lw_g (lw_at lw_m7 211 rfl) rfl
theorem q1730 : (Jvm.Cond.methodLink "java/util/HashMap" (378 : Nat) ({ cls := "java/util/HashMap$TreeNode", name := "<init>", desc := "(ILjava/lang/Object;Ljava/lang/Object;Ljava/util/HashMap$Node;)V" } : Jvm.MethodName)) ∈ lw_all := lw_g (lw_at lw_m7 213 rfl) rfl
theorem q1741 : (Jvm.Cond.fieldLink "java/util/HashMap" (219 : Nat) "java/util/HashMap$TreeNode" "prev" "Ljava/util/HashMap$TreeNode;") ∈ lw_all := lw_g (lw_at lw_m7 224 rfl) rfl
theorem q1762 : (Jvm.Cond.methodLink "java/util/HashMap" (194 : Nat) ({ cls := "java/util/HashMap", name := "treeifyBin", desc := "([Ljava/util/HashMap$Node;I)V" } : Jvm.MethodName)) ∈ lw_all := lw_g (lw_at lw_m8 5 rfl) rfl
theorem q1763 : (Jvm.Cond.instanceMethod ({ cls := "java/util/HashMap", name := "treeifyBin", desc := "([Ljava/util/HashMap$Node;I)V" } : Jvm.MethodName)) ∈ lw_all := lw_g (lw_at lw_m8 6 rfl) rfl
theorem q1764 : (Jvm.Cond.selects "java/util/HashMap" ({ cls := "java/util/HashMap", name := "treeifyBin", desc := "([Ljava/util/HashMap$Node;I)V" } : Jvm.MethodName) ({ cls := "java/util/HashMap", name := "treeifyBin", desc := "([Ljava/util/HashMap$Node;I)V" } : Jvm.MethodName)) ∈ lw_all := lw_g (lw_at lw_m8 7 rfl) rfl
theorem q1765 : (Jvm.Cond.code ({ cls := "java/util/HashMap", name := "treeifyBin", desc := "([Ljava/util/HashMap$Node;I)V" } : Jvm.MethodName) prog_44_method_18_code (9 : Nat) (Option.none : Option Jvm.ClassFile.FieldType)) ∈ lw_all := lw_g (lw_at lw_m8 8 rfl) rfl
theorem q1766 : (Jvm.Cond.methodLink "java/util/HashMap" (215 : Nat) ({ cls := "java/util/HashMap", name := "replacementTreeNode", desc := "(Ljava/util/HashMap$Node;Ljava/util/HashMap$Node;)Ljava/util/HashMap$TreeNode;" } : Jvm.MethodName)) ∈ lw_all := lw_g (lw_at lw_m8 9 rfl) rfl
theorem q1767 : (Jvm.Cond.instanceMethod ({ cls := "java/util/HashMap", name := "replacementTreeNode", desc := "(Ljava/util/HashMap$Node;Ljava/util/HashMap$Node;)Ljava/util/HashMap$TreeNode;" } : Jvm.MethodName)) ∈ lw_all := lw_g (lw_at lw_m8 10 rfl) rfl
theorem q1768 : (Jvm.Cond.selects "java/util/HashMap" ({ cls := "java/util/HashMap", name := "replacementTreeNode", desc := "(Ljava/util/HashMap$Node;Ljava/util/HashMap$Node;)Ljava/util/HashMap$TreeNode;" } : Jvm.MethodName) ({ cls := "java/util/HashMap", name := "replacementTreeNode", desc := "(Ljava/util/HashMap$Node;Ljava/util/HashMap$Node;)Ljava/util/HashMap$TreeNode;" } : Jvm.MethodName)) ∈ lw_all := lw_g (lw_at lw_m8 11 rfl) rfl
theorem q1769 : (Jvm.Cond.code ({ cls := "java/util/HashMap", name := "replacementTreeNode", desc := "(Ljava/util/HashMap$Node;Ljava/util/HashMap$Node;)Ljava/util/HashMap$TreeNode;" } : Jvm.MethodName) prog_44_method_49_code (3 : Nat) (Option.some (Jvm.ClassFile.FieldType.object "java/util/HashMap$TreeNode"))) ∈ lw_all := lw_g (lw_at lw_m8 12 rfl) rfl
theorem q1770 : (Jvm.Cond.methodLink "java/util/HashMap" (224 : Nat) ({ cls := "java/util/HashMap$TreeNode", name := "treeify", desc := "([Ljava/util/HashMap$Node;)V" } : Jvm.MethodName)) ∈ lw_all := lw_g (lw_at lw_m8 13 rfl) rfl
theorem q1771 : (Jvm.Cond.methodLink "java/util/HashMap" (198 : Nat) ({ cls := "java/util/HashMap", name := "afterNodeAccess", desc := "(Ljava/util/HashMap$Node;)V" } : Jvm.MethodName)) ∈ lw_all := lw_g (lw_at lw_m8 14 rfl) rfl
theorem q1772 : (Jvm.Cond.instanceMethod ({ cls := "java/util/HashMap", name := "afterNodeAccess", desc := "(Ljava/util/HashMap$Node;)V" } : Jvm.MethodName)) ∈ lw_all := lw_g (lw_at lw_m8 15 rfl) rfl
theorem q1773 : (Jvm.Cond.selects "java/util/HashMap" ({ cls := "java/util/HashMap", name := "afterNodeAccess", desc := "(Ljava/util/HashMap$Node;)V" } : Jvm.MethodName) ({ cls := "java/util/HashMap", name := "afterNodeAccess", desc := "(Ljava/util/HashMap$Node;)V" } : Jvm.MethodName)) ∈ lw_all := lw_g (lw_at lw_m8 16 rfl) rfl
theorem q1774 : (Jvm.Cond.code ({ cls := "java/util/HashMap", name := "afterNodeAccess", desc := "(Ljava/util/HashMap$Node;)V" } : Jvm.MethodName) prog_44_method_51_code (2 : Nat) (Option.none : Option Jvm.ClassFile.FieldType)) ∈ lw_all := lw_g (lw_at lw_m8 17 rfl) rfl
theorem q1775 : (Jvm.Cond.methodLink "java/util/HashMap" (205 : Nat) ({ cls := "java/util/HashMap", name := "afterNodeInsertion", desc := "(Z)V" } : Jvm.MethodName)) ∈ lw_all := lw_g (lw_at lw_m8 18 rfl) rfl
theorem q1776 : (Jvm.Cond.instanceMethod ({ cls := "java/util/HashMap", name := "afterNodeInsertion", desc := "(Z)V" } : Jvm.MethodName)) ∈ lw_all := lw_g (lw_at lw_m8 19 rfl) rfl
theorem q1777 : (Jvm.Cond.selects "java/util/HashMap" ({ cls := "java/util/HashMap", name := "afterNodeInsertion", desc := "(Z)V" } : Jvm.MethodName) ({ cls := "java/util/HashMap", name := "afterNodeInsertion", desc := "(Z)V" } : Jvm.MethodName)) ∈ lw_all := lw_g (lw_at lw_m8 20 rfl) rfl
theorem q1778 : (Jvm.Cond.code ({ cls := "java/util/HashMap", name := "afterNodeInsertion", desc := "(Z)V" } : Jvm.MethodName) prog_44_method_52_code (2 : Nat) (Option.none : Option Jvm.ClassFile.FieldType)) ∈ lw_all := lw_g (lw_at lw_m8 21 rfl) rfl
theorem q1882 : (Jvm.Cond.instanceMethod ({ cls := "java/util/HashMap", name := "values", desc := "()Ljava/util/Collection;" } : Jvm.MethodName)) ∈ lw_all := lw_g (lw_at lw_m8 125 rfl) rfl
theorem q1883 : (Jvm.Cond.selects "java/util/HashMap" ({ cls := "java/util/HashMap", name := "values", desc := "()Ljava/util/Collection;" } : Jvm.MethodName) ({ cls := "java/util/HashMap", name := "values", desc := "()Ljava/util/Collection;" } : Jvm.MethodName)) ∈ lw_all := lw_g (lw_at lw_m8 126 rfl) rfl
theorem q1884 : (Jvm.Cond.code ({ cls := "java/util/HashMap", name := "values", desc := "()Ljava/util/Collection;" } : Jvm.MethodName) prog_44_method_28_code (2 : Nat) (Option.some (Jvm.ClassFile.FieldType.object "java/util/Collection"))) ∈ lw_all := lw_g (lw_at lw_m8 127 rfl) rfl
theorem q1885 : (Jvm.Cond.classLink "java/util/HashMap" (263 : Nat) "java/util/HashMap$Values") ∈ lw_all := lw_g (lw_at lw_m8 128 rfl) rfl
theorem q1887 : (Jvm.Cond.methodLink "java/util/HashMap" (265 : Nat) ({ cls := "java/util/HashMap$Values", name := "<init>", desc := "(Ljava/util/HashMap;)V" } : Jvm.MethodName)) ∈ lw_all := lw_g (lw_at lw_m8 130 rfl) rfl
theorem q1955 : (Jvm.Cond.instanceMethod ({ cls := "java/util/HashMap", name := "keySet", desc := "()Ljava/util/Set;" } : Jvm.MethodName)) ∈ lw_all := lw_g (lw_at lw_m8 198 rfl) rfl
theorem q1956 : (Jvm.Cond.selects "java/util/HashMap" ({ cls := "java/util/HashMap", name := "keySet", desc := "()Ljava/util/Set;" } : Jvm.MethodName) ({ cls := "java/util/HashMap", name := "keySet", desc := "()Ljava/util/Set;" } : Jvm.MethodName)) ∈ lw_all := lw_g (lw_at lw_m8 199 rfl) rfl
theorem q1957 : (Jvm.Cond.code ({ cls := "java/util/HashMap", name := "keySet", desc := "()Ljava/util/Set;" } : Jvm.MethodName) prog_44_method_24_code (2 : Nat) (Option.some (Jvm.ClassFile.FieldType.object "java/util/Set"))) ∈ lw_all := lw_g (lw_at lw_m8 200 rfl) rfl
theorem q1958 : (Jvm.Cond.classLink "java/util/HashMap" (243 : Nat) "java/util/HashMap$KeySet") ∈ lw_all := lw_g (lw_at lw_m8 201 rfl) rfl
theorem q1960 : (Jvm.Cond.methodLink "java/util/HashMap" (245 : Nat) ({ cls := "java/util/HashMap$KeySet", name := "<init>", desc := "(Ljava/util/HashMap;)V" } : Jvm.MethodName)) ∈ lw_all := lw_g (lw_at lw_m8 203 rfl) rfl
theorem q2531 : (Jvm.Cond.castable "java/util/HashMap" "java/lang/Object") ∈ lw_tbl := lw_at lw_m11 54 rfl
theorem in_J24 : ∀ w ∈ wsJ240, w ∈ lw_all := lw_in wsJ240 [1293, 1295, 1281, 1283, 1285, 1287, 1289, 1291] (by decide +kernel) (by decide +kernel)

/-! java/util/HashMap$TreeNode -/
def RJ29 : String := "java/util/HashMap$TreeNode"
def TJ29 : u_T := fun k => match k with
  | 0 => ("java/util/LinkedHashMap$Entry", "before", "Ljava/util/LinkedHashMap$Entry;", false)
  | 1 => ("java/util/LinkedHashMap$Entry", "after", "Ljava/util/LinkedHashMap$Entry;", false)
  | 2 => ("java/util/HashMap$Node", "hash", "I", true)
  | 3 => ("java/util/HashMap$Node", "key", "Ljava/lang/Object;", true)
  | 4 => ("java/util/HashMap$Node", "value", "Ljava/lang/Object;", false)
  | 5 => ("java/util/HashMap$Node", "next", "Ljava/util/HashMap$Node;", false)
  | 6 => ("java/util/HashMap$TreeNode", "parent", "Ljava/util/HashMap$TreeNode;", false)
  | 7 => ("java/util/HashMap$TreeNode", "left", "Ljava/util/HashMap$TreeNode;", false)
  | 8 => ("java/util/HashMap$TreeNode", "right", "Ljava/util/HashMap$TreeNode;", false)
  | 9 => ("java/util/HashMap$TreeNode", "prev", "Ljava/util/HashMap$TreeNode;", false)
  | _ => ("java/util/HashMap$TreeNode", "red", "Z", false)
def tyJ29 : Nat → FieldType := fun k => match k with
  | 0 => .object "java/util/LinkedHashMap$Entry"
  | 1 => .object "java/util/LinkedHashMap$Entry"
  | 2 => .int
  | 3 => .object "java/lang/Object"
  | 4 => .object "java/lang/Object"
  | 5 => .object "java/util/HashMap$Node"
  | 6 => .object "java/util/HashMap$TreeNode"
  | 7 => .object "java/util/HashMap$TreeNode"
  | 8 => .object "java/util/HashMap$TreeNode"
  | 9 => .object "java/util/HashMap$TreeNode"
  | _ => .boolean
abbrev wsJ290 : List Cond := u_ws RJ29 TJ29 11
theorem nmJ29 : ∀ a, a < 11 → ∀ b, b < 11 → a ≠ b → (TJ29 a).2.1 ≠ (TJ29 b).2.1 := by decide +kernel
theorem tyJ29_ok : ∀ k, k < 11 → parseFieldDescriptor (TJ29 k).2.2.1 = some (tyJ29 k) := by decide +kernel
abbrev cJ29_getTreeNode : ByteArray := prog_49_method_5_code
def yJ29_getTreeNode : MethodName := ⟨RJ29, "getTreeNode", "(ILjava/lang/Object;)Ljava/util/HashMap$TreeNode;"⟩
def dkwJ29_getTreeNode_0 : List UInt8 := [42, 180, 0, 9, 198, 0, 10, 42, 182, 0, 67, 167, 0, 4, 42, 27, 44, 1, 182, 0, 63, 176]
abbrev dktJ29_getTreeNode_0 : List UInt8 := dkwJ29_getTreeNode_0 ++ []
theorem dksJ29_getTreeNode_0 : cJ29_getTreeNode.data.toList.drop 0 = dktJ29_getTreeNode_0 := by decide +kernel
theorem dJ29_getTreeNode_0 : decode cJ29_getTreeNode 0 = .ok (.aload_n 0, 1) := dk_42 (dk_at dksJ29_getTreeNode_0 0 rfl rfl)
theorem dJ29_getTreeNode_1 : decode cJ29_getTreeNode 1 = .ok (.getfield 9, 3) := dk_180 0 9 (dk_at dksJ29_getTreeNode_0 1 rfl rfl)
theorem dJ29_getTreeNode_4 : decode cJ29_getTreeNode 4 = .ok (.ifnull 10, 3) := dk_198 0 10 (dk_at dksJ29_getTreeNode_0 4 rfl rfl)
theorem dJ29_getTreeNode_7 : decode cJ29_getTreeNode 7 = .ok (.aload_n 0, 1) := dk_42 (dk_at dksJ29_getTreeNode_0 7 rfl rfl)
theorem dJ29_getTreeNode_8 : decode cJ29_getTreeNode 8 = .ok (.invokevirtual 67, 3) := dk_182 0 67 (dk_at dksJ29_getTreeNode_0 8 rfl rfl)
theorem dJ29_getTreeNode_11 : decode cJ29_getTreeNode 11 = .ok (.goto 4, 3) := dk_167 0 4 (dk_at dksJ29_getTreeNode_0 11 rfl rfl)
theorem dJ29_getTreeNode_14 : decode cJ29_getTreeNode 14 = .ok (.aload_n 0, 1) := dk_42 (dk_at dksJ29_getTreeNode_0 14 rfl rfl)
theorem dJ29_getTreeNode_15 : decode cJ29_getTreeNode 15 = .ok (.iload_n 1, 1) := dk_27 (dk_at dksJ29_getTreeNode_0 15 rfl rfl)
theorem dJ29_getTreeNode_16 : decode cJ29_getTreeNode 16 = .ok (.aload_n 2, 1) := dk_44 (dk_at dksJ29_getTreeNode_0 16 rfl rfl)
theorem dJ29_getTreeNode_17 : decode cJ29_getTreeNode 17 = .ok (.aconst_null, 1) := dk_1 (dk_at dksJ29_getTreeNode_0 17 rfl rfl)
theorem dJ29_getTreeNode_18 : decode cJ29_getTreeNode 18 = .ok (.invokevirtual 63, 3) := dk_182 0 63 (dk_at dksJ29_getTreeNode_0 18 rfl rfl)
theorem dJ29_getTreeNode_21 : decode cJ29_getTreeNode 21 = .ok (.areturn, 1) := dk_176 (dk_at dksJ29_getTreeNode_0 21 rfl rfl)
abbrev cJ29_root : ByteArray := prog_49_method_2_code
def yJ29_root : MethodName := ⟨RJ29, "root", "()Ljava/util/HashMap$TreeNode;"⟩
def dkwJ29_root_0 : List UInt8 := [42, 76, 43, 180, 0, 9, 89, 77, 199, 0, 5, 43, 176, 44, 76, 167, 255, 243]
abbrev dktJ29_root_0 : List UInt8 := dkwJ29_root_0 ++ []
theorem dksJ29_root_0 : cJ29_root.data.toList.drop 0 = dktJ29_root_0 := by decide +kernel
theorem dJ29_root_0 : decode cJ29_root 0 = .ok (.aload_n 0, 1) := dk_42 (dk_at dksJ29_root_0 0 rfl rfl)
theorem dJ29_root_1 : decode cJ29_root 1 = .ok (.astore_n 1, 1) := dk_76 (dk_at dksJ29_root_0 1 rfl rfl)
theorem dJ29_root_2 : decode cJ29_root 2 = .ok (.aload_n 1, 1) := dk_43 (dk_at dksJ29_root_0 2 rfl rfl)
theorem dJ29_root_3 : decode cJ29_root 3 = .ok (.getfield 9, 3) := dk_180 0 9 (dk_at dksJ29_root_0 3 rfl rfl)
theorem dJ29_root_6 : decode cJ29_root 6 = .ok (.dup, 1) := dk_89 (dk_at dksJ29_root_0 6 rfl rfl)
theorem dJ29_root_7 : decode cJ29_root 7 = .ok (.astore_n 2, 1) := dk_77 (dk_at dksJ29_root_0 7 rfl rfl)
theorem dJ29_root_8 : decode cJ29_root 8 = .ok (.ifnonnull 5, 3) := dk_199 0 5 (dk_at dksJ29_root_0 8 rfl rfl)
theorem dJ29_root_11 : decode cJ29_root 11 = .ok (.aload_n 1, 1) := dk_43 (dk_at dksJ29_root_0 11 rfl rfl)
theorem dJ29_root_12 : decode cJ29_root 12 = .ok (.areturn, 1) := dk_176 (dk_at dksJ29_root_0 12 rfl rfl)
theorem dJ29_root_13 : decode cJ29_root 13 = .ok (.aload_n 2, 1) := dk_44 (dk_at dksJ29_root_0 13 rfl rfl)
theorem dJ29_root_14 : decode cJ29_root 14 = .ok (.astore_n 1, 1) := dk_76 (dk_at dksJ29_root_0 14 rfl rfl)
theorem dJ29_root_15 : decode cJ29_root 15 = .ok (.goto (-13), 3) := dk_167 255 243 (dk_at dksJ29_root_0 15 rfl rfl)
abbrev cJ29_find : ByteArray := prog_49_method_4_code
def yJ29_find : MethodName := ⟨RJ29, "find", "(ILjava/lang/Object;Ljava/lang/Class;)Ljava/util/HashMap$TreeNode;"⟩
def dkwJ29_find_7 : List UInt8 := [58, 4, 25, 4, 199, 255, 92, 1, 176]
abbrev dktJ29_find_7 : List UInt8 := dkwJ29_find_7 ++ []
def dkwJ29_find_6 : List UInt8 := [58, 4, 167, 0, 24, 25, 9, 27, 44, 45, 182, 0, 63, 89, 58, 10, 198, 0, 6, 25, 10, 176, 25, 8]
abbrev dktJ29_find_6 : List UInt8 := dkwJ29_find_6 ++ dktJ29_find_7
def dkwJ29_find_5 : List UInt8 := [44, 25, 7, 184, 0, 59, 89, 54, 6, 153, 0, 20, 21, 6, 156, 0, 8, 25, 8, 167, 0, 5, 25, 9]
abbrev dktJ29_find_5 : List UInt8 := dkwJ29_find_5 ++ dktJ29_find_6
def dkwJ29_find_4 : List UInt8 := [199, 0, 10, 25, 8, 58, 4, 167, 0, 67, 45, 199, 0, 12, 44, 184, 0, 55, 89, 78, 198, 0, 33, 45]
abbrev dktJ29_find_4 : List UInt8 := dkwJ29_find_4 ++ dktJ29_find_5
def dkwJ29_find_3 : List UInt8 := [182, 0, 49, 153, 0, 6, 25, 4, 176, 25, 8, 199, 0, 10, 25, 9, 58, 4, 167, 0, 79, 25, 9]
abbrev dktJ29_find_3 : List UInt8 := dkwJ29_find_3 ++ dktJ29_find_4
def dkwJ29_find_2 : List UInt8 := [167, 0, 119, 25, 4, 180, 0, 45, 89, 58, 7, 44, 165, 0, 16, 44, 198, 0, 15, 44, 25, 7]
abbrev dktJ29_find_2 : List UInt8 := dkwJ29_find_2 ++ dktJ29_find_3
def dkwJ29_find_1 : List UInt8 := [54, 5, 27, 164, 0, 10, 25, 8, 58, 4, 167, 0, 132, 21, 5, 27, 162, 0, 10, 25, 9, 58, 4]
abbrev dktJ29_find_1 : List UInt8 := dkwJ29_find_1 ++ dktJ29_find_2
def dkwJ29_find_0 : List UInt8 := [42, 58, 4, 25, 4, 180, 0, 39, 58, 8, 25, 4, 180, 0, 42, 58, 9, 25, 4, 180, 0, 15, 89]
abbrev dktJ29_find_0 : List UInt8 := dkwJ29_find_0 ++ dktJ29_find_1
theorem dksJ29_find_0 : cJ29_find.data.toList.drop 0 = dktJ29_find_0 := by decide +kernel
theorem dksJ29_find_1 : cJ29_find.data.toList.drop 23 = dktJ29_find_1 := dk_seg dksJ29_find_0 23 rfl rfl
theorem dksJ29_find_2 : cJ29_find.data.toList.drop 46 = dktJ29_find_2 := dk_seg dksJ29_find_1 23 rfl rfl
theorem dksJ29_find_3 : cJ29_find.data.toList.drop 68 = dktJ29_find_3 := dk_seg dksJ29_find_2 22 rfl rfl
theorem dksJ29_find_4 : cJ29_find.data.toList.drop 91 = dktJ29_find_4 := dk_seg dksJ29_find_3 23 rfl rfl
theorem dksJ29_find_5 : cJ29_find.data.toList.drop 115 = dktJ29_find_5 := dk_seg dksJ29_find_4 24 rfl rfl
theorem dksJ29_find_6 : cJ29_find.data.toList.drop 139 = dktJ29_find_6 := dk_seg dksJ29_find_5 24 rfl rfl
theorem dksJ29_find_7 : cJ29_find.data.toList.drop 163 = dktJ29_find_7 := dk_seg dksJ29_find_6 24 rfl rfl
theorem dJ29_find_0 : decode cJ29_find 0 = .ok (.aload_n 0, 1) := dk_42 (dk_at dksJ29_find_0 0 rfl rfl)
theorem dJ29_find_1 : decode cJ29_find 1 = .ok (.astore 4, 2) := dk_58 4 (dk_at dksJ29_find_0 1 rfl rfl)
theorem dJ29_find_3 : decode cJ29_find 3 = .ok (.aload 4, 2) := dk_25 4 (dk_at dksJ29_find_0 3 rfl rfl)
theorem dJ29_find_5 : decode cJ29_find 5 = .ok (.getfield 39, 3) := dk_180 0 39 (dk_at dksJ29_find_0 5 rfl rfl)
theorem dJ29_find_8 : decode cJ29_find 8 = .ok (.astore 8, 2) := dk_58 8 (dk_at dksJ29_find_0 8 rfl rfl)
theorem dJ29_find_10 : decode cJ29_find 10 = .ok (.aload 4, 2) := dk_25 4 (dk_at dksJ29_find_0 10 rfl rfl)
theorem dJ29_find_12 : decode cJ29_find 12 = .ok (.getfield 42, 3) := dk_180 0 42 (dk_at dksJ29_find_0 12 rfl rfl)
theorem dJ29_find_15 : decode cJ29_find 15 = .ok (.astore 9, 2) := dk_58 9 (dk_at dksJ29_find_0 15 rfl rfl)
theorem dJ29_find_17 : decode cJ29_find 17 = .ok (.aload 4, 2) := dk_25 4 (dk_at dksJ29_find_0 17 rfl rfl)
theorem dJ29_find_19 : decode cJ29_find 19 = .ok (.getfield 15, 3) := dk_180 0 15 (dk_at dksJ29_find_0 19 rfl rfl)
theorem dJ29_find_22 : decode cJ29_find 22 = .ok (.dup, 1) := dk_89 (dk_at dksJ29_find_0 22 rfl rfl)
theorem dJ29_find_23 : decode cJ29_find 23 = .ok (.istore 5, 2) := dk_54 5 (dk_at dksJ29_find_1 0 rfl rfl)
theorem dJ29_find_25 : decode cJ29_find 25 = .ok (.iload_n 1, 1) := dk_27 (dk_at dksJ29_find_1 2 rfl rfl)
theorem dJ29_find_26 : decode cJ29_find 26 = .ok (.if_icmp .le 10, 3) := dk_164 0 10 (dk_at dksJ29_find_1 3 rfl rfl)
theorem dJ29_find_29 : decode cJ29_find 29 = .ok (.aload 8, 2) := dk_25 8 (dk_at dksJ29_find_1 6 rfl rfl)
theorem dJ29_find_31 : decode cJ29_find 31 = .ok (.astore 4, 2) := dk_58 4 (dk_at dksJ29_find_1 8 rfl rfl)
theorem dJ29_find_33 : decode cJ29_find 33 = .ok (.goto 132, 3) := dk_167 0 132 (dk_at dksJ29_find_1 10 rfl rfl)
theorem dJ29_find_36 : decode cJ29_find 36 = .ok (.iload 5, 2) := dk_21 5 (dk_at dksJ29_find_1 13 rfl rfl)
theorem dJ29_find_38 : decode cJ29_find 38 = .ok (.iload_n 1, 1) := dk_27 (dk_at dksJ29_find_1 15 rfl rfl)
theorem dJ29_find_39 : decode cJ29_find 39 = .ok (.if_icmp .ge 10, 3) := dk_162 0 10 (dk_at dksJ29_find_1 16 rfl rfl)
theorem dJ29_find_42 : decode cJ29_find 42 = .ok (.aload 9, 2) := dk_25 9 (dk_at dksJ29_find_1 19 rfl rfl)
theorem dJ29_find_44 : decode cJ29_find 44 = .ok (.astore 4, 2) := dk_58 4 (dk_at dksJ29_find_1 21 rfl rfl)
theorem dJ29_find_46 : decode cJ29_find 46 = .ok (.goto 119, 3) := dk_167 0 119 (dk_at dksJ29_find_2 0 rfl rfl)
theorem dJ29_find_49 : decode cJ29_find 49 = .ok (.aload 4, 2) := dk_25 4 (dk_at dksJ29_find_2 3 rfl rfl)
theorem dJ29_find_51 : decode cJ29_find 51 = .ok (.getfield 45, 3) := dk_180 0 45 (dk_at dksJ29_find_2 5 rfl rfl)
theorem dJ29_find_54 : decode cJ29_find 54 = .ok (.dup, 1) := dk_89 (dk_at dksJ29_find_2 8 rfl rfl)
theorem dJ29_find_55 : decode cJ29_find 55 = .ok (.astore 7, 2) := dk_58 7 (dk_at dksJ29_find_2 9 rfl rfl)
theorem dJ29_find_57 : decode cJ29_find 57 = .ok (.aload_n 2, 1) := dk_44 (dk_at dksJ29_find_2 11 rfl rfl)
theorem dJ29_find_58 : decode cJ29_find 58 = .ok (.if_acmp .eq 16, 3) := dk_165 0 16 (dk_at dksJ29_find_2 12 rfl rfl)
theorem dJ29_find_61 : decode cJ29_find 61 = .ok (.aload_n 2, 1) := dk_44 (dk_at dksJ29_find_2 15 rfl rfl)
theorem dJ29_find_62 : decode cJ29_find 62 = .ok (.ifnull 15, 3) := dk_198 0 15 (dk_at dksJ29_find_2 16 rfl rfl)
theorem dJ29_find_65 : decode cJ29_find 65 = .ok (.aload_n 2, 1) := dk_44 (dk_at dksJ29_find_2 19 rfl rfl)
theorem dJ29_find_66 : decode cJ29_find 66 = .ok (.aload 7, 2) := dk_25 7 (dk_at dksJ29_find_2 20 rfl rfl)
theorem dJ29_find_68 : decode cJ29_find 68 = .ok (.invokevirtual 49, 3) := dk_182 0 49 (dk_at dksJ29_find_3 0 rfl rfl)
theorem dJ29_find_71 : decode cJ29_find 71 = .ok (.ifCond .eq 6, 3) := dk_153 0 6 (dk_at dksJ29_find_3 3 rfl rfl)
theorem dJ29_find_74 : decode cJ29_find 74 = .ok (.aload 4, 2) := dk_25 4 (dk_at dksJ29_find_3 6 rfl rfl)
theorem dJ29_find_76 : decode cJ29_find 76 = .ok (.areturn, 1) := dk_176 (dk_at dksJ29_find_3 8 rfl rfl)
theorem dJ29_find_77 : decode cJ29_find 77 = .ok (.aload 8, 2) := dk_25 8 (dk_at dksJ29_find_3 9 rfl rfl)
theorem dJ29_find_79 : decode cJ29_find 79 = .ok (.ifnonnull 10, 3) := dk_199 0 10 (dk_at dksJ29_find_3 11 rfl rfl)
theorem dJ29_find_82 : decode cJ29_find 82 = .ok (.aload 9, 2) := dk_25 9 (dk_at dksJ29_find_3 14 rfl rfl)
theorem dJ29_find_84 : decode cJ29_find 84 = .ok (.astore 4, 2) := dk_58 4 (dk_at dksJ29_find_3 16 rfl rfl)
theorem dJ29_find_86 : decode cJ29_find 86 = .ok (.goto 79, 3) := dk_167 0 79 (dk_at dksJ29_find_3 18 rfl rfl)
theorem dJ29_find_89 : decode cJ29_find 89 = .ok (.aload 9, 2) := dk_25 9 (dk_at dksJ29_find_3 21 rfl rfl)
theorem dJ29_find_91 : decode cJ29_find 91 = .ok (.ifnonnull 10, 3) := dk_199 0 10 (dk_at dksJ29_find_4 0 rfl rfl)
theorem dJ29_find_94 : decode cJ29_find 94 = .ok (.aload 8, 2) := dk_25 8 (dk_at dksJ29_find_4 3 rfl rfl)
theorem dJ29_find_96 : decode cJ29_find 96 = .ok (.astore 4, 2) := dk_58 4 (dk_at dksJ29_find_4 5 rfl rfl)
theorem dJ29_find_98 : decode cJ29_find 98 = .ok (.goto 67, 3) := dk_167 0 67 (dk_at dksJ29_find_4 7 rfl rfl)
theorem dJ29_find_101 : decode cJ29_find 101 = .ok (.aload_n 3, 1) := dk_45 (dk_at dksJ29_find_4 10 rfl rfl)
theorem dJ29_find_102 : decode cJ29_find 102 = .ok (.ifnonnull 12, 3) := dk_199 0 12 (dk_at dksJ29_find_4 11 rfl rfl)
theorem dJ29_find_105 : decode cJ29_find 105 = .ok (.aload_n 2, 1) := dk_44 (dk_at dksJ29_find_4 14 rfl rfl)
theorem dJ29_find_106 : decode cJ29_find 106 = .ok (.invokestatic 55, 3) := dk_184 0 55 (dk_at dksJ29_find_4 15 rfl rfl)
theorem dJ29_find_109 : decode cJ29_find 109 = .ok (.dup, 1) := dk_89 (dk_at dksJ29_find_4 18 rfl rfl)
theorem dJ29_find_110 : decode cJ29_find 110 = .ok (.astore_n 3, 1) := dk_78 (dk_at dksJ29_find_4 19 rfl rfl)
theorem dJ29_find_111 : decode cJ29_find 111 = .ok (.ifnull 33, 3) := dk_198 0 33 (dk_at dksJ29_find_4 20 rfl rfl)
theorem dJ29_find_114 : decode cJ29_find 114 = .ok (.aload_n 3, 1) := dk_45 (dk_at dksJ29_find_4 23 rfl rfl)
theorem dJ29_find_115 : decode cJ29_find 115 = .ok (.aload_n 2, 1) := dk_44 (dk_at dksJ29_find_5 0 rfl rfl)
theorem dJ29_find_116 : decode cJ29_find 116 = .ok (.aload 7, 2) := dk_25 7 (dk_at dksJ29_find_5 1 rfl rfl)
theorem dJ29_find_118 : decode cJ29_find 118 = .ok (.invokestatic 59, 3) := dk_184 0 59 (dk_at dksJ29_find_5 3 rfl rfl)
theorem dJ29_find_121 : decode cJ29_find 121 = .ok (.dup, 1) := dk_89 (dk_at dksJ29_find_5 6 rfl rfl)
theorem dJ29_find_122 : decode cJ29_find 122 = .ok (.istore 6, 2) := dk_54 6 (dk_at dksJ29_find_5 7 rfl rfl)
theorem dJ29_find_124 : decode cJ29_find 124 = .ok (.ifCond .eq 20, 3) := dk_153 0 20 (dk_at dksJ29_find_5 9 rfl rfl)
theorem dJ29_find_127 : decode cJ29_find 127 = .ok (.iload 6, 2) := dk_21 6 (dk_at dksJ29_find_5 12 rfl rfl)
theorem dJ29_find_129 : decode cJ29_find 129 = .ok (.ifCond .ge 8, 3) := dk_156 0 8 (dk_at dksJ29_find_5 14 rfl rfl)
theorem dJ29_find_132 : decode cJ29_find 132 = .ok (.aload 8, 2) := dk_25 8 (dk_at dksJ29_find_5 17 rfl rfl)
theorem dJ29_find_134 : decode cJ29_find 134 = .ok (.goto 5, 3) := dk_167 0 5 (dk_at dksJ29_find_5 19 rfl rfl)
theorem dJ29_find_137 : decode cJ29_find 137 = .ok (.aload 9, 2) := dk_25 9 (dk_at dksJ29_find_5 22 rfl rfl)
theorem dJ29_find_139 : decode cJ29_find 139 = .ok (.astore 4, 2) := dk_58 4 (dk_at dksJ29_find_6 0 rfl rfl)
theorem dJ29_find_141 : decode cJ29_find 141 = .ok (.goto 24, 3) := dk_167 0 24 (dk_at dksJ29_find_6 2 rfl rfl)
theorem dJ29_find_144 : decode cJ29_find 144 = .ok (.aload 9, 2) := dk_25 9 (dk_at dksJ29_find_6 5 rfl rfl)
theorem dJ29_find_146 : decode cJ29_find 146 = .ok (.iload_n 1, 1) := dk_27 (dk_at dksJ29_find_6 7 rfl rfl)
theorem dJ29_find_147 : decode cJ29_find 147 = .ok (.aload_n 2, 1) := dk_44 (dk_at dksJ29_find_6 8 rfl rfl)
theorem dJ29_find_148 : decode cJ29_find 148 = .ok (.aload_n 3, 1) := dk_45 (dk_at dksJ29_find_6 9 rfl rfl)
theorem dJ29_find_149 : decode cJ29_find 149 = .ok (.invokevirtual 63, 3) := dk_182 0 63 (dk_at dksJ29_find_6 10 rfl rfl)
theorem dJ29_find_152 : decode cJ29_find 152 = .ok (.dup, 1) := dk_89 (dk_at dksJ29_find_6 13 rfl rfl)
theorem dJ29_find_153 : decode cJ29_find 153 = .ok (.astore 10, 2) := dk_58 10 (dk_at dksJ29_find_6 14 rfl rfl)
theorem dJ29_find_155 : decode cJ29_find 155 = .ok (.ifnull 6, 3) := dk_198 0 6 (dk_at dksJ29_find_6 16 rfl rfl)
theorem dJ29_find_158 : decode cJ29_find 158 = .ok (.aload 10, 2) := dk_25 10 (dk_at dksJ29_find_6 19 rfl rfl)
theorem dJ29_find_160 : decode cJ29_find 160 = .ok (.areturn, 1) := dk_176 (dk_at dksJ29_find_6 21 rfl rfl)
theorem dJ29_find_161 : decode cJ29_find 161 = .ok (.aload 8, 2) := dk_25 8 (dk_at dksJ29_find_6 22 rfl rfl)
theorem dJ29_find_163 : decode cJ29_find 163 = .ok (.astore 4, 2) := dk_58 4 (dk_at dksJ29_find_7 0 rfl rfl)
theorem dJ29_find_165 : decode cJ29_find 165 = .ok (.aload 4, 2) := dk_25 4 (dk_at dksJ29_find_7 2 rfl rfl)
theorem dJ29_find_167 : decode cJ29_find 167 = .ok (.ifnonnull (-164), 3) := dk_199 255 92 (dk_at dksJ29_find_7 4 rfl rfl)
theorem dJ29_find_170 : decode cJ29_find 170 = .ok (.aconst_null, 1) := dk_1 (dk_at dksJ29_find_7 7 rfl rfl)
theorem dJ29_find_171 : decode cJ29_find 171 = .ok (.areturn, 1) := dk_176 (dk_at dksJ29_find_7 8 rfl rfl)
abbrev cJ29_split : ByteArray := prog_49_method_11_code
def yJ29_split : MethodName := ⟨RJ29, "split", "(Ljava/util/HashMap;[Ljava/util/HashMap$Node;II)V"⟩
def dkwJ29_split_9 : List UInt8 := [198, 0, 9, 25, 8, 44, 182, 0, 126, 177]
abbrev dktJ29_split_9 : List UInt8 := dkwJ29_split_9 ++ []
def dkwJ29_split_8 : List UInt8 := [21, 4, 96, 25, 8, 43, 182, 0, 119, 83, 167, 0, 22, 44, 29, 21, 4, 96, 25, 8, 83, 25, 6]
abbrev dktJ29_split_8 : List UInt8 := dkwJ29_split_8 ++ dktJ29_split_9
def dkwJ29_split_7 : List UInt8 := [198, 0, 9, 25, 6, 44, 182, 0, 126, 25, 8, 198, 0, 44, 21, 11, 16, 6, 163, 0, 18, 44, 29]
abbrev dktJ29_split_7 : List UInt8 := dkwJ29_split_7 ++ dktJ29_split_8
def dkwJ29_split_6 : List UInt8 := [163, 0, 15, 44, 29, 25, 6, 43, 182, 0, 119, 83, 167, 0, 19, 44, 29, 25, 6, 83, 25, 8]
abbrev dktJ29_split_6 : List UInt8 := dkwJ29_split_6 ++ dktJ29_split_7
def dkwJ29_split_5 : List UInt8 := [25, 12, 58, 9, 132, 11, 1, 25, 13, 58, 12, 167, 255, 153, 25, 6, 198, 0, 38, 21, 10, 16, 6]
abbrev dktJ29_split_5 : List UInt8 := dkwJ29_split_5 ++ dktJ29_split_6
def dkwJ29_split_4 : List UInt8 := [25, 9, 90, 181, 0, 19, 199, 0, 10, 25, 12, 58, 8, 167, 0, 10, 25, 9, 25, 12, 181, 0, 22]
abbrev dktJ29_split_4 : List UInt8 := dkwJ29_split_4 ++ dktJ29_split_5
def dkwJ29_split_3 : List UInt8 := [58, 6, 167, 0, 10, 25, 7, 25, 12, 181, 0, 22, 25, 12, 58, 7, 132, 10, 1, 167, 0, 35, 25, 12]
abbrev dktJ29_split_3 : List UInt8 := dkwJ29_split_3 ++ dktJ29_split_4
def dkwJ29_split_2 : List UInt8 := [25, 12, 180, 0, 15, 21, 4, 126, 154, 0, 38, 25, 12, 25, 7, 90, 181, 0, 19, 199, 0, 10, 25, 12]
abbrev dktJ29_split_2 : List UInt8 := dkwJ29_split_2 ++ dktJ29_split_3
def dkwJ29_split_1 : List UInt8 := [58, 12, 25, 12, 198, 0, 104, 25, 12, 180, 0, 22, 192, 0, 10, 58, 13, 25, 12, 1, 181, 0, 22]
abbrev dktJ29_split_1 : List UInt8 := dkwJ29_split_1 ++ dktJ29_split_2
def dkwJ29_split_0 : List UInt8 := [42, 58, 5, 1, 58, 6, 1, 58, 7, 1, 58, 8, 1, 58, 9, 3, 54, 10, 3, 54, 11, 25, 5]
abbrev dktJ29_split_0 : List UInt8 := dkwJ29_split_0 ++ dktJ29_split_1
theorem dksJ29_split_0 : cJ29_split.data.toList.drop 0 = dktJ29_split_0 := by decide +kernel
theorem dksJ29_split_1 : cJ29_split.data.toList.drop 23 = dktJ29_split_1 := dk_seg dksJ29_split_0 23 rfl rfl
theorem dksJ29_split_2 : cJ29_split.data.toList.drop 46 = dktJ29_split_2 := dk_seg dksJ29_split_1 23 rfl rfl
theorem dksJ29_split_3 : cJ29_split.data.toList.drop 70 = dktJ29_split_3 := dk_seg dksJ29_split_2 24 rfl rfl
theorem dksJ29_split_4 : cJ29_split.data.toList.drop 94 = dktJ29_split_4 := dk_seg dksJ29_split_3 24 rfl rfl
theorem dksJ29_split_5 : cJ29_split.data.toList.drop 117 = dktJ29_split_5 := dk_seg dksJ29_split_4 23 rfl rfl
theorem dksJ29_split_6 : cJ29_split.data.toList.drop 140 = dktJ29_split_6 := dk_seg dksJ29_split_5 23 rfl rfl
theorem dksJ29_split_7 : cJ29_split.data.toList.drop 162 = dktJ29_split_7 := dk_seg dksJ29_split_6 22 rfl rfl
theorem dksJ29_split_8 : cJ29_split.data.toList.drop 185 = dktJ29_split_8 := dk_seg dksJ29_split_7 23 rfl rfl
theorem dksJ29_split_9 : cJ29_split.data.toList.drop 208 = dktJ29_split_9 := dk_seg dksJ29_split_8 23 rfl rfl
theorem dJ29_split_0 : decode cJ29_split 0 = .ok (.aload_n 0, 1) := dk_42 (dk_at dksJ29_split_0 0 rfl rfl)
theorem dJ29_split_1 : decode cJ29_split 1 = .ok (.astore 5, 2) := dk_58 5 (dk_at dksJ29_split_0 1 rfl rfl)
theorem dJ29_split_3 : decode cJ29_split 3 = .ok (.aconst_null, 1) := dk_1 (dk_at dksJ29_split_0 3 rfl rfl)
theorem dJ29_split_4 : decode cJ29_split 4 = .ok (.astore 6, 2) := dk_58 6 (dk_at dksJ29_split_0 4 rfl rfl)
theorem dJ29_split_6 : decode cJ29_split 6 = .ok (.aconst_null, 1) := dk_1 (dk_at dksJ29_split_0 6 rfl rfl)
theorem dJ29_split_7 : decode cJ29_split 7 = .ok (.astore 7, 2) := dk_58 7 (dk_at dksJ29_split_0 7 rfl rfl)
theorem dJ29_split_9 : decode cJ29_split 9 = .ok (.aconst_null, 1) := dk_1 (dk_at dksJ29_split_0 9 rfl rfl)
theorem dJ29_split_10 : decode cJ29_split 10 = .ok (.astore 8, 2) := dk_58 8 (dk_at dksJ29_split_0 10 rfl rfl)
theorem dJ29_split_12 : decode cJ29_split 12 = .ok (.aconst_null, 1) := dk_1 (dk_at dksJ29_split_0 12 rfl rfl)
theorem dJ29_split_13 : decode cJ29_split 13 = .ok (.astore 9, 2) := dk_58 9 (dk_at dksJ29_split_0 13 rfl rfl)
theorem dJ29_split_15 : decode cJ29_split 15 = .ok (.iconst 0, 1) := dk_3 (dk_at dksJ29_split_0 15 rfl rfl)
theorem dJ29_split_16 : decode cJ29_split 16 = .ok (.istore 10, 2) := dk_54 10 (dk_at dksJ29_split_0 16 rfl rfl)
theorem dJ29_split_18 : decode cJ29_split 18 = .ok (.iconst 0, 1) := dk_3 (dk_at dksJ29_split_0 18 rfl rfl)
theorem dJ29_split_19 : decode cJ29_split 19 = .ok (.istore 11, 2) := dk_54 11 (dk_at dksJ29_split_0 19 rfl rfl)
theorem dJ29_split_21 : decode cJ29_split 21 = .ok (.aload 5, 2) := dk_25 5 (dk_at dksJ29_split_0 21 rfl rfl)
theorem dJ29_split_23 : decode cJ29_split 23 = .ok (.astore 12, 2) := dk_58 12 (dk_at dksJ29_split_1 0 rfl rfl)
theorem dJ29_split_25 : decode cJ29_split 25 = .ok (.aload 12, 2) := dk_25 12 (dk_at dksJ29_split_1 2 rfl rfl)
theorem dJ29_split_27 : decode cJ29_split 27 = .ok (.ifnull 104, 3) := dk_198 0 104 (dk_at dksJ29_split_1 4 rfl rfl)
theorem dJ29_split_30 : decode cJ29_split 30 = .ok (.aload 12, 2) := dk_25 12 (dk_at dksJ29_split_1 7 rfl rfl)
theorem dJ29_split_32 : decode cJ29_split 32 = .ok (.getfield 22, 3) := dk_180 0 22 (dk_at dksJ29_split_1 9 rfl rfl)
theorem dJ29_split_35 : decode cJ29_split 35 = .ok (.checkcast 10, 3) := dk_192 0 10 (dk_at dksJ29_split_1 12 rfl rfl)
theorem dJ29_split_38 : decode cJ29_split 38 = .ok (.astore 13, 2) := dk_58 13 (dk_at dksJ29_split_1 15 rfl rfl)
theorem dJ29_split_40 : decode cJ29_split 40 = .ok (.aload 12, 2) := dk_25 12 (dk_at dksJ29_split_1 17 rfl rfl)
theorem dJ29_split_42 : decode cJ29_split 42 = .ok (.aconst_null, 1) := dk_1 (dk_at dksJ29_split_1 19 rfl rfl)
theorem dJ29_split_43 : decode cJ29_split 43 = .ok (.putfield 22, 3) := dk_181 0 22 (dk_at dksJ29_split_1 20 rfl rfl)
theorem dJ29_split_46 : decode cJ29_split 46 = .ok (.aload 12, 2) := dk_25 12 (dk_at dksJ29_split_2 0 rfl rfl)
theorem dJ29_split_48 : decode cJ29_split 48 = .ok (.getfield 15, 3) := dk_180 0 15 (dk_at dksJ29_split_2 2 rfl rfl)
theorem dJ29_split_51 : decode cJ29_split 51 = .ok (.iload 4, 2) := dk_21 4 (dk_at dksJ29_split_2 5 rfl rfl)
theorem dJ29_split_53 : decode cJ29_split 53 = .ok (.iand, 1) := dk_126 (dk_at dksJ29_split_2 7 rfl rfl)
theorem dJ29_split_54 : decode cJ29_split 54 = .ok (.ifCond .ne 38, 3) := dk_154 0 38 (dk_at dksJ29_split_2 8 rfl rfl)
theorem dJ29_split_57 : decode cJ29_split 57 = .ok (.aload 12, 2) := dk_25 12 (dk_at dksJ29_split_2 11 rfl rfl)
theorem dJ29_split_59 : decode cJ29_split 59 = .ok (.aload 7, 2) := dk_25 7 (dk_at dksJ29_split_2 13 rfl rfl)
theorem dJ29_split_61 : decode cJ29_split 61 = .ok (.dup_x1, 1) := dk_90 (dk_at dksJ29_split_2 15 rfl rfl)
theorem dJ29_split_62 : decode cJ29_split 62 = .ok (.putfield 19, 3) := dk_181 0 19 (dk_at dksJ29_split_2 16 rfl rfl)
theorem dJ29_split_65 : decode cJ29_split 65 = .ok (.ifnonnull 10, 3) := dk_199 0 10 (dk_at dksJ29_split_2 19 rfl rfl)
theorem dJ29_split_68 : decode cJ29_split 68 = .ok (.aload 12, 2) := dk_25 12 (dk_at dksJ29_split_2 22 rfl rfl)
theorem dJ29_split_70 : decode cJ29_split 70 = .ok (.astore 6, 2) := dk_58 6 (dk_at dksJ29_split_3 0 rfl rfl)
theorem dJ29_split_72 : decode cJ29_split 72 = .ok (.goto 10, 3) := dk_167 0 10 (dk_at dksJ29_split_3 2 rfl rfl)
theorem dJ29_split_75 : decode cJ29_split 75 = .ok (.aload 7, 2) := dk_25 7 (dk_at dksJ29_split_3 5 rfl rfl)
theorem dJ29_split_77 : decode cJ29_split 77 = .ok (.aload 12, 2) := dk_25 12 (dk_at dksJ29_split_3 7 rfl rfl)
theorem dJ29_split_79 : decode cJ29_split 79 = .ok (.putfield 22, 3) := dk_181 0 22 (dk_at dksJ29_split_3 9 rfl rfl)
theorem dJ29_split_82 : decode cJ29_split 82 = .ok (.aload 12, 2) := dk_25 12 (dk_at dksJ29_split_3 12 rfl rfl)
theorem dJ29_split_84 : decode cJ29_split 84 = .ok (.astore 7, 2) := dk_58 7 (dk_at dksJ29_split_3 14 rfl rfl)
theorem dJ29_split_86 : decode cJ29_split 86 = .ok (.iinc 10 1, 3) := dk_132 10 1 (dk_at dksJ29_split_3 16 rfl rfl)
theorem dJ29_split_89 : decode cJ29_split 89 = .ok (.goto 35, 3) := dk_167 0 35 (dk_at dksJ29_split_3 19 rfl rfl)
theorem dJ29_split_92 : decode cJ29_split 92 = .ok (.aload 12, 2) := dk_25 12 (dk_at dksJ29_split_3 22 rfl rfl)
theorem dJ29_split_94 : decode cJ29_split 94 = .ok (.aload 9, 2) := dk_25 9 (dk_at dksJ29_split_4 0 rfl rfl)
theorem dJ29_split_96 : decode cJ29_split 96 = .ok (.dup_x1, 1) := dk_90 (dk_at dksJ29_split_4 2 rfl rfl)
theorem dJ29_split_97 : decode cJ29_split 97 = .ok (.putfield 19, 3) := dk_181 0 19 (dk_at dksJ29_split_4 3 rfl rfl)
theorem dJ29_split_100 : decode cJ29_split 100 = .ok (.ifnonnull 10, 3) := dk_199 0 10 (dk_at dksJ29_split_4 6 rfl rfl)
theorem dJ29_split_103 : decode cJ29_split 103 = .ok (.aload 12, 2) := dk_25 12 (dk_at dksJ29_split_4 9 rfl rfl)
theorem dJ29_split_105 : decode cJ29_split 105 = .ok (.astore 8, 2) := dk_58 8 (dk_at dksJ29_split_4 11 rfl rfl)
theorem dJ29_split_107 : decode cJ29_split 107 = .ok (.goto 10, 3) := dk_167 0 10 (dk_at dksJ29_split_4 13 rfl rfl)
theorem dJ29_split_110 : decode cJ29_split 110 = .ok (.aload 9, 2) := dk_25 9 (dk_at dksJ29_split_4 16 rfl rfl)
theorem dJ29_split_112 : decode cJ29_split 112 = .ok (.aload 12, 2) := dk_25 12 (dk_at dksJ29_split_4 18 rfl rfl)
theorem dJ29_split_114 : decode cJ29_split 114 = .ok (.putfield 22, 3) := dk_181 0 22 (dk_at dksJ29_split_4 20 rfl rfl)
theorem dJ29_split_117 : decode cJ29_split 117 = .ok (.aload 12, 2) := dk_25 12 (dk_at dksJ29_split_5 0 rfl rfl)
theorem dJ29_split_119 : decode cJ29_split 119 = .ok (.astore 9, 2) := dk_58 9 (dk_at dksJ29_split_5 2 rfl rfl)
theorem dJ29_split_121 : decode cJ29_split 121 = .ok (.iinc 11 1, 3) := dk_132 11 1 (dk_at dksJ29_split_5 4 rfl rfl)
theorem dJ29_split_124 : decode cJ29_split 124 = .ok (.aload 13, 2) := dk_25 13 (dk_at dksJ29_split_5 7 rfl rfl)
theorem dJ29_split_126 : decode cJ29_split 126 = .ok (.astore 12, 2) := dk_58 12 (dk_at dksJ29_split_5 9 rfl rfl)
theorem dJ29_split_128 : decode cJ29_split 128 = .ok (.goto (-103), 3) := dk_167 255 153 (dk_at dksJ29_split_5 11 rfl rfl)
theorem dJ29_split_131 : decode cJ29_split 131 = .ok (.aload 6, 2) := dk_25 6 (dk_at dksJ29_split_5 14 rfl rfl)
theorem dJ29_split_133 : decode cJ29_split 133 = .ok (.ifnull 38, 3) := dk_198 0 38 (dk_at dksJ29_split_5 16 rfl rfl)
theorem dJ29_split_136 : decode cJ29_split 136 = .ok (.iload 10, 2) := dk_21 10 (dk_at dksJ29_split_5 19 rfl rfl)
theorem dJ29_split_138 : decode cJ29_split 138 = .ok (.bipush 6, 2) := dk_16 6 (dk_at dksJ29_split_5 21 rfl rfl)
theorem dJ29_split_140 : decode cJ29_split 140 = .ok (.if_icmp .gt 15, 3) := dk_163 0 15 (dk_at dksJ29_split_6 0 rfl rfl)
theorem dJ29_split_143 : decode cJ29_split 143 = .ok (.aload_n 2, 1) := dk_44 (dk_at dksJ29_split_6 3 rfl rfl)
theorem dJ29_split_144 : decode cJ29_split 144 = .ok (.iload_n 3, 1) := dk_29 (dk_at dksJ29_split_6 4 rfl rfl)
theorem dJ29_split_145 : decode cJ29_split 145 = .ok (.aload 6, 2) := dk_25 6 (dk_at dksJ29_split_6 5 rfl rfl)
theorem dJ29_split_147 : decode cJ29_split 147 = .ok (.aload_n 1, 1) := dk_43 (dk_at dksJ29_split_6 7 rfl rfl)
theorem dJ29_split_148 : decode cJ29_split 148 = .ok (.invokevirtual 119, 3) := dk_182 0 119 (dk_at dksJ29_split_6 8 rfl rfl)
theorem dJ29_split_151 : decode cJ29_split 151 = .ok (.aastore, 1) := dk_83 (dk_at dksJ29_split_6 11 rfl rfl)
theorem dJ29_split_152 : decode cJ29_split 152 = .ok (.goto 19, 3) := dk_167 0 19 (dk_at dksJ29_split_6 12 rfl rfl)
theorem dJ29_split_155 : decode cJ29_split 155 = .ok (.aload_n 2, 1) := dk_44 (dk_at dksJ29_split_6 15 rfl rfl)
theorem dJ29_split_156 : decode cJ29_split 156 = .ok (.iload_n 3, 1) := dk_29 (dk_at dksJ29_split_6 16 rfl rfl)
theorem dJ29_split_157 : decode cJ29_split 157 = .ok (.aload 6, 2) := dk_25 6 (dk_at dksJ29_split_6 17 rfl rfl)
theorem dJ29_split_159 : decode cJ29_split 159 = .ok (.aastore, 1) := dk_83 (dk_at dksJ29_split_6 19 rfl rfl)
theorem dJ29_split_160 : decode cJ29_split 160 = .ok (.aload 8, 2) := dk_25 8 (dk_at dksJ29_split_6 20 rfl rfl)
theorem dJ29_split_162 : decode cJ29_split 162 = .ok (.ifnull 9, 3) := dk_198 0 9 (dk_at dksJ29_split_7 0 rfl rfl)
theorem dJ29_split_165 : decode cJ29_split 165 = .ok (.aload 6, 2) := dk_25 6 (dk_at dksJ29_split_7 3 rfl rfl)
theorem dJ29_split_167 : decode cJ29_split 167 = .ok (.aload_n 2, 1) := dk_44 (dk_at dksJ29_split_7 5 rfl rfl)
theorem dJ29_split_168 : decode cJ29_split 168 = .ok (.invokevirtual 126, 3) := dk_182 0 126 (dk_at dksJ29_split_7 6 rfl rfl)
theorem dJ29_split_171 : decode cJ29_split 171 = .ok (.aload 8, 2) := dk_25 8 (dk_at dksJ29_split_7 9 rfl rfl)
theorem dJ29_split_173 : decode cJ29_split 173 = .ok (.ifnull 44, 3) := dk_198 0 44 (dk_at dksJ29_split_7 11 rfl rfl)
theorem dJ29_split_176 : decode cJ29_split 176 = .ok (.iload 11, 2) := dk_21 11 (dk_at dksJ29_split_7 14 rfl rfl)
theorem dJ29_split_178 : decode cJ29_split 178 = .ok (.bipush 6, 2) := dk_16 6 (dk_at dksJ29_split_7 16 rfl rfl)
theorem dJ29_split_180 : decode cJ29_split 180 = .ok (.if_icmp .gt 18, 3) := dk_163 0 18 (dk_at dksJ29_split_7 18 rfl rfl)
theorem dJ29_split_183 : decode cJ29_split 183 = .ok (.aload_n 2, 1) := dk_44 (dk_at dksJ29_split_7 21 rfl rfl)
theorem dJ29_split_184 : decode cJ29_split 184 = .ok (.iload_n 3, 1) := dk_29 (dk_at dksJ29_split_7 22 rfl rfl)
theorem dJ29_split_185 : decode cJ29_split 185 = .ok (.iload 4, 2) := dk_21 4 (dk_at dksJ29_split_8 0 rfl rfl)
theorem dJ29_split_187 : decode cJ29_split 187 = .ok (.iadd, 1) := dk_96 (dk_at dksJ29_split_8 2 rfl rfl)
theorem dJ29_split_188 : decode cJ29_split 188 = .ok (.aload 8, 2) := dk_25 8 (dk_at dksJ29_split_8 3 rfl rfl)
theorem dJ29_split_190 : decode cJ29_split 190 = .ok (.aload_n 1, 1) := dk_43 (dk_at dksJ29_split_8 5 rfl rfl)
theorem dJ29_split_191 : decode cJ29_split 191 = .ok (.invokevirtual 119, 3) := dk_182 0 119 (dk_at dksJ29_split_8 6 rfl rfl)
theorem dJ29_split_194 : decode cJ29_split 194 = .ok (.aastore, 1) := dk_83 (dk_at dksJ29_split_8 9 rfl rfl)
theorem dJ29_split_195 : decode cJ29_split 195 = .ok (.goto 22, 3) := dk_167 0 22 (dk_at dksJ29_split_8 10 rfl rfl)
theorem dJ29_split_198 : decode cJ29_split 198 = .ok (.aload_n 2, 1) := dk_44 (dk_at dksJ29_split_8 13 rfl rfl)
theorem dJ29_split_199 : decode cJ29_split 199 = .ok (.iload_n 3, 1) := dk_29 (dk_at dksJ29_split_8 14 rfl rfl)
theorem dJ29_split_200 : decode cJ29_split 200 = .ok (.iload 4, 2) := dk_21 4 (dk_at dksJ29_split_8 15 rfl rfl)
theorem dJ29_split_202 : decode cJ29_split 202 = .ok (.iadd, 1) := dk_96 (dk_at dksJ29_split_8 17 rfl rfl)
theorem dJ29_split_203 : decode cJ29_split 203 = .ok (.aload 8, 2) := dk_25 8 (dk_at dksJ29_split_8 18 rfl rfl)
theorem dJ29_split_205 : decode cJ29_split 205 = .ok (.aastore, 1) := dk_83 (dk_at dksJ29_split_8 20 rfl rfl)
theorem dJ29_split_206 : decode cJ29_split 206 = .ok (.aload 6, 2) := dk_25 6 (dk_at dksJ29_split_8 21 rfl rfl)
theorem dJ29_split_208 : decode cJ29_split 208 = .ok (.ifnull 9, 3) := dk_198 0 9 (dk_at dksJ29_split_9 0 rfl rfl)
theorem dJ29_split_211 : decode cJ29_split 211 = .ok (.aload 8, 2) := dk_25 8 (dk_at dksJ29_split_9 3 rfl rfl)
theorem dJ29_split_213 : decode cJ29_split 213 = .ok (.aload_n 2, 1) := dk_44 (dk_at dksJ29_split_9 5 rfl rfl)
theorem dJ29_split_214 : decode cJ29_split 214 = .ok (.invokevirtual 126, 3) := dk_182 0 126 (dk_at dksJ29_split_9 6 rfl rfl)
theorem dJ29_split_217 : decode cJ29_split 217 = .ok (.return_, 1) := dk_177 (dk_at dksJ29_split_9 9 rfl rfl)
abbrev cJ29_untreeify : ByteArray := prog_49_method_8_code
def yJ29_untreeify : MethodName := ⟨RJ29, "untreeify", "(Ljava/util/HashMap;)Ljava/util/HashMap$Node;"⟩
def dkwJ29_untreeify_2 : List UInt8 := [58, 4, 167, 255, 216, 44, 176]
abbrev dktJ29_untreeify_2 : List UInt8 := dkwJ29_untreeify_2 ++ []
def dkwJ29_untreeify_1 : List UInt8 := [199, 0, 9, 25, 5, 77, 167, 0, 9, 45, 25, 5, 181, 0, 112, 25, 5, 78, 25, 4, 180, 0, 112]
abbrev dktJ29_untreeify_1 : List UInt8 := dkwJ29_untreeify_1 ++ dktJ29_untreeify_2
def dkwJ29_untreeify_0 : List UInt8 := [1, 77, 1, 78, 42, 58, 4, 25, 4, 198, 0, 41, 43, 25, 4, 1, 182, 0, 108, 58, 5, 45]
abbrev dktJ29_untreeify_0 : List UInt8 := dkwJ29_untreeify_0 ++ dktJ29_untreeify_1
theorem dksJ29_untreeify_0 : cJ29_untreeify.data.toList.drop 0 = dktJ29_untreeify_0 := by decide +kernel
theorem dksJ29_untreeify_1 : cJ29_untreeify.data.toList.drop 22 = dktJ29_untreeify_1 := dk_seg dksJ29_untreeify_0 22 rfl rfl
theorem dksJ29_untreeify_2 : cJ29_untreeify.data.toList.drop 45 = dktJ29_untreeify_2 := dk_seg dksJ29_untreeify_1 23 rfl rfl
theorem dJ29_untreeify_0 : decode cJ29_untreeify 0 = .ok (.aconst_null, 1) := dk_1 (dk_at dksJ29_untreeify_0 0 rfl rfl)
theorem dJ29_untreeify_1 : decode cJ29_untreeify 1 = .ok (.astore_n 2, 1) := dk_77 (dk_at dksJ29_untreeify_0 1 rfl rfl)
theorem dJ29_untreeify_2 : decode cJ29_untreeify 2 = .ok (.aconst_null, 1) := dk_1 (dk_at dksJ29_untreeify_0 2 rfl rfl)
theorem dJ29_untreeify_3 : decode cJ29_untreeify 3 = .ok (.astore_n 3, 1) := dk_78 (dk_at dksJ29_untreeify_0 3 rfl rfl)
theorem dJ29_untreeify_4 : decode cJ29_untreeify 4 = .ok (.aload_n 0, 1) := dk_42 (dk_at dksJ29_untreeify_0 4 rfl rfl)
theorem dJ29_untreeify_5 : decode cJ29_untreeify 5 = .ok (.astore 4, 2) := dk_58 4 (dk_at dksJ29_untreeify_0 5 rfl rfl)
theorem dJ29_untreeify_7 : decode cJ29_untreeify 7 = .ok (.aload 4, 2) := dk_25 4 (dk_at dksJ29_untreeify_0 7 rfl rfl)
theorem dJ29_untreeify_9 : decode cJ29_untreeify 9 = .ok (.ifnull 41, 3) := dk_198 0 41 (dk_at dksJ29_untreeify_0 9 rfl rfl)
theorem dJ29_untreeify_12 : decode cJ29_untreeify 12 = .ok (.aload_n 1, 1) := dk_43 (dk_at dksJ29_untreeify_0 12 rfl rfl)
theorem dJ29_untreeify_13 : decode cJ29_untreeify 13 = .ok (.aload 4, 2) := dk_25 4 (dk_at dksJ29_untreeify_0 13 rfl rfl)
theorem dJ29_untreeify_15 : decode cJ29_untreeify 15 = .ok (.aconst_null, 1) := dk_1 (dk_at dksJ29_untreeify_0 15 rfl rfl)
theorem dJ29_untreeify_16 : decode cJ29_untreeify 16 = .ok (.invokevirtual 108, 3) := dk_182 0 108 (dk_at dksJ29_untreeify_0 16 rfl rfl)
theorem dJ29_untreeify_19 : decode cJ29_untreeify 19 = .ok (.astore 5, 2) := dk_58 5 (dk_at dksJ29_untreeify_0 19 rfl rfl)
theorem dJ29_untreeify_21 : decode cJ29_untreeify 21 = .ok (.aload_n 3, 1) := dk_45 (dk_at dksJ29_untreeify_0 21 rfl rfl)
theorem dJ29_untreeify_22 : decode cJ29_untreeify 22 = .ok (.ifnonnull 9, 3) := dk_199 0 9 (dk_at dksJ29_untreeify_1 0 rfl rfl)
theorem dJ29_untreeify_25 : decode cJ29_untreeify 25 = .ok (.aload 5, 2) := dk_25 5 (dk_at dksJ29_untreeify_1 3 rfl rfl)
theorem dJ29_untreeify_27 : decode cJ29_untreeify 27 = .ok (.astore_n 2, 1) := dk_77 (dk_at dksJ29_untreeify_1 5 rfl rfl)
theorem dJ29_untreeify_28 : decode cJ29_untreeify 28 = .ok (.goto 9, 3) := dk_167 0 9 (dk_at dksJ29_untreeify_1 6 rfl rfl)
theorem dJ29_untreeify_31 : decode cJ29_untreeify 31 = .ok (.aload_n 3, 1) := dk_45 (dk_at dksJ29_untreeify_1 9 rfl rfl)
theorem dJ29_untreeify_32 : decode cJ29_untreeify 32 = .ok (.aload 5, 2) := dk_25 5 (dk_at dksJ29_untreeify_1 10 rfl rfl)
theorem dJ29_untreeify_34 : decode cJ29_untreeify 34 = .ok (.putfield 112, 3) := dk_181 0 112 (dk_at dksJ29_untreeify_1 12 rfl rfl)
theorem dJ29_untreeify_37 : decode cJ29_untreeify 37 = .ok (.aload 5, 2) := dk_25 5 (dk_at dksJ29_untreeify_1 15 rfl rfl)
theorem dJ29_untreeify_39 : decode cJ29_untreeify 39 = .ok (.astore_n 3, 1) := dk_78 (dk_at dksJ29_untreeify_1 17 rfl rfl)
theorem dJ29_untreeify_40 : decode cJ29_untreeify 40 = .ok (.aload 4, 2) := dk_25 4 (dk_at dksJ29_untreeify_1 18 rfl rfl)
theorem dJ29_untreeify_42 : decode cJ29_untreeify 42 = .ok (.getfield 112, 3) := dk_180 0 112 (dk_at dksJ29_untreeify_1 20 rfl rfl)
theorem dJ29_untreeify_45 : decode cJ29_untreeify 45 = .ok (.astore 4, 2) := dk_58 4 (dk_at dksJ29_untreeify_2 0 rfl rfl)
theorem dJ29_untreeify_47 : decode cJ29_untreeify 47 = .ok (.goto (-40), 3) := dk_167 255 216 (dk_at dksJ29_untreeify_2 2 rfl rfl)
theorem dJ29_untreeify_50 : decode cJ29_untreeify 50 = .ok (.aload_n 2, 1) := dk_44 (dk_at dksJ29_untreeify_2 5 rfl rfl)
theorem dJ29_untreeify_51 : decode cJ29_untreeify 51 = .ok (.areturn, 1) := dk_176 (dk_at dksJ29_untreeify_2 6 rfl rfl)
abbrev cJ29_treeify : ByteArray := prog_49_method_7_code
def yJ29_treeify : MethodName := ⟨RJ29, "treeify", "([Ljava/util/HashMap$Node;)V"⟩
def dkwJ29_treeify_9 : List UInt8 := [25, 4, 78, 167, 255, 48, 43, 44, 184, 0, 104, 177]
abbrev dktJ29_treeify_9 : List UInt8 := dkwJ29_treeify_9 ++ []
def dkwJ29_treeify_8 : List UInt8 := [181, 0, 39, 167, 0, 9, 25, 12, 45, 181, 0, 42, 44, 45, 184, 0, 100, 77, 167, 0, 6, 167, 255, 114]
abbrev dktJ29_treeify_8 : List UInt8 := dkwJ29_treeify_8 ++ dktJ29_treeify_9
def dkwJ29_treeify_7 : List UInt8 := [180, 0, 42, 89, 58, 8, 199, 0, 38, 45, 25, 12, 181, 0, 9, 21, 9, 157, 0, 12, 25, 12, 45]
abbrev dktJ29_treeify_7 : List UInt8 := dkwJ29_treeify_7 ++ dktJ29_treeify_8
def dkwJ29_treeify_6 : List UInt8 := [184, 0, 96, 54, 9, 25, 8, 58, 12, 21, 9, 157, 0, 11, 25, 8, 180, 0, 39, 167, 0, 8, 25, 8]
abbrev dktJ29_treeify_6 : List UInt8 := dkwJ29_treeify_6 ++ dktJ29_treeify_7
def dkwJ29_treeify_5 : List UInt8 := [198, 0, 18, 25, 7, 25, 5, 25, 11, 184, 0, 59, 89, 54, 9, 154, 0, 12, 25, 5, 25, 11]
abbrev dktJ29_treeify_5 : List UInt8 := dkwJ29_treeify_5 ++ dktJ29_treeify_6
def dkwJ29_treeify_4 : List UInt8 := [162, 0, 9, 4, 54, 9, 167, 0, 43, 25, 7, 199, 0, 14, 25, 5, 184, 0, 55, 89, 58, 7]
abbrev dktJ29_treeify_4 : List UInt8 := dkwJ29_treeify_4 ++ dktJ29_treeify_5
def dkwJ29_treeify_3 : List UInt8 := [25, 8, 180, 0, 15, 89, 54, 10, 21, 6, 164, 0, 9, 2, 54, 9, 167, 0, 56, 21, 10, 21, 6]
abbrev dktJ29_treeify_3 : List UInt8 := dkwJ29_treeify_3 ++ dktJ29_treeify_4
def dkwJ29_treeify_2 : List UInt8 := [180, 0, 45, 58, 5, 45, 180, 0, 15, 54, 6, 1, 58, 7, 44, 58, 8, 25, 8, 180, 0, 45, 58, 11]
abbrev dktJ29_treeify_2 : List UInt8 := dkwJ29_treeify_2 ++ dktJ29_treeify_3
def dkwJ29_treeify_1 : List UInt8 := [181, 0, 39, 44, 199, 0, 18, 45, 1, 181, 0, 9, 45, 3, 181, 0, 93, 45, 77, 167, 0, 166, 45]
abbrev dktJ29_treeify_1 : List UInt8 := dkwJ29_treeify_1 ++ dktJ29_treeify_2
def dkwJ29_treeify_0 : List UInt8 := [1, 77, 42, 78, 45, 198, 0, 210, 45, 180, 0, 22, 192, 0, 10, 58, 4, 45, 45, 1, 90, 181, 0, 42]
abbrev dktJ29_treeify_0 : List UInt8 := dkwJ29_treeify_0 ++ dktJ29_treeify_1
theorem dksJ29_treeify_0 : cJ29_treeify.data.toList.drop 0 = dktJ29_treeify_0 := by decide +kernel
theorem dksJ29_treeify_1 : cJ29_treeify.data.toList.drop 24 = dktJ29_treeify_1 := dk_seg dksJ29_treeify_0 24 rfl rfl
theorem dksJ29_treeify_2 : cJ29_treeify.data.toList.drop 47 = dktJ29_treeify_2 := dk_seg dksJ29_treeify_1 23 rfl rfl
theorem dksJ29_treeify_3 : cJ29_treeify.data.toList.drop 71 = dktJ29_treeify_3 := dk_seg dksJ29_treeify_2 24 rfl rfl
theorem dksJ29_treeify_4 : cJ29_treeify.data.toList.drop 94 = dktJ29_treeify_4 := dk_seg dksJ29_treeify_3 23 rfl rfl
theorem dksJ29_treeify_5 : cJ29_treeify.data.toList.drop 116 = dktJ29_treeify_5 := dk_seg dksJ29_treeify_4 22 rfl rfl
theorem dksJ29_treeify_6 : cJ29_treeify.data.toList.drop 138 = dktJ29_treeify_6 := dk_seg dksJ29_treeify_5 22 rfl rfl
theorem dksJ29_treeify_7 : cJ29_treeify.data.toList.drop 162 = dktJ29_treeify_7 := dk_seg dksJ29_treeify_6 24 rfl rfl
theorem dksJ29_treeify_8 : cJ29_treeify.data.toList.drop 185 = dktJ29_treeify_8 := dk_seg dksJ29_treeify_7 23 rfl rfl
theorem dksJ29_treeify_9 : cJ29_treeify.data.toList.drop 209 = dktJ29_treeify_9 := dk_seg dksJ29_treeify_8 24 rfl rfl
theorem dJ29_treeify_0 : decode cJ29_treeify 0 = .ok (.aconst_null, 1) := dk_1 (dk_at dksJ29_treeify_0 0 rfl rfl)
theorem dJ29_treeify_1 : decode cJ29_treeify 1 = .ok (.astore_n 2, 1) := dk_77 (dk_at dksJ29_treeify_0 1 rfl rfl)
theorem dJ29_treeify_2 : decode cJ29_treeify 2 = .ok (.aload_n 0, 1) := dk_42 (dk_at dksJ29_treeify_0 2 rfl rfl)
theorem dJ29_treeify_3 : decode cJ29_treeify 3 = .ok (.astore_n 3, 1) := dk_78 (dk_at dksJ29_treeify_0 3 rfl rfl)
theorem dJ29_treeify_4 : decode cJ29_treeify 4 = .ok (.aload_n 3, 1) := dk_45 (dk_at dksJ29_treeify_0 4 rfl rfl)
theorem dJ29_treeify_5 : decode cJ29_treeify 5 = .ok (.ifnull 210, 3) := dk_198 0 210 (dk_at dksJ29_treeify_0 5 rfl rfl)
theorem dJ29_treeify_8 : decode cJ29_treeify 8 = .ok (.aload_n 3, 1) := dk_45 (dk_at dksJ29_treeify_0 8 rfl rfl)
theorem dJ29_treeify_9 : decode cJ29_treeify 9 = .ok (.getfield 22, 3) := dk_180 0 22 (dk_at dksJ29_treeify_0 9 rfl rfl)
theorem dJ29_treeify_12 : decode cJ29_treeify 12 = .ok (.checkcast 10, 3) := dk_192 0 10 (dk_at dksJ29_treeify_0 12 rfl rfl)
theorem dJ29_treeify_15 : decode cJ29_treeify 15 = .ok (.astore 4, 2) := dk_58 4 (dk_at dksJ29_treeify_0 15 rfl rfl)
theorem dJ29_treeify_17 : decode cJ29_treeify 17 = .ok (.aload_n 3, 1) := dk_45 (dk_at dksJ29_treeify_0 17 rfl rfl)
theorem dJ29_treeify_18 : decode cJ29_treeify 18 = .ok (.aload_n 3, 1) := dk_45 (dk_at dksJ29_treeify_0 18 rfl rfl)
theorem dJ29_treeify_19 : decode cJ29_treeify 19 = .ok (.aconst_null, 1) := dk_1 (dk_at dksJ29_treeify_0 19 rfl rfl)
theorem dJ29_treeify_20 : decode cJ29_treeify 20 = .ok (.dup_x1, 1) := dk_90 (dk_at dksJ29_treeify_0 20 rfl rfl)
theorem dJ29_treeify_21 : decode cJ29_treeify 21 = .ok (.putfield 42, 3) := dk_181 0 42 (dk_at dksJ29_treeify_0 21 rfl rfl)
theorem dJ29_treeify_24 : decode cJ29_treeify 24 = .ok (.putfield 39, 3) := dk_181 0 39 (dk_at dksJ29_treeify_1 0 rfl rfl)
theorem dJ29_treeify_27 : decode cJ29_treeify 27 = .ok (.aload_n 2, 1) := dk_44 (dk_at dksJ29_treeify_1 3 rfl rfl)
theorem dJ29_treeify_28 : decode cJ29_treeify 28 = .ok (.ifnonnull 18, 3) := dk_199 0 18 (dk_at dksJ29_treeify_1 4 rfl rfl)
theorem dJ29_treeify_31 : decode cJ29_treeify 31 = .ok (.aload_n 3, 1) := dk_45 (dk_at dksJ29_treeify_1 7 rfl rfl)
theorem dJ29_treeify_32 : decode cJ29_treeify 32 = .ok (.aconst_null, 1) := dk_1 (dk_at dksJ29_treeify_1 8 rfl rfl)
theorem dJ29_treeify_33 : decode cJ29_treeify 33 = .ok (.putfield 9, 3) := dk_181 0 9 (dk_at dksJ29_treeify_1 9 rfl rfl)
theorem dJ29_treeify_36 : decode cJ29_treeify 36 = .ok (.aload_n 3, 1) := dk_45 (dk_at dksJ29_treeify_1 12 rfl rfl)
theorem dJ29_treeify_37 : decode cJ29_treeify 37 = .ok (.iconst 0, 1) := dk_3 (dk_at dksJ29_treeify_1 13 rfl rfl)
theorem dJ29_treeify_38 : decode cJ29_treeify 38 = .ok (.putfield 93, 3) := dk_181 0 93 (dk_at dksJ29_treeify_1 14 rfl rfl)
theorem dJ29_treeify_41 : decode cJ29_treeify 41 = .ok (.aload_n 3, 1) := dk_45 (dk_at dksJ29_treeify_1 17 rfl rfl)
theorem dJ29_treeify_42 : decode cJ29_treeify 42 = .ok (.astore_n 2, 1) := dk_77 (dk_at dksJ29_treeify_1 18 rfl rfl)
theorem dJ29_treeify_43 : decode cJ29_treeify 43 = .ok (.goto 166, 3) := dk_167 0 166 (dk_at dksJ29_treeify_1 19 rfl rfl)
theorem dJ29_treeify_46 : decode cJ29_treeify 46 = .ok (.aload_n 3, 1) := dk_45 (dk_at dksJ29_treeify_1 22 rfl rfl)
theorem dJ29_treeify_47 : decode cJ29_treeify 47 = .ok (.getfield 45, 3) := dk_180 0 45 (dk_at dksJ29_treeify_2 0 rfl rfl)
theorem dJ29_treeify_50 : decode cJ29_treeify 50 = .ok (.astore 5, 2) := dk_58 5 (dk_at dksJ29_treeify_2 3 rfl rfl)
theorem dJ29_treeify_52 : decode cJ29_treeify 52 = .ok (.aload_n 3, 1) := dk_45 (dk_at dksJ29_treeify_2 5 rfl rfl)
theorem dJ29_treeify_53 : decode cJ29_treeify 53 = .ok (.getfield 15, 3) := dk_180 0 15 (dk_at dksJ29_treeify_2 6 rfl rfl)
theorem dJ29_treeify_56 : decode cJ29_treeify 56 = .ok (.istore 6, 2) := dk_54 6 (dk_at dksJ29_treeify_2 9 rfl rfl)
theorem dJ29_treeify_58 : decode cJ29_treeify 58 = .ok (.aconst_null, 1) := dk_1 (dk_at dksJ29_treeify_2 11 rfl rfl)
theorem dJ29_treeify_59 : decode cJ29_treeify 59 = .ok (.astore 7, 2) := dk_58 7 (dk_at dksJ29_treeify_2 12 rfl rfl)
theorem dJ29_treeify_61 : decode cJ29_treeify 61 = .ok (.aload_n 2, 1) := dk_44 (dk_at dksJ29_treeify_2 14 rfl rfl)
theorem dJ29_treeify_62 : decode cJ29_treeify 62 = .ok (.astore 8, 2) := dk_58 8 (dk_at dksJ29_treeify_2 15 rfl rfl)
theorem dJ29_treeify_64 : decode cJ29_treeify 64 = .ok (.aload 8, 2) := dk_25 8 (dk_at dksJ29_treeify_2 17 rfl rfl)
theorem dJ29_treeify_66 : decode cJ29_treeify 66 = .ok (.getfield 45, 3) := dk_180 0 45 (dk_at dksJ29_treeify_2 19 rfl rfl)
theorem dJ29_treeify_69 : decode cJ29_treeify 69 = .ok (.astore 11, 2) := dk_58 11 (dk_at dksJ29_treeify_2 22 rfl rfl)
theorem dJ29_treeify_71 : decode cJ29_treeify 71 = .ok (.aload 8, 2) := dk_25 8 (dk_at dksJ29_treeify_3 0 rfl rfl)
theorem dJ29_treeify_73 : decode cJ29_treeify 73 = .ok (.getfield 15, 3) := dk_180 0 15 (dk_at dksJ29_treeify_3 2 rfl rfl)
theorem dJ29_treeify_76 : decode cJ29_treeify 76 = .ok (.dup, 1) := dk_89 (dk_at dksJ29_treeify_3 5 rfl rfl)
theorem dJ29_treeify_77 : decode cJ29_treeify 77 = .ok (.istore 10, 2) := dk_54 10 (dk_at dksJ29_treeify_3 6 rfl rfl)
theorem dJ29_treeify_79 : decode cJ29_treeify 79 = .ok (.iload 6, 2) := dk_21 6 (dk_at dksJ29_treeify_3 8 rfl rfl)
theorem dJ29_treeify_81 : decode cJ29_treeify 81 = .ok (.if_icmp .le 9, 3) := dk_164 0 9 (dk_at dksJ29_treeify_3 10 rfl rfl)
theorem dJ29_treeify_84 : decode cJ29_treeify 84 = .ok (.iconst (-1), 1) := dk_2 (dk_at dksJ29_treeify_3 13 rfl rfl)
theorem dJ29_treeify_85 : decode cJ29_treeify 85 = .ok (.istore 9, 2) := dk_54 9 (dk_at dksJ29_treeify_3 14 rfl rfl)
theorem dJ29_treeify_87 : decode cJ29_treeify 87 = .ok (.goto 56, 3) := dk_167 0 56 (dk_at dksJ29_treeify_3 16 rfl rfl)
theorem dJ29_treeify_90 : decode cJ29_treeify 90 = .ok (.iload 10, 2) := dk_21 10 (dk_at dksJ29_treeify_3 19 rfl rfl)
theorem dJ29_treeify_92 : decode cJ29_treeify 92 = .ok (.iload 6, 2) := dk_21 6 (dk_at dksJ29_treeify_3 21 rfl rfl)
theorem dJ29_treeify_94 : decode cJ29_treeify 94 = .ok (.if_icmp .ge 9, 3) := dk_162 0 9 (dk_at dksJ29_treeify_4 0 rfl rfl)
theorem dJ29_treeify_97 : decode cJ29_treeify 97 = .ok (.iconst 1, 1) := dk_4 (dk_at dksJ29_treeify_4 3 rfl rfl)
theorem dJ29_treeify_98 : decode cJ29_treeify 98 = .ok (.istore 9, 2) := dk_54 9 (dk_at dksJ29_treeify_4 4 rfl rfl)
theorem dJ29_treeify_100 : decode cJ29_treeify 100 = .ok (.goto 43, 3) := dk_167 0 43 (dk_at dksJ29_treeify_4 6 rfl rfl)
theorem dJ29_treeify_103 : decode cJ29_treeify 103 = .ok (.aload 7, 2) := dk_25 7 (dk_at dksJ29_treeify_4 9 rfl rfl)
theorem dJ29_treeify_105 : decode cJ29_treeify 105 = .ok (.ifnonnull 14, 3) := dk_199 0 14 (dk_at dksJ29_treeify_4 11 rfl rfl)
theorem dJ29_treeify_108 : decode cJ29_treeify 108 = .ok (.aload 5, 2) := dk_25 5 (dk_at dksJ29_treeify_4 14 rfl rfl)
theorem dJ29_treeify_110 : decode cJ29_treeify 110 = .ok (.invokestatic 55, 3) := dk_184 0 55 (dk_at dksJ29_treeify_4 16 rfl rfl)
theorem dJ29_treeify_113 : decode cJ29_treeify 113 = .ok (.dup, 1) := dk_89 (dk_at dksJ29_treeify_4 19 rfl rfl)
theorem dJ29_treeify_114 : decode cJ29_treeify 114 = .ok (.astore 7, 2) := dk_58 7 (dk_at dksJ29_treeify_4 20 rfl rfl)
theorem dJ29_treeify_116 : decode cJ29_treeify 116 = .ok (.ifnull 18, 3) := dk_198 0 18 (dk_at dksJ29_treeify_5 0 rfl rfl)
theorem dJ29_treeify_119 : decode cJ29_treeify 119 = .ok (.aload 7, 2) := dk_25 7 (dk_at dksJ29_treeify_5 3 rfl rfl)
theorem dJ29_treeify_121 : decode cJ29_treeify 121 = .ok (.aload 5, 2) := dk_25 5 (dk_at dksJ29_treeify_5 5 rfl rfl)
theorem dJ29_treeify_123 : decode cJ29_treeify 123 = .ok (.aload 11, 2) := dk_25 11 (dk_at dksJ29_treeify_5 7 rfl rfl)
theorem dJ29_treeify_125 : decode cJ29_treeify 125 = .ok (.invokestatic 59, 3) := dk_184 0 59 (dk_at dksJ29_treeify_5 9 rfl rfl)
theorem dJ29_treeify_128 : decode cJ29_treeify 128 = .ok (.dup, 1) := dk_89 (dk_at dksJ29_treeify_5 12 rfl rfl)
theorem dJ29_treeify_129 : decode cJ29_treeify 129 = .ok (.istore 9, 2) := dk_54 9 (dk_at dksJ29_treeify_5 13 rfl rfl)
theorem dJ29_treeify_131 : decode cJ29_treeify 131 = .ok (.ifCond .ne 12, 3) := dk_154 0 12 (dk_at dksJ29_treeify_5 15 rfl rfl)
theorem dJ29_treeify_134 : decode cJ29_treeify 134 = .ok (.aload 5, 2) := dk_25 5 (dk_at dksJ29_treeify_5 18 rfl rfl)
theorem dJ29_treeify_136 : decode cJ29_treeify 136 = .ok (.aload 11, 2) := dk_25 11 (dk_at dksJ29_treeify_5 20 rfl rfl)
theorem dJ29_treeify_138 : decode cJ29_treeify 138 = .ok (.invokestatic 96, 3) := dk_184 0 96 (dk_at dksJ29_treeify_6 0 rfl rfl)
theorem dJ29_treeify_141 : decode cJ29_treeify 141 = .ok (.istore 9, 2) := dk_54 9 (dk_at dksJ29_treeify_6 3 rfl rfl)
theorem dJ29_treeify_143 : decode cJ29_treeify 143 = .ok (.aload 8, 2) := dk_25 8 (dk_at dksJ29_treeify_6 5 rfl rfl)
theorem dJ29_treeify_145 : decode cJ29_treeify 145 = .ok (.astore 12, 2) := dk_58 12 (dk_at dksJ29_treeify_6 7 rfl rfl)
theorem dJ29_treeify_147 : decode cJ29_treeify 147 = .ok (.iload 9, 2) := dk_21 9 (dk_at dksJ29_treeify_6 9 rfl rfl)
theorem dJ29_treeify_149 : decode cJ29_treeify 149 = .ok (.ifCond .gt 11, 3) := dk_157 0 11 (dk_at dksJ29_treeify_6 11 rfl rfl)
theorem dJ29_treeify_152 : decode cJ29_treeify 152 = .ok (.aload 8, 2) := dk_25 8 (dk_at dksJ29_treeify_6 14 rfl rfl)
theorem dJ29_treeify_154 : decode cJ29_treeify 154 = .ok (.getfield 39, 3) := dk_180 0 39 (dk_at dksJ29_treeify_6 16 rfl rfl)
theorem dJ29_treeify_157 : decode cJ29_treeify 157 = .ok (.goto 8, 3) := dk_167 0 8 (dk_at dksJ29_treeify_6 19 rfl rfl)
theorem dJ29_treeify_160 : decode cJ29_treeify 160 = .ok (.aload 8, 2) := dk_25 8 (dk_at dksJ29_treeify_6 22 rfl rfl)
theorem dJ29_treeify_162 : decode cJ29_treeify 162 = .ok (.getfield 42, 3) := dk_180 0 42 (dk_at dksJ29_treeify_7 0 rfl rfl)
theorem dJ29_treeify_165 : decode cJ29_treeify 165 = .ok (.dup, 1) := dk_89 (dk_at dksJ29_treeify_7 3 rfl rfl)
theorem dJ29_treeify_166 : decode cJ29_treeify 166 = .ok (.astore 8, 2) := dk_58 8 (dk_at dksJ29_treeify_7 4 rfl rfl)
theorem dJ29_treeify_168 : decode cJ29_treeify 168 = .ok (.ifnonnull 38, 3) := dk_199 0 38 (dk_at dksJ29_treeify_7 6 rfl rfl)
theorem dJ29_treeify_171 : decode cJ29_treeify 171 = .ok (.aload_n 3, 1) := dk_45 (dk_at dksJ29_treeify_7 9 rfl rfl)
theorem dJ29_treeify_172 : decode cJ29_treeify 172 = .ok (.aload 12, 2) := dk_25 12 (dk_at dksJ29_treeify_7 10 rfl rfl)
theorem dJ29_treeify_174 : decode cJ29_treeify 174 = .ok (.putfield 9, 3) := dk_181 0 9 (dk_at dksJ29_treeify_7 12 rfl rfl)
theorem dJ29_treeify_177 : decode cJ29_treeify 177 = .ok (.iload 9, 2) := dk_21 9 (dk_at dksJ29_treeify_7 15 rfl rfl)
theorem dJ29_treeify_179 : decode cJ29_treeify 179 = .ok (.ifCond .gt 12, 3) := dk_157 0 12 (dk_at dksJ29_treeify_7 17 rfl rfl)
theorem dJ29_treeify_182 : decode cJ29_treeify 182 = .ok (.aload 12, 2) := dk_25 12 (dk_at dksJ29_treeify_7 20 rfl rfl)
theorem dJ29_treeify_184 : decode cJ29_treeify 184 = .ok (.aload_n 3, 1) := dk_45 (dk_at dksJ29_treeify_7 22 rfl rfl)
theorem dJ29_treeify_185 : decode cJ29_treeify 185 = .ok (.putfield 39, 3) := dk_181 0 39 (dk_at dksJ29_treeify_8 0 rfl rfl)
theorem dJ29_treeify_188 : decode cJ29_treeify 188 = .ok (.goto 9, 3) := dk_167 0 9 (dk_at dksJ29_treeify_8 3 rfl rfl)
theorem dJ29_treeify_191 : decode cJ29_treeify 191 = .ok (.aload 12, 2) := dk_25 12 (dk_at dksJ29_treeify_8 6 rfl rfl)
theorem dJ29_treeify_193 : decode cJ29_treeify 193 = .ok (.aload_n 3, 1) := dk_45 (dk_at dksJ29_treeify_8 8 rfl rfl)
theorem dJ29_treeify_194 : decode cJ29_treeify 194 = .ok (.putfield 42, 3) := dk_181 0 42 (dk_at dksJ29_treeify_8 9 rfl rfl)
theorem dJ29_treeify_197 : decode cJ29_treeify 197 = .ok (.aload_n 2, 1) := dk_44 (dk_at dksJ29_treeify_8 12 rfl rfl)
theorem dJ29_treeify_198 : decode cJ29_treeify 198 = .ok (.aload_n 3, 1) := dk_45 (dk_at dksJ29_treeify_8 13 rfl rfl)
theorem dJ29_treeify_199 : decode cJ29_treeify 199 = .ok (.invokestatic 100, 3) := dk_184 0 100 (dk_at dksJ29_treeify_8 14 rfl rfl)
theorem dJ29_treeify_202 : decode cJ29_treeify 202 = .ok (.astore_n 2, 1) := dk_77 (dk_at dksJ29_treeify_8 17 rfl rfl)
theorem dJ29_treeify_203 : decode cJ29_treeify 203 = .ok (.goto 6, 3) := dk_167 0 6 (dk_at dksJ29_treeify_8 18 rfl rfl)
theorem dJ29_treeify_206 : decode cJ29_treeify 206 = .ok (.goto (-142), 3) := dk_167 255 114 (dk_at dksJ29_treeify_8 21 rfl rfl)
theorem dJ29_treeify_209 : decode cJ29_treeify 209 = .ok (.aload 4, 2) := dk_25 4 (dk_at dksJ29_treeify_9 0 rfl rfl)
theorem dJ29_treeify_211 : decode cJ29_treeify 211 = .ok (.astore_n 3, 1) := dk_78 (dk_at dksJ29_treeify_9 2 rfl rfl)
theorem dJ29_treeify_212 : decode cJ29_treeify 212 = .ok (.goto (-208), 3) := dk_167 255 48 (dk_at dksJ29_treeify_9 3 rfl rfl)
theorem dJ29_treeify_215 : decode cJ29_treeify 215 = .ok (.aload_n 1, 1) := dk_43 (dk_at dksJ29_treeify_9 6 rfl rfl)
theorem dJ29_treeify_216 : decode cJ29_treeify 216 = .ok (.aload_n 2, 1) := dk_44 (dk_at dksJ29_treeify_9 7 rfl rfl)
theorem dJ29_treeify_217 : decode cJ29_treeify 217 = .ok (.invokestatic 104, 3) := dk_184 0 104 (dk_at dksJ29_treeify_9 8 rfl rfl)
theorem dJ29_treeify_220 : decode cJ29_treeify 220 = .ok (.return_, 1) := dk_177 (dk_at dksJ29_treeify_9 11 rfl rfl)
abbrev cJ29_balanceInsertion : ByteArray := prog_49_method_14_code
def yJ29_balanceInsertion : MethodName := ⟨RJ29, "balanceInsertion", "(Ljava/util/HashMap$TreeNode;Ljava/util/HashMap$TreeNode;)Ljava/util/HashMap$TreeNode;"⟩
def dkwJ29_balanceInsertion_10 : List UInt8 := [198, 255, 33, 45, 4, 181, 0, 93, 42, 45, 184, 0, 130, 75, 167, 255, 19]
abbrev dktJ29_balanceInsertion_10 : List UInt8 := dkwJ29_balanceInsertion_10 ++ []
def dkwJ29_balanceInsertion_9 : List UInt8 := [199, 0, 7, 1, 167, 0, 7, 44, 180, 0, 9, 78, 44, 198, 255, 42, 44, 3, 181, 0, 93, 45]
abbrev dktJ29_balanceInsertion_9 : List UInt8 := dkwJ29_balanceInsertion_9 ++ dktJ29_balanceInsertion_10
def dkwJ29_balanceInsertion_8 : List UInt8 := [43, 44, 180, 0, 39, 166, 0, 29, 42, 44, 89, 76, 184, 0, 133, 75, 43, 180, 0, 9, 89, 77]
abbrev dktJ29_balanceInsertion_8 : List UInt8 := dkwJ29_balanceInsertion_8 ++ dktJ29_balanceInsertion_9
def dkwJ29_balanceInsertion_7 : List UInt8 := [153, 0, 24, 25, 4, 3, 181, 0, 93, 44, 3, 181, 0, 93, 45, 4, 181, 0, 93, 45, 76, 167, 255, 80]
abbrev dktJ29_balanceInsertion_7 : List UInt8 := dkwJ29_balanceInsertion_7 ++ dktJ29_balanceInsertion_8
def dkwJ29_balanceInsertion_6 : List UInt8 := [181, 0, 93, 42, 45, 184, 0, 133, 75, 167, 255, 114, 25, 4, 198, 0, 32, 25, 4, 180, 0, 93]
abbrev dktJ29_balanceInsertion_6 : List UInt8 := dkwJ29_balanceInsertion_6 ++ dktJ29_balanceInsertion_7
def dkwJ29_balanceInsertion_5 : List UInt8 := [167, 0, 7, 44, 180, 0, 9, 78, 44, 198, 255, 137, 44, 3, 181, 0, 93, 45, 198, 255, 128, 45, 4]
abbrev dktJ29_balanceInsertion_5 : List UInt8 := dkwJ29_balanceInsertion_5 ++ dktJ29_balanceInsertion_6
def dkwJ29_balanceInsertion_4 : List UInt8 := [180, 0, 42, 166, 0, 29, 42, 44, 89, 76, 184, 0, 130, 75, 43, 180, 0, 9, 89, 77, 199, 0, 7, 1]
abbrev dktJ29_balanceInsertion_4 : List UInt8 := dkwJ29_balanceInsertion_4 ++ dktJ29_balanceInsertion_5
def dkwJ29_balanceInsertion_3 : List UInt8 := [25, 5, 3, 181, 0, 93, 44, 3, 181, 0, 93, 45, 4, 181, 0, 93, 45, 76, 167, 255, 175, 43, 44]
abbrev dktJ29_balanceInsertion_3 : List UInt8 := dkwJ29_balanceInsertion_3 ++ dktJ29_balanceInsertion_4
def dkwJ29_balanceInsertion_2 : List UInt8 := [58, 4, 166, 0, 103, 45, 180, 0, 42, 89, 58, 5, 198, 0, 32, 25, 5, 180, 0, 93, 153, 0, 24]
abbrev dktJ29_balanceInsertion_2 : List UInt8 := dkwJ29_balanceInsertion_2 ++ dktJ29_balanceInsertion_3
def dkwJ29_balanceInsertion_1 : List UInt8 := [180, 0, 93, 153, 0, 12, 44, 180, 0, 9, 89, 78, 199, 0, 5, 42, 176, 44, 45, 180, 0, 39, 89]
abbrev dktJ29_balanceInsertion_1 : List UInt8 := dkwJ29_balanceInsertion_1 ++ dktJ29_balanceInsertion_2
def dkwJ29_balanceInsertion_0 : List UInt8 := [43, 4, 181, 0, 93, 43, 180, 0, 9, 89, 77, 199, 0, 10, 43, 3, 181, 0, 93, 43, 176, 44]
abbrev dktJ29_balanceInsertion_0 : List UInt8 := dkwJ29_balanceInsertion_0 ++ dktJ29_balanceInsertion_1
theorem dksJ29_balanceInsertion_0 : cJ29_balanceInsertion.data.toList.drop 0 = dktJ29_balanceInsertion_0 := by decide +kernel
theorem dksJ29_balanceInsertion_1 : cJ29_balanceInsertion.data.toList.drop 22 = dktJ29_balanceInsertion_1 := dk_seg dksJ29_balanceInsertion_0 22 rfl rfl
theorem dksJ29_balanceInsertion_2 : cJ29_balanceInsertion.data.toList.drop 45 = dktJ29_balanceInsertion_2 := dk_seg dksJ29_balanceInsertion_1 23 rfl rfl
theorem dksJ29_balanceInsertion_3 : cJ29_balanceInsertion.data.toList.drop 68 = dktJ29_balanceInsertion_3 := dk_seg dksJ29_balanceInsertion_2 23 rfl rfl
theorem dksJ29_balanceInsertion_4 : cJ29_balanceInsertion.data.toList.drop 91 = dktJ29_balanceInsertion_4 := dk_seg dksJ29_balanceInsertion_3 23 rfl rfl
theorem dksJ29_balanceInsertion_5 : cJ29_balanceInsertion.data.toList.drop 115 = dktJ29_balanceInsertion_5 := dk_seg dksJ29_balanceInsertion_4 24 rfl rfl
theorem dksJ29_balanceInsertion_6 : cJ29_balanceInsertion.data.toList.drop 138 = dktJ29_balanceInsertion_6 := dk_seg dksJ29_balanceInsertion_5 23 rfl rfl
theorem dksJ29_balanceInsertion_7 : cJ29_balanceInsertion.data.toList.drop 160 = dktJ29_balanceInsertion_7 := dk_seg dksJ29_balanceInsertion_6 22 rfl rfl
theorem dksJ29_balanceInsertion_8 : cJ29_balanceInsertion.data.toList.drop 184 = dktJ29_balanceInsertion_8 := dk_seg dksJ29_balanceInsertion_7 24 rfl rfl
theorem dksJ29_balanceInsertion_9 : cJ29_balanceInsertion.data.toList.drop 206 = dktJ29_balanceInsertion_9 := dk_seg dksJ29_balanceInsertion_8 22 rfl rfl
theorem dksJ29_balanceInsertion_10 : cJ29_balanceInsertion.data.toList.drop 228 = dktJ29_balanceInsertion_10 := dk_seg dksJ29_balanceInsertion_9 22 rfl rfl
theorem dJ29_balanceInsertion_0 : decode cJ29_balanceInsertion 0 = .ok (.aload_n 1, 1) := dk_43 (dk_at dksJ29_balanceInsertion_0 0 rfl rfl)
theorem dJ29_balanceInsertion_1 : decode cJ29_balanceInsertion 1 = .ok (.iconst 1, 1) := dk_4 (dk_at dksJ29_balanceInsertion_0 1 rfl rfl)
theorem dJ29_balanceInsertion_2 : decode cJ29_balanceInsertion 2 = .ok (.putfield 93, 3) := dk_181 0 93 (dk_at dksJ29_balanceInsertion_0 2 rfl rfl)
theorem dJ29_balanceInsertion_5 : decode cJ29_balanceInsertion 5 = .ok (.aload_n 1, 1) := dk_43 (dk_at dksJ29_balanceInsertion_0 5 rfl rfl)
theorem dJ29_balanceInsertion_6 : decode cJ29_balanceInsertion 6 = .ok (.getfield 9, 3) := dk_180 0 9 (dk_at dksJ29_balanceInsertion_0 6 rfl rfl)
theorem dJ29_balanceInsertion_9 : decode cJ29_balanceInsertion 9 = .ok (.dup, 1) := dk_89 (dk_at dksJ29_balanceInsertion_0 9 rfl rfl)
theorem dJ29_balanceInsertion_10 : decode cJ29_balanceInsertion 10 = .ok (.astore_n 2, 1) := dk_77 (dk_at dksJ29_balanceInsertion_0 10 rfl rfl)
theorem dJ29_balanceInsertion_11 : decode cJ29_balanceInsertion 11 = .ok (.ifnonnull 10, 3) := dk_199 0 10 (dk_at dksJ29_balanceInsertion_0 11 rfl rfl)
theorem dJ29_balanceInsertion_14 : decode cJ29_balanceInsertion 14 = .ok (.aload_n 1, 1) := dk_43 (dk_at dksJ29_balanceInsertion_0 14 rfl rfl)
theorem dJ29_balanceInsertion_15 : decode cJ29_balanceInsertion 15 = .ok (.iconst 0, 1) := dk_3 (dk_at dksJ29_balanceInsertion_0 15 rfl rfl)
theorem dJ29_balanceInsertion_16 : decode cJ29_balanceInsertion 16 = .ok (.putfield 93, 3) := dk_181 0 93 (dk_at dksJ29_balanceInsertion_0 16 rfl rfl)
theorem dJ29_balanceInsertion_19 : decode cJ29_balanceInsertion 19 = .ok (.aload_n 1, 1) := dk_43 (dk_at dksJ29_balanceInsertion_0 19 rfl rfl)
theorem dJ29_balanceInsertion_20 : decode cJ29_balanceInsertion 20 = .ok (.areturn, 1) := dk_176 (dk_at dksJ29_balanceInsertion_0 20 rfl rfl)
theorem dJ29_balanceInsertion_21 : decode cJ29_balanceInsertion 21 = .ok (.aload_n 2, 1) := dk_44 (dk_at dksJ29_balanceInsertion_0 21 rfl rfl)
theorem dJ29_balanceInsertion_22 : decode cJ29_balanceInsertion 22 = .ok (.getfield 93, 3) := dk_180 0 93 (dk_at dksJ29_balanceInsertion_1 0 rfl rfl)
theorem dJ29_balanceInsertion_25 : decode cJ29_balanceInsertion 25 = .ok (.ifCond .eq 12, 3) := dk_153 0 12 (dk_at dksJ29_balanceInsertion_1 3 rfl rfl)
theorem dJ29_balanceInsertion_28 : decode cJ29_balanceInsertion 28 = .ok (.aload_n 2, 1) := dk_44 (dk_at dksJ29_balanceInsertion_1 6 rfl rfl)
theorem dJ29_balanceInsertion_29 : decode cJ29_balanceInsertion 29 = .ok (.getfield 9, 3) := dk_180 0 9 (dk_at dksJ29_balanceInsertion_1 7 rfl rfl)
theorem dJ29_balanceInsertion_32 : decode cJ29_balanceInsertion 32 = .ok (.dup, 1) := dk_89 (dk_at dksJ29_balanceInsertion_1 10 rfl rfl)
theorem dJ29_balanceInsertion_33 : decode cJ29_balanceInsertion 33 = .ok (.astore_n 3, 1) := dk_78 (dk_at dksJ29_balanceInsertion_1 11 rfl rfl)
theorem dJ29_balanceInsertion_34 : decode cJ29_balanceInsertion 34 = .ok (.ifnonnull 5, 3) := dk_199 0 5 (dk_at dksJ29_balanceInsertion_1 12 rfl rfl)
theorem dJ29_balanceInsertion_37 : decode cJ29_balanceInsertion 37 = .ok (.aload_n 0, 1) := dk_42 (dk_at dksJ29_balanceInsertion_1 15 rfl rfl)
theorem dJ29_balanceInsertion_38 : decode cJ29_balanceInsertion 38 = .ok (.areturn, 1) := dk_176 (dk_at dksJ29_balanceInsertion_1 16 rfl rfl)
theorem dJ29_balanceInsertion_39 : decode cJ29_balanceInsertion 39 = .ok (.aload_n 2, 1) := dk_44 (dk_at dksJ29_balanceInsertion_1 17 rfl rfl)
theorem dJ29_balanceInsertion_40 : decode cJ29_balanceInsertion 40 = .ok (.aload_n 3, 1) := dk_45 (dk_at dksJ29_balanceInsertion_1 18 rfl rfl)
theorem dJ29_balanceInsertion_41 : decode cJ29_balanceInsertion 41 = .ok (.getfield 39, 3) := dk_180 0 39 (dk_at dksJ29_balanceInsertion_1 19 rfl rfl)
theorem dJ29_balanceInsertion_44 : decode cJ29_balanceInsertion 44 = .ok (.dup, 1) := dk_89 (dk_at dksJ29_balanceInsertion_1 22 rfl rfl)
theorem dJ29_balanceInsertion_45 : decode cJ29_balanceInsertion 45 = .ok (.astore 4, 2) := dk_58 4 (dk_at dksJ29_balanceInsertion_2 0 rfl rfl)
theorem dJ29_balanceInsertion_47 : decode cJ29_balanceInsertion 47 = .ok (.if_acmp .ne 103, 3) := dk_166 0 103 (dk_at dksJ29_balanceInsertion_2 2 rfl rfl)
theorem dJ29_balanceInsertion_50 : decode cJ29_balanceInsertion 50 = .ok (.aload_n 3, 1) := dk_45 (dk_at dksJ29_balanceInsertion_2 5 rfl rfl)
theorem dJ29_balanceInsertion_51 : decode cJ29_balanceInsertion 51 = .ok (.getfield 42, 3) := dk_180 0 42 (dk_at dksJ29_balanceInsertion_2 6 rfl rfl)
theorem dJ29_balanceInsertion_54 : decode cJ29_balanceInsertion 54 = .ok (.dup, 1) := dk_89 (dk_at dksJ29_balanceInsertion_2 9 rfl rfl)
theorem dJ29_balanceInsertion_55 : decode cJ29_balanceInsertion 55 = .ok (.astore 5, 2) := dk_58 5 (dk_at dksJ29_balanceInsertion_2 10 rfl rfl)
theorem dJ29_balanceInsertion_57 : decode cJ29_balanceInsertion 57 = .ok (.ifnull 32, 3) := dk_198 0 32 (dk_at dksJ29_balanceInsertion_2 12 rfl rfl)
theorem dJ29_balanceInsertion_60 : decode cJ29_balanceInsertion 60 = .ok (.aload 5, 2) := dk_25 5 (dk_at dksJ29_balanceInsertion_2 15 rfl rfl)
theorem dJ29_balanceInsertion_62 : decode cJ29_balanceInsertion 62 = .ok (.getfield 93, 3) := dk_180 0 93 (dk_at dksJ29_balanceInsertion_2 17 rfl rfl)
theorem dJ29_balanceInsertion_65 : decode cJ29_balanceInsertion 65 = .ok (.ifCond .eq 24, 3) := dk_153 0 24 (dk_at dksJ29_balanceInsertion_2 20 rfl rfl)
theorem dJ29_balanceInsertion_68 : decode cJ29_balanceInsertion 68 = .ok (.aload 5, 2) := dk_25 5 (dk_at dksJ29_balanceInsertion_3 0 rfl rfl)
theorem dJ29_balanceInsertion_70 : decode cJ29_balanceInsertion 70 = .ok (.iconst 0, 1) := dk_3 (dk_at dksJ29_balanceInsertion_3 2 rfl rfl)
theorem dJ29_balanceInsertion_71 : decode cJ29_balanceInsertion 71 = .ok (.putfield 93, 3) := dk_181 0 93 (dk_at dksJ29_balanceInsertion_3 3 rfl rfl)
theorem dJ29_balanceInsertion_74 : decode cJ29_balanceInsertion 74 = .ok (.aload_n 2, 1) := dk_44 (dk_at dksJ29_balanceInsertion_3 6 rfl rfl)
theorem dJ29_balanceInsertion_75 : decode cJ29_balanceInsertion 75 = .ok (.iconst 0, 1) := dk_3 (dk_at dksJ29_balanceInsertion_3 7 rfl rfl)
theorem dJ29_balanceInsertion_76 : decode cJ29_balanceInsertion 76 = .ok (.putfield 93, 3) := dk_181 0 93 (dk_at dksJ29_balanceInsertion_3 8 rfl rfl)
theorem dJ29_balanceInsertion_79 : decode cJ29_balanceInsertion 79 = .ok (.aload_n 3, 1) := dk_45 (dk_at dksJ29_balanceInsertion_3 11 rfl rfl)
theorem dJ29_balanceInsertion_80 : decode cJ29_balanceInsertion 80 = .ok (.iconst 1, 1) := dk_4 (dk_at dksJ29_balanceInsertion_3 12 rfl rfl)
theorem dJ29_balanceInsertion_81 : decode cJ29_balanceInsertion 81 = .ok (.putfield 93, 3) := dk_181 0 93 (dk_at dksJ29_balanceInsertion_3 13 rfl rfl)
theorem dJ29_balanceInsertion_84 : decode cJ29_balanceInsertion 84 = .ok (.aload_n 3, 1) := dk_45 (dk_at dksJ29_balanceInsertion_3 16 rfl rfl)
theorem dJ29_balanceInsertion_85 : decode cJ29_balanceInsertion 85 = .ok (.astore_n 1, 1) := dk_76 (dk_at dksJ29_balanceInsertion_3 17 rfl rfl)
theorem dJ29_balanceInsertion_86 : decode cJ29_balanceInsertion 86 = .ok (.goto (-81), 3) := dk_167 255 175 (dk_at dksJ29_balanceInsertion_3 18 rfl rfl)
theorem dJ29_balanceInsertion_89 : decode cJ29_balanceInsertion 89 = .ok (.aload_n 1, 1) := dk_43 (dk_at dksJ29_balanceInsertion_3 21 rfl rfl)
theorem dJ29_balanceInsertion_90 : decode cJ29_balanceInsertion 90 = .ok (.aload_n 2, 1) := dk_44 (dk_at dksJ29_balanceInsertion_3 22 rfl rfl)
theorem dJ29_balanceInsertion_91 : decode cJ29_balanceInsertion 91 = .ok (.getfield 42, 3) := dk_180 0 42 (dk_at dksJ29_balanceInsertion_4 0 rfl rfl)
theorem dJ29_balanceInsertion_94 : decode cJ29_balanceInsertion 94 = .ok (.if_acmp .ne 29, 3) := dk_166 0 29 (dk_at dksJ29_balanceInsertion_4 3 rfl rfl)
theorem dJ29_balanceInsertion_97 : decode cJ29_balanceInsertion 97 = .ok (.aload_n 0, 1) := dk_42 (dk_at dksJ29_balanceInsertion_4 6 rfl rfl)
theorem dJ29_balanceInsertion_98 : decode cJ29_balanceInsertion 98 = .ok (.aload_n 2, 1) := dk_44 (dk_at dksJ29_balanceInsertion_4 7 rfl rfl)
theorem dJ29_balanceInsertion_99 : decode cJ29_balanceInsertion 99 = .ok (.dup, 1) := dk_89 (dk_at dksJ29_balanceInsertion_4 8 rfl rfl)
theorem dJ29_balanceInsertion_100 : decode cJ29_balanceInsertion 100 = .ok (.astore_n 1, 1) := dk_76 (dk_at dksJ29_balanceInsertion_4 9 rfl rfl)
theorem dJ29_balanceInsertion_101 : decode cJ29_balanceInsertion 101 = .ok (.invokestatic 130, 3) := dk_184 0 130 (dk_at dksJ29_balanceInsertion_4 10 rfl rfl)
theorem dJ29_balanceInsertion_104 : decode cJ29_balanceInsertion 104 = .ok (.astore_n 0, 1) := dk_75 (dk_at dksJ29_balanceInsertion_4 13 rfl rfl)
theorem dJ29_balanceInsertion_105 : decode cJ29_balanceInsertion 105 = .ok (.aload_n 1, 1) := dk_43 (dk_at dksJ29_balanceInsertion_4 14 rfl rfl)
theorem dJ29_balanceInsertion_106 : decode cJ29_balanceInsertion 106 = .ok (.getfield 9, 3) := dk_180 0 9 (dk_at dksJ29_balanceInsertion_4 15 rfl rfl)
theorem dJ29_balanceInsertion_109 : decode cJ29_balanceInsertion 109 = .ok (.dup, 1) := dk_89 (dk_at dksJ29_balanceInsertion_4 18 rfl rfl)
theorem dJ29_balanceInsertion_110 : decode cJ29_balanceInsertion 110 = .ok (.astore_n 2, 1) := dk_77 (dk_at dksJ29_balanceInsertion_4 19 rfl rfl)
theorem dJ29_balanceInsertion_111 : decode cJ29_balanceInsertion 111 = .ok (.ifnonnull 7, 3) := dk_199 0 7 (dk_at dksJ29_balanceInsertion_4 20 rfl rfl)
theorem dJ29_balanceInsertion_114 : decode cJ29_balanceInsertion 114 = .ok (.aconst_null, 1) := dk_1 (dk_at dksJ29_balanceInsertion_4 23 rfl rfl)
theorem dJ29_balanceInsertion_115 : decode cJ29_balanceInsertion 115 = .ok (.goto 7, 3) := dk_167 0 7 (dk_at dksJ29_balanceInsertion_5 0 rfl rfl)
theorem dJ29_balanceInsertion_118 : decode cJ29_balanceInsertion 118 = .ok (.aload_n 2, 1) := dk_44 (dk_at dksJ29_balanceInsertion_5 3 rfl rfl)
theorem dJ29_balanceInsertion_119 : decode cJ29_balanceInsertion 119 = .ok (.getfield 9, 3) := dk_180 0 9 (dk_at dksJ29_balanceInsertion_5 4 rfl rfl)
theorem dJ29_balanceInsertion_122 : decode cJ29_balanceInsertion 122 = .ok (.astore_n 3, 1) := dk_78 (dk_at dksJ29_balanceInsertion_5 7 rfl rfl)
theorem dJ29_balanceInsertion_123 : decode cJ29_balanceInsertion 123 = .ok (.aload_n 2, 1) := dk_44 (dk_at dksJ29_balanceInsertion_5 8 rfl rfl)
theorem dJ29_balanceInsertion_124 : decode cJ29_balanceInsertion 124 = .ok (.ifnull (-119), 3) := dk_198 255 137 (dk_at dksJ29_balanceInsertion_5 9 rfl rfl)
theorem dJ29_balanceInsertion_127 : decode cJ29_balanceInsertion 127 = .ok (.aload_n 2, 1) := dk_44 (dk_at dksJ29_balanceInsertion_5 12 rfl rfl)
theorem dJ29_balanceInsertion_128 : decode cJ29_balanceInsertion 128 = .ok (.iconst 0, 1) := dk_3 (dk_at dksJ29_balanceInsertion_5 13 rfl rfl)
theorem dJ29_balanceInsertion_129 : decode cJ29_balanceInsertion 129 = .ok (.putfield 93, 3) := dk_181 0 93 (dk_at dksJ29_balanceInsertion_5 14 rfl rfl)
theorem dJ29_balanceInsertion_132 : decode cJ29_balanceInsertion 132 = .ok (.aload_n 3, 1) := dk_45 (dk_at dksJ29_balanceInsertion_5 17 rfl rfl)
theorem dJ29_balanceInsertion_133 : decode cJ29_balanceInsertion 133 = .ok (.ifnull (-128), 3) := dk_198 255 128 (dk_at dksJ29_balanceInsertion_5 18 rfl rfl)
theorem dJ29_balanceInsertion_136 : decode cJ29_balanceInsertion 136 = .ok (.aload_n 3, 1) := dk_45 (dk_at dksJ29_balanceInsertion_5 21 rfl rfl)
theorem dJ29_balanceInsertion_137 : decode cJ29_balanceInsertion 137 = .ok (.iconst 1, 1) := dk_4 (dk_at dksJ29_balanceInsertion_5 22 rfl rfl)
theorem dJ29_balanceInsertion_138 : decode cJ29_balanceInsertion 138 = .ok (.putfield 93, 3) := dk_181 0 93 (dk_at dksJ29_balanceInsertion_6 0 rfl rfl)
theorem dJ29_balanceInsertion_141 : decode cJ29_balanceInsertion 141 = .ok (.aload_n 0, 1) := dk_42 (dk_at dksJ29_balanceInsertion_6 3 rfl rfl)
theorem dJ29_balanceInsertion_142 : decode cJ29_balanceInsertion 142 = .ok (.aload_n 3, 1) := dk_45 (dk_at dksJ29_balanceInsertion_6 4 rfl rfl)
theorem dJ29_balanceInsertion_143 : decode cJ29_balanceInsertion 143 = .ok (.invokestatic 133, 3) := dk_184 0 133 (dk_at dksJ29_balanceInsertion_6 5 rfl rfl)
theorem dJ29_balanceInsertion_146 : decode cJ29_balanceInsertion 146 = .ok (.astore_n 0, 1) := dk_75 (dk_at dksJ29_balanceInsertion_6 8 rfl rfl)
theorem dJ29_balanceInsertion_147 : decode cJ29_balanceInsertion 147 = .ok (.goto (-142), 3) := dk_167 255 114 (dk_at dksJ29_balanceInsertion_6 9 rfl rfl)
theorem dJ29_balanceInsertion_150 : decode cJ29_balanceInsertion 150 = .ok (.aload 4, 2) := dk_25 4 (dk_at dksJ29_balanceInsertion_6 12 rfl rfl)
theorem dJ29_balanceInsertion_152 : decode cJ29_balanceInsertion 152 = .ok (.ifnull 32, 3) := dk_198 0 32 (dk_at dksJ29_balanceInsertion_6 14 rfl rfl)
theorem dJ29_balanceInsertion_155 : decode cJ29_balanceInsertion 155 = .ok (.aload 4, 2) := dk_25 4 (dk_at dksJ29_balanceInsertion_6 17 rfl rfl)
theorem dJ29_balanceInsertion_157 : decode cJ29_balanceInsertion 157 = .ok (.getfield 93, 3) := dk_180 0 93 (dk_at dksJ29_balanceInsertion_6 19 rfl rfl)
theorem dJ29_balanceInsertion_160 : decode cJ29_balanceInsertion 160 = .ok (.ifCond .eq 24, 3) := dk_153 0 24 (dk_at dksJ29_balanceInsertion_7 0 rfl rfl)
theorem dJ29_balanceInsertion_163 : decode cJ29_balanceInsertion 163 = .ok (.aload 4, 2) := dk_25 4 (dk_at dksJ29_balanceInsertion_7 3 rfl rfl)
theorem dJ29_balanceInsertion_165 : decode cJ29_balanceInsertion 165 = .ok (.iconst 0, 1) := dk_3 (dk_at dksJ29_balanceInsertion_7 5 rfl rfl)
theorem dJ29_balanceInsertion_166 : decode cJ29_balanceInsertion 166 = .ok (.putfield 93, 3) := dk_181 0 93 (dk_at dksJ29_balanceInsertion_7 6 rfl rfl)
theorem dJ29_balanceInsertion_169 : decode cJ29_balanceInsertion 169 = .ok (.aload_n 2, 1) := dk_44 (dk_at dksJ29_balanceInsertion_7 9 rfl rfl)
theorem dJ29_balanceInsertion_170 : decode cJ29_balanceInsertion 170 = .ok (.iconst 0, 1) := dk_3 (dk_at dksJ29_balanceInsertion_7 10 rfl rfl)
theorem dJ29_balanceInsertion_171 : decode cJ29_balanceInsertion 171 = .ok (.putfield 93, 3) := dk_181 0 93 (dk_at dksJ29_balanceInsertion_7 11 rfl rfl)
theorem dJ29_balanceInsertion_174 : decode cJ29_balanceInsertion 174 = .ok (.aload_n 3, 1) := dk_45 (dk_at dksJ29_balanceInsertion_7 14 rfl rfl)
theorem dJ29_balanceInsertion_175 : decode cJ29_balanceInsertion 175 = .ok (.iconst 1, 1) := dk_4 (dk_at dksJ29_balanceInsertion_7 15 rfl rfl)
theorem dJ29_balanceInsertion_176 : decode cJ29_balanceInsertion 176 = .ok (.putfield 93, 3) := dk_181 0 93 (dk_at dksJ29_balanceInsertion_7 16 rfl rfl)
theorem dJ29_balanceInsertion_179 : decode cJ29_balanceInsertion 179 = .ok (.aload_n 3, 1) := dk_45 (dk_at dksJ29_balanceInsertion_7 19 rfl rfl)
theorem dJ29_balanceInsertion_180 : decode cJ29_balanceInsertion 180 = .ok (.astore_n 1, 1) := dk_76 (dk_at dksJ29_balanceInsertion_7 20 rfl rfl)
theorem dJ29_balanceInsertion_181 : decode cJ29_balanceInsertion 181 = .ok (.goto (-176), 3) := dk_167 255 80 (dk_at dksJ29_balanceInsertion_7 21 rfl rfl)
theorem dJ29_balanceInsertion_184 : decode cJ29_balanceInsertion 184 = .ok (.aload_n 1, 1) := dk_43 (dk_at dksJ29_balanceInsertion_8 0 rfl rfl)
theorem dJ29_balanceInsertion_185 : decode cJ29_balanceInsertion 185 = .ok (.aload_n 2, 1) := dk_44 (dk_at dksJ29_balanceInsertion_8 1 rfl rfl)
theorem dJ29_balanceInsertion_186 : decode cJ29_balanceInsertion 186 = .ok (.getfield 39, 3) := dk_180 0 39 (dk_at dksJ29_balanceInsertion_8 2 rfl rfl)
theorem dJ29_balanceInsertion_189 : decode cJ29_balanceInsertion 189 = .ok (.if_acmp .ne 29, 3) := dk_166 0 29 (dk_at dksJ29_balanceInsertion_8 5 rfl rfl)
theorem dJ29_balanceInsertion_192 : decode cJ29_balanceInsertion 192 = .ok (.aload_n 0, 1) := dk_42 (dk_at dksJ29_balanceInsertion_8 8 rfl rfl)
theorem dJ29_balanceInsertion_193 : decode cJ29_balanceInsertion 193 = .ok (.aload_n 2, 1) := dk_44 (dk_at dksJ29_balanceInsertion_8 9 rfl rfl)
theorem dJ29_balanceInsertion_194 : decode cJ29_balanceInsertion 194 = .ok (.dup, 1) := dk_89 (dk_at dksJ29_balanceInsertion_8 10 rfl rfl)
theorem dJ29_balanceInsertion_195 : decode cJ29_balanceInsertion 195 = .ok (.astore_n 1, 1) := dk_76 (dk_at dksJ29_balanceInsertion_8 11 rfl rfl)
theorem dJ29_balanceInsertion_196 : decode cJ29_balanceInsertion 196 = .ok (.invokestatic 133, 3) := dk_184 0 133 (dk_at dksJ29_balanceInsertion_8 12 rfl rfl)
theorem dJ29_balanceInsertion_199 : decode cJ29_balanceInsertion 199 = .ok (.astore_n 0, 1) := dk_75 (dk_at dksJ29_balanceInsertion_8 15 rfl rfl)
theorem dJ29_balanceInsertion_200 : decode cJ29_balanceInsertion 200 = .ok (.aload_n 1, 1) := dk_43 (dk_at dksJ29_balanceInsertion_8 16 rfl rfl)
theorem dJ29_balanceInsertion_201 : decode cJ29_balanceInsertion 201 = .ok (.getfield 9, 3) := dk_180 0 9 (dk_at dksJ29_balanceInsertion_8 17 rfl rfl)
theorem dJ29_balanceInsertion_204 : decode cJ29_balanceInsertion 204 = .ok (.dup, 1) := dk_89 (dk_at dksJ29_balanceInsertion_8 20 rfl rfl)
theorem dJ29_balanceInsertion_205 : decode cJ29_balanceInsertion 205 = .ok (.astore_n 2, 1) := dk_77 (dk_at dksJ29_balanceInsertion_8 21 rfl rfl)
theorem dJ29_balanceInsertion_206 : decode cJ29_balanceInsertion 206 = .ok (.ifnonnull 7, 3) := dk_199 0 7 (dk_at dksJ29_balanceInsertion_9 0 rfl rfl)
theorem dJ29_balanceInsertion_209 : decode cJ29_balanceInsertion 209 = .ok (.aconst_null, 1) := dk_1 (dk_at dksJ29_balanceInsertion_9 3 rfl rfl)
theorem dJ29_balanceInsertion_210 : decode cJ29_balanceInsertion 210 = .ok (.goto 7, 3) := dk_167 0 7 (dk_at dksJ29_balanceInsertion_9 4 rfl rfl)
theorem dJ29_balanceInsertion_213 : decode cJ29_balanceInsertion 213 = .ok (.aload_n 2, 1) := dk_44 (dk_at dksJ29_balanceInsertion_9 7 rfl rfl)
theorem dJ29_balanceInsertion_214 : decode cJ29_balanceInsertion 214 = .ok (.getfield 9, 3) := dk_180 0 9 (dk_at dksJ29_balanceInsertion_9 8 rfl rfl)
theorem dJ29_balanceInsertion_217 : decode cJ29_balanceInsertion 217 = .ok (.astore_n 3, 1) := dk_78 (dk_at dksJ29_balanceInsertion_9 11 rfl rfl)
theorem dJ29_balanceInsertion_218 : decode cJ29_balanceInsertion 218 = .ok (.aload_n 2, 1) := dk_44 (dk_at dksJ29_balanceInsertion_9 12 rfl rfl)
theorem dJ29_balanceInsertion_219 : decode cJ29_balanceInsertion 219 = .ok (.ifnull (-214), 3) := dk_198 255 42 (dk_at dksJ29_balanceInsertion_9 13 rfl rfl)
theorem dJ29_balanceInsertion_222 : decode cJ29_balanceInsertion 222 = .ok (.aload_n 2, 1) := dk_44 (dk_at dksJ29_balanceInsertion_9 16 rfl rfl)
theorem dJ29_balanceInsertion_223 : decode cJ29_balanceInsertion 223 = .ok (.iconst 0, 1) := dk_3 (dk_at dksJ29_balanceInsertion_9 17 rfl rfl)
theorem dJ29_balanceInsertion_224 : decode cJ29_balanceInsertion 224 = .ok (.putfield 93, 3) := dk_181 0 93 (dk_at dksJ29_balanceInsertion_9 18 rfl rfl)
theorem dJ29_balanceInsertion_227 : decode cJ29_balanceInsertion 227 = .ok (.aload_n 3, 1) := dk_45 (dk_at dksJ29_balanceInsertion_9 21 rfl rfl)
theorem dJ29_balanceInsertion_228 : decode cJ29_balanceInsertion 228 = .ok (.ifnull (-223), 3) := dk_198 255 33 (dk_at dksJ29_balanceInsertion_10 0 rfl rfl)
theorem dJ29_balanceInsertion_231 : decode cJ29_balanceInsertion 231 = .ok (.aload_n 3, 1) := dk_45 (dk_at dksJ29_balanceInsertion_10 3 rfl rfl)
theorem dJ29_balanceInsertion_232 : decode cJ29_balanceInsertion 232 = .ok (.iconst 1, 1) := dk_4 (dk_at dksJ29_balanceInsertion_10 4 rfl rfl)
theorem dJ29_balanceInsertion_233 : decode cJ29_balanceInsertion 233 = .ok (.putfield 93, 3) := dk_181 0 93 (dk_at dksJ29_balanceInsertion_10 5 rfl rfl)
theorem dJ29_balanceInsertion_236 : decode cJ29_balanceInsertion 236 = .ok (.aload_n 0, 1) := dk_42 (dk_at dksJ29_balanceInsertion_10 8 rfl rfl)
theorem dJ29_balanceInsertion_237 : decode cJ29_balanceInsertion 237 = .ok (.aload_n 3, 1) := dk_45 (dk_at dksJ29_balanceInsertion_10 9 rfl rfl)
theorem dJ29_balanceInsertion_238 : decode cJ29_balanceInsertion 238 = .ok (.invokestatic 130, 3) := dk_184 0 130 (dk_at dksJ29_balanceInsertion_10 10 rfl rfl)
theorem dJ29_balanceInsertion_241 : decode cJ29_balanceInsertion 241 = .ok (.astore_n 0, 1) := dk_75 (dk_at dksJ29_balanceInsertion_10 13 rfl rfl)
theorem dJ29_balanceInsertion_242 : decode cJ29_balanceInsertion 242 = .ok (.goto (-237), 3) := dk_167 255 19 (dk_at dksJ29_balanceInsertion_10 14 rfl rfl)
abbrev cJ29_rotateLeft : ByteArray := prog_49_method_12_code
def yJ29_rotateLeft : MethodName := ⟨RJ29, "rotateLeft", "(Ljava/util/HashMap$TreeNode;Ljava/util/HashMap$TreeNode;)Ljava/util/HashMap$TreeNode;"⟩
def dkwJ29_rotateLeft_3 : List UInt8 := [181, 0, 39, 167, 0, 8, 45, 44, 181, 0, 42, 44, 43, 181, 0, 39, 43, 44, 181, 0, 9, 42, 176]
abbrev dktJ29_rotateLeft_3 : List UInt8 := dkwJ29_rotateLeft_3 ++ []
def dkwJ29_rotateLeft_2 : List UInt8 := [199, 0, 13, 44, 89, 75, 3, 181, 0, 93, 167, 0, 24, 45, 180, 0, 39, 43, 166, 0, 11, 45, 44]
abbrev dktJ29_rotateLeft_2 : List UInt8 := dkwJ29_rotateLeft_2 ++ dktJ29_rotateLeft_3
def dkwJ29_rotateLeft_1 : List UInt8 := [58, 4, 198, 0, 9, 25, 4, 43, 181, 0, 9, 44, 43, 180, 0, 9, 90, 181, 0, 9, 89, 78]
abbrev dktJ29_rotateLeft_1 : List UInt8 := dkwJ29_rotateLeft_1 ++ dktJ29_rotateLeft_2
def dkwJ29_rotateLeft_0 : List UInt8 := [43, 198, 0, 88, 43, 180, 0, 42, 89, 77, 198, 0, 79, 43, 44, 180, 0, 39, 90, 181, 0, 42, 89]
abbrev dktJ29_rotateLeft_0 : List UInt8 := dkwJ29_rotateLeft_0 ++ dktJ29_rotateLeft_1
theorem dksJ29_rotateLeft_0 : cJ29_rotateLeft.data.toList.drop 0 = dktJ29_rotateLeft_0 := by decide +kernel
theorem dksJ29_rotateLeft_1 : cJ29_rotateLeft.data.toList.drop 23 = dktJ29_rotateLeft_1 := dk_seg dksJ29_rotateLeft_0 23 rfl rfl
theorem dksJ29_rotateLeft_2 : cJ29_rotateLeft.data.toList.drop 45 = dktJ29_rotateLeft_2 := dk_seg dksJ29_rotateLeft_1 22 rfl rfl
theorem dksJ29_rotateLeft_3 : cJ29_rotateLeft.data.toList.drop 68 = dktJ29_rotateLeft_3 := dk_seg dksJ29_rotateLeft_2 23 rfl rfl
theorem dJ29_rotateLeft_0 : decode cJ29_rotateLeft 0 = .ok (.aload_n 1, 1) := dk_43 (dk_at dksJ29_rotateLeft_0 0 rfl rfl)
theorem dJ29_rotateLeft_1 : decode cJ29_rotateLeft 1 = .ok (.ifnull 88, 3) := dk_198 0 88 (dk_at dksJ29_rotateLeft_0 1 rfl rfl)
theorem dJ29_rotateLeft_4 : decode cJ29_rotateLeft 4 = .ok (.aload_n 1, 1) := dk_43 (dk_at dksJ29_rotateLeft_0 4 rfl rfl)
theorem dJ29_rotateLeft_5 : decode cJ29_rotateLeft 5 = .ok (.getfield 42, 3) := dk_180 0 42 (dk_at dksJ29_rotateLeft_0 5 rfl rfl)
theorem dJ29_rotateLeft_8 : decode cJ29_rotateLeft 8 = .ok (.dup, 1) := dk_89 (dk_at dksJ29_rotateLeft_0 8 rfl rfl)
theorem dJ29_rotateLeft_9 : decode cJ29_rotateLeft 9 = .ok (.astore_n 2, 1) := dk_77 (dk_at dksJ29_rotateLeft_0 9 rfl rfl)
theorem dJ29_rotateLeft_10 : decode cJ29_rotateLeft 10 = .ok (.ifnull 79, 3) := dk_198 0 79 (dk_at dksJ29_rotateLeft_0 10 rfl rfl)
theorem dJ29_rotateLeft_13 : decode cJ29_rotateLeft 13 = .ok (.aload_n 1, 1) := dk_43 (dk_at dksJ29_rotateLeft_0 13 rfl rfl)
theorem dJ29_rotateLeft_14 : decode cJ29_rotateLeft 14 = .ok (.aload_n 2, 1) := dk_44 (dk_at dksJ29_rotateLeft_0 14 rfl rfl)
theorem dJ29_rotateLeft_15 : decode cJ29_rotateLeft 15 = .ok (.getfield 39, 3) := dk_180 0 39 (dk_at dksJ29_rotateLeft_0 15 rfl rfl)
theorem dJ29_rotateLeft_18 : decode cJ29_rotateLeft 18 = .ok (.dup_x1, 1) := dk_90 (dk_at dksJ29_rotateLeft_0 18 rfl rfl)
theorem dJ29_rotateLeft_19 : decode cJ29_rotateLeft 19 = .ok (.putfield 42, 3) := dk_181 0 42 (dk_at dksJ29_rotateLeft_0 19 rfl rfl)
theorem dJ29_rotateLeft_22 : decode cJ29_rotateLeft 22 = .ok (.dup, 1) := dk_89 (dk_at dksJ29_rotateLeft_0 22 rfl rfl)
theorem dJ29_rotateLeft_23 : decode cJ29_rotateLeft 23 = .ok (.astore 4, 2) := dk_58 4 (dk_at dksJ29_rotateLeft_1 0 rfl rfl)
theorem dJ29_rotateLeft_25 : decode cJ29_rotateLeft 25 = .ok (.ifnull 9, 3) := dk_198 0 9 (dk_at dksJ29_rotateLeft_1 2 rfl rfl)
theorem dJ29_rotateLeft_28 : decode cJ29_rotateLeft 28 = .ok (.aload 4, 2) := dk_25 4 (dk_at dksJ29_rotateLeft_1 5 rfl rfl)
theorem dJ29_rotateLeft_30 : decode cJ29_rotateLeft 30 = .ok (.aload_n 1, 1) := dk_43 (dk_at dksJ29_rotateLeft_1 7 rfl rfl)
theorem dJ29_rotateLeft_31 : decode cJ29_rotateLeft 31 = .ok (.putfield 9, 3) := dk_181 0 9 (dk_at dksJ29_rotateLeft_1 8 rfl rfl)
theorem dJ29_rotateLeft_34 : decode cJ29_rotateLeft 34 = .ok (.aload_n 2, 1) := dk_44 (dk_at dksJ29_rotateLeft_1 11 rfl rfl)
theorem dJ29_rotateLeft_35 : decode cJ29_rotateLeft 35 = .ok (.aload_n 1, 1) := dk_43 (dk_at dksJ29_rotateLeft_1 12 rfl rfl)
theorem dJ29_rotateLeft_36 : decode cJ29_rotateLeft 36 = .ok (.getfield 9, 3) := dk_180 0 9 (dk_at dksJ29_rotateLeft_1 13 rfl rfl)
theorem dJ29_rotateLeft_39 : decode cJ29_rotateLeft 39 = .ok (.dup_x1, 1) := dk_90 (dk_at dksJ29_rotateLeft_1 16 rfl rfl)
theorem dJ29_rotateLeft_40 : decode cJ29_rotateLeft 40 = .ok (.putfield 9, 3) := dk_181 0 9 (dk_at dksJ29_rotateLeft_1 17 rfl rfl)
theorem dJ29_rotateLeft_43 : decode cJ29_rotateLeft 43 = .ok (.dup, 1) := dk_89 (dk_at dksJ29_rotateLeft_1 20 rfl rfl)
theorem dJ29_rotateLeft_44 : decode cJ29_rotateLeft 44 = .ok (.astore_n 3, 1) := dk_78 (dk_at dksJ29_rotateLeft_1 21 rfl rfl)
theorem dJ29_rotateLeft_45 : decode cJ29_rotateLeft 45 = .ok (.ifnonnull 13, 3) := dk_199 0 13 (dk_at dksJ29_rotateLeft_2 0 rfl rfl)
theorem dJ29_rotateLeft_48 : decode cJ29_rotateLeft 48 = .ok (.aload_n 2, 1) := dk_44 (dk_at dksJ29_rotateLeft_2 3 rfl rfl)
theorem dJ29_rotateLeft_49 : decode cJ29_rotateLeft 49 = .ok (.dup, 1) := dk_89 (dk_at dksJ29_rotateLeft_2 4 rfl rfl)
theorem dJ29_rotateLeft_50 : decode cJ29_rotateLeft 50 = .ok (.astore_n 0, 1) := dk_75 (dk_at dksJ29_rotateLeft_2 5 rfl rfl)
theorem dJ29_rotateLeft_51 : decode cJ29_rotateLeft 51 = .ok (.iconst 0, 1) := dk_3 (dk_at dksJ29_rotateLeft_2 6 rfl rfl)
theorem dJ29_rotateLeft_52 : decode cJ29_rotateLeft 52 = .ok (.putfield 93, 3) := dk_181 0 93 (dk_at dksJ29_rotateLeft_2 7 rfl rfl)
theorem dJ29_rotateLeft_55 : decode cJ29_rotateLeft 55 = .ok (.goto 24, 3) := dk_167 0 24 (dk_at dksJ29_rotateLeft_2 10 rfl rfl)
theorem dJ29_rotateLeft_58 : decode cJ29_rotateLeft 58 = .ok (.aload_n 3, 1) := dk_45 (dk_at dksJ29_rotateLeft_2 13 rfl rfl)
theorem dJ29_rotateLeft_59 : decode cJ29_rotateLeft 59 = .ok (.getfield 39, 3) := dk_180 0 39 (dk_at dksJ29_rotateLeft_2 14 rfl rfl)
theorem dJ29_rotateLeft_62 : decode cJ29_rotateLeft 62 = .ok (.aload_n 1, 1) := dk_43 (dk_at dksJ29_rotateLeft_2 17 rfl rfl)
theorem dJ29_rotateLeft_63 : decode cJ29_rotateLeft 63 = .ok (.if_acmp .ne 11, 3) := dk_166 0 11 (dk_at dksJ29_rotateLeft_2 18 rfl rfl)
theorem dJ29_rotateLeft_66 : decode cJ29_rotateLeft 66 = .ok (.aload_n 3, 1) := dk_45 (dk_at dksJ29_rotateLeft_2 21 rfl rfl)
theorem dJ29_rotateLeft_67 : decode cJ29_rotateLeft 67 = .ok (.aload_n 2, 1) := dk_44 (dk_at dksJ29_rotateLeft_2 22 rfl rfl)
theorem dJ29_rotateLeft_68 : decode cJ29_rotateLeft 68 = .ok (.putfield 39, 3) := dk_181 0 39 (dk_at dksJ29_rotateLeft_3 0 rfl rfl)
theorem dJ29_rotateLeft_71 : decode cJ29_rotateLeft 71 = .ok (.goto 8, 3) := dk_167 0 8 (dk_at dksJ29_rotateLeft_3 3 rfl rfl)
theorem dJ29_rotateLeft_74 : decode cJ29_rotateLeft 74 = .ok (.aload_n 3, 1) := dk_45 (dk_at dksJ29_rotateLeft_3 6 rfl rfl)
theorem dJ29_rotateLeft_75 : decode cJ29_rotateLeft 75 = .ok (.aload_n 2, 1) := dk_44 (dk_at dksJ29_rotateLeft_3 7 rfl rfl)
theorem dJ29_rotateLeft_76 : decode cJ29_rotateLeft 76 = .ok (.putfield 42, 3) := dk_181 0 42 (dk_at dksJ29_rotateLeft_3 8 rfl rfl)
theorem dJ29_rotateLeft_79 : decode cJ29_rotateLeft 79 = .ok (.aload_n 2, 1) := dk_44 (dk_at dksJ29_rotateLeft_3 11 rfl rfl)
theorem dJ29_rotateLeft_80 : decode cJ29_rotateLeft 80 = .ok (.aload_n 1, 1) := dk_43 (dk_at dksJ29_rotateLeft_3 12 rfl rfl)
theorem dJ29_rotateLeft_81 : decode cJ29_rotateLeft 81 = .ok (.putfield 39, 3) := dk_181 0 39 (dk_at dksJ29_rotateLeft_3 13 rfl rfl)
theorem dJ29_rotateLeft_84 : decode cJ29_rotateLeft 84 = .ok (.aload_n 1, 1) := dk_43 (dk_at dksJ29_rotateLeft_3 16 rfl rfl)
theorem dJ29_rotateLeft_85 : decode cJ29_rotateLeft 85 = .ok (.aload_n 2, 1) := dk_44 (dk_at dksJ29_rotateLeft_3 17 rfl rfl)
theorem dJ29_rotateLeft_86 : decode cJ29_rotateLeft 86 = .ok (.putfield 9, 3) := dk_181 0 9 (dk_at dksJ29_rotateLeft_3 18 rfl rfl)
theorem dJ29_rotateLeft_89 : decode cJ29_rotateLeft 89 = .ok (.aload_n 0, 1) := dk_42 (dk_at dksJ29_rotateLeft_3 21 rfl rfl)
theorem dJ29_rotateLeft_90 : decode cJ29_rotateLeft 90 = .ok (.areturn, 1) := dk_176 (dk_at dksJ29_rotateLeft_3 22 rfl rfl)
abbrev cJ29_rotateRight : ByteArray := prog_49_method_13_code
def yJ29_rotateRight : MethodName := ⟨RJ29, "rotateRight", "(Ljava/util/HashMap$TreeNode;Ljava/util/HashMap$TreeNode;)Ljava/util/HashMap$TreeNode;"⟩
def dkwJ29_rotateRight_3 : List UInt8 := [181, 0, 42, 167, 0, 8, 45, 44, 181, 0, 39, 44, 43, 181, 0, 42, 43, 44, 181, 0, 9, 42, 176]
abbrev dktJ29_rotateRight_3 : List UInt8 := dkwJ29_rotateRight_3 ++ []
def dkwJ29_rotateRight_2 : List UInt8 := [199, 0, 13, 44, 89, 75, 3, 181, 0, 93, 167, 0, 24, 45, 180, 0, 42, 43, 166, 0, 11, 45, 44]
abbrev dktJ29_rotateRight_2 : List UInt8 := dkwJ29_rotateRight_2 ++ dktJ29_rotateRight_3
def dkwJ29_rotateRight_1 : List UInt8 := [58, 4, 198, 0, 9, 25, 4, 43, 181, 0, 9, 44, 43, 180, 0, 9, 90, 181, 0, 9, 89, 78]
abbrev dktJ29_rotateRight_1 : List UInt8 := dkwJ29_rotateRight_1 ++ dktJ29_rotateRight_2
def dkwJ29_rotateRight_0 : List UInt8 := [43, 198, 0, 88, 43, 180, 0, 39, 89, 77, 198, 0, 79, 43, 44, 180, 0, 42, 90, 181, 0, 39, 89]
abbrev dktJ29_rotateRight_0 : List UInt8 := dkwJ29_rotateRight_0 ++ dktJ29_rotateRight_1
theorem dksJ29_rotateRight_0 : cJ29_rotateRight.data.toList.drop 0 = dktJ29_rotateRight_0 := by decide +kernel
theorem dksJ29_rotateRight_1 : cJ29_rotateRight.data.toList.drop 23 = dktJ29_rotateRight_1 := dk_seg dksJ29_rotateRight_0 23 rfl rfl
theorem dksJ29_rotateRight_2 : cJ29_rotateRight.data.toList.drop 45 = dktJ29_rotateRight_2 := dk_seg dksJ29_rotateRight_1 22 rfl rfl
theorem dksJ29_rotateRight_3 : cJ29_rotateRight.data.toList.drop 68 = dktJ29_rotateRight_3 := dk_seg dksJ29_rotateRight_2 23 rfl rfl
theorem dJ29_rotateRight_0 : decode cJ29_rotateRight 0 = .ok (.aload_n 1, 1) := dk_43 (dk_at dksJ29_rotateRight_0 0 rfl rfl)
theorem dJ29_rotateRight_1 : decode cJ29_rotateRight 1 = .ok (.ifnull 88, 3) := dk_198 0 88 (dk_at dksJ29_rotateRight_0 1 rfl rfl)
theorem dJ29_rotateRight_4 : decode cJ29_rotateRight 4 = .ok (.aload_n 1, 1) := dk_43 (dk_at dksJ29_rotateRight_0 4 rfl rfl)
theorem dJ29_rotateRight_5 : decode cJ29_rotateRight 5 = .ok (.getfield 39, 3) := dk_180 0 39 (dk_at dksJ29_rotateRight_0 5 rfl rfl)
theorem dJ29_rotateRight_8 : decode cJ29_rotateRight 8 = .ok (.dup, 1) := dk_89 (dk_at dksJ29_rotateRight_0 8 rfl rfl)
theorem dJ29_rotateRight_9 : decode cJ29_rotateRight 9 = .ok (.astore_n 2, 1) := dk_77 (dk_at dksJ29_rotateRight_0 9 rfl rfl)
theorem dJ29_rotateRight_10 : decode cJ29_rotateRight 10 = .ok (.ifnull 79, 3) := dk_198 0 79 (dk_at dksJ29_rotateRight_0 10 rfl rfl)
theorem dJ29_rotateRight_13 : decode cJ29_rotateRight 13 = .ok (.aload_n 1, 1) := dk_43 (dk_at dksJ29_rotateRight_0 13 rfl rfl)
theorem dJ29_rotateRight_14 : decode cJ29_rotateRight 14 = .ok (.aload_n 2, 1) := dk_44 (dk_at dksJ29_rotateRight_0 14 rfl rfl)
theorem dJ29_rotateRight_15 : decode cJ29_rotateRight 15 = .ok (.getfield 42, 3) := dk_180 0 42 (dk_at dksJ29_rotateRight_0 15 rfl rfl)
theorem dJ29_rotateRight_18 : decode cJ29_rotateRight 18 = .ok (.dup_x1, 1) := dk_90 (dk_at dksJ29_rotateRight_0 18 rfl rfl)
theorem dJ29_rotateRight_19 : decode cJ29_rotateRight 19 = .ok (.putfield 39, 3) := dk_181 0 39 (dk_at dksJ29_rotateRight_0 19 rfl rfl)
theorem dJ29_rotateRight_22 : decode cJ29_rotateRight 22 = .ok (.dup, 1) := dk_89 (dk_at dksJ29_rotateRight_0 22 rfl rfl)
theorem dJ29_rotateRight_23 : decode cJ29_rotateRight 23 = .ok (.astore 4, 2) := dk_58 4 (dk_at dksJ29_rotateRight_1 0 rfl rfl)
theorem dJ29_rotateRight_25 : decode cJ29_rotateRight 25 = .ok (.ifnull 9, 3) := dk_198 0 9 (dk_at dksJ29_rotateRight_1 2 rfl rfl)
theorem dJ29_rotateRight_28 : decode cJ29_rotateRight 28 = .ok (.aload 4, 2) := dk_25 4 (dk_at dksJ29_rotateRight_1 5 rfl rfl)
theorem dJ29_rotateRight_30 : decode cJ29_rotateRight 30 = .ok (.aload_n 1, 1) := dk_43 (dk_at dksJ29_rotateRight_1 7 rfl rfl)
theorem dJ29_rotateRight_31 : decode cJ29_rotateRight 31 = .ok (.putfield 9, 3) := dk_181 0 9 (dk_at dksJ29_rotateRight_1 8 rfl rfl)
theorem dJ29_rotateRight_34 : decode cJ29_rotateRight 34 = .ok (.aload_n 2, 1) := dk_44 (dk_at dksJ29_rotateRight_1 11 rfl rfl)
theorem dJ29_rotateRight_35 : decode cJ29_rotateRight 35 = .ok (.aload_n 1, 1) := dk_43 (dk_at dksJ29_rotateRight_1 12 rfl rfl)
theorem dJ29_rotateRight_36 : decode cJ29_rotateRight 36 = .ok (.getfield 9, 3) := dk_180 0 9 (dk_at dksJ29_rotateRight_1 13 rfl rfl)
theorem dJ29_rotateRight_39 : decode cJ29_rotateRight 39 = .ok (.dup_x1, 1) := dk_90 (dk_at dksJ29_rotateRight_1 16 rfl rfl)
theorem dJ29_rotateRight_40 : decode cJ29_rotateRight 40 = .ok (.putfield 9, 3) := dk_181 0 9 (dk_at dksJ29_rotateRight_1 17 rfl rfl)
theorem dJ29_rotateRight_43 : decode cJ29_rotateRight 43 = .ok (.dup, 1) := dk_89 (dk_at dksJ29_rotateRight_1 20 rfl rfl)
theorem dJ29_rotateRight_44 : decode cJ29_rotateRight 44 = .ok (.astore_n 3, 1) := dk_78 (dk_at dksJ29_rotateRight_1 21 rfl rfl)
theorem dJ29_rotateRight_45 : decode cJ29_rotateRight 45 = .ok (.ifnonnull 13, 3) := dk_199 0 13 (dk_at dksJ29_rotateRight_2 0 rfl rfl)
theorem dJ29_rotateRight_48 : decode cJ29_rotateRight 48 = .ok (.aload_n 2, 1) := dk_44 (dk_at dksJ29_rotateRight_2 3 rfl rfl)
theorem dJ29_rotateRight_49 : decode cJ29_rotateRight 49 = .ok (.dup, 1) := dk_89 (dk_at dksJ29_rotateRight_2 4 rfl rfl)
theorem dJ29_rotateRight_50 : decode cJ29_rotateRight 50 = .ok (.astore_n 0, 1) := dk_75 (dk_at dksJ29_rotateRight_2 5 rfl rfl)
theorem dJ29_rotateRight_51 : decode cJ29_rotateRight 51 = .ok (.iconst 0, 1) := dk_3 (dk_at dksJ29_rotateRight_2 6 rfl rfl)
theorem dJ29_rotateRight_52 : decode cJ29_rotateRight 52 = .ok (.putfield 93, 3) := dk_181 0 93 (dk_at dksJ29_rotateRight_2 7 rfl rfl)
theorem dJ29_rotateRight_55 : decode cJ29_rotateRight 55 = .ok (.goto 24, 3) := dk_167 0 24 (dk_at dksJ29_rotateRight_2 10 rfl rfl)
theorem dJ29_rotateRight_58 : decode cJ29_rotateRight 58 = .ok (.aload_n 3, 1) := dk_45 (dk_at dksJ29_rotateRight_2 13 rfl rfl)
theorem dJ29_rotateRight_59 : decode cJ29_rotateRight 59 = .ok (.getfield 42, 3) := dk_180 0 42 (dk_at dksJ29_rotateRight_2 14 rfl rfl)
theorem dJ29_rotateRight_62 : decode cJ29_rotateRight 62 = .ok (.aload_n 1, 1) := dk_43 (dk_at dksJ29_rotateRight_2 17 rfl rfl)
theorem dJ29_rotateRight_63 : decode cJ29_rotateRight 63 = .ok (.if_acmp .ne 11, 3) := dk_166 0 11 (dk_at dksJ29_rotateRight_2 18 rfl rfl)
theorem dJ29_rotateRight_66 : decode cJ29_rotateRight 66 = .ok (.aload_n 3, 1) := dk_45 (dk_at dksJ29_rotateRight_2 21 rfl rfl)
theorem dJ29_rotateRight_67 : decode cJ29_rotateRight 67 = .ok (.aload_n 2, 1) := dk_44 (dk_at dksJ29_rotateRight_2 22 rfl rfl)
theorem dJ29_rotateRight_68 : decode cJ29_rotateRight 68 = .ok (.putfield 42, 3) := dk_181 0 42 (dk_at dksJ29_rotateRight_3 0 rfl rfl)
theorem dJ29_rotateRight_71 : decode cJ29_rotateRight 71 = .ok (.goto 8, 3) := dk_167 0 8 (dk_at dksJ29_rotateRight_3 3 rfl rfl)
theorem dJ29_rotateRight_74 : decode cJ29_rotateRight 74 = .ok (.aload_n 3, 1) := dk_45 (dk_at dksJ29_rotateRight_3 6 rfl rfl)
theorem dJ29_rotateRight_75 : decode cJ29_rotateRight 75 = .ok (.aload_n 2, 1) := dk_44 (dk_at dksJ29_rotateRight_3 7 rfl rfl)
theorem dJ29_rotateRight_76 : decode cJ29_rotateRight 76 = .ok (.putfield 39, 3) := dk_181 0 39 (dk_at dksJ29_rotateRight_3 8 rfl rfl)
theorem dJ29_rotateRight_79 : decode cJ29_rotateRight 79 = .ok (.aload_n 2, 1) := dk_44 (dk_at dksJ29_rotateRight_3 11 rfl rfl)
theorem dJ29_rotateRight_80 : decode cJ29_rotateRight 80 = .ok (.aload_n 1, 1) := dk_43 (dk_at dksJ29_rotateRight_3 12 rfl rfl)
theorem dJ29_rotateRight_81 : decode cJ29_rotateRight 81 = .ok (.putfield 42, 3) := dk_181 0 42 (dk_at dksJ29_rotateRight_3 13 rfl rfl)
theorem dJ29_rotateRight_84 : decode cJ29_rotateRight 84 = .ok (.aload_n 1, 1) := dk_43 (dk_at dksJ29_rotateRight_3 16 rfl rfl)
theorem dJ29_rotateRight_85 : decode cJ29_rotateRight 85 = .ok (.aload_n 2, 1) := dk_44 (dk_at dksJ29_rotateRight_3 17 rfl rfl)
theorem dJ29_rotateRight_86 : decode cJ29_rotateRight 86 = .ok (.putfield 9, 3) := dk_181 0 9 (dk_at dksJ29_rotateRight_3 18 rfl rfl)
theorem dJ29_rotateRight_89 : decode cJ29_rotateRight 89 = .ok (.aload_n 0, 1) := dk_42 (dk_at dksJ29_rotateRight_3 21 rfl rfl)
theorem dJ29_rotateRight_90 : decode cJ29_rotateRight 90 = .ok (.areturn, 1) := dk_176 (dk_at dksJ29_rotateRight_3 22 rfl rfl)
abbrev cJ29_moveRootToFront : ByteArray := prog_49_method_3_code
def yJ29_moveRootToFront : MethodName := ⟨RJ29, "moveRootToFront", "([Ljava/util/HashMap$Node;Ljava/util/HashMap$TreeNode;)V"⟩
def dkwJ29_moveRootToFront_5 : List UInt8 := [89, 183, 0, 36, 191, 177]
abbrev dktJ29_moveRootToFront_5 : List UInt8 := dkwJ29_moveRootToFront_5 ++ []
def dkwJ29_moveRootToFront_4 : List UInt8 := [181, 0, 22, 43, 1, 181, 0, 19, 178, 0, 26, 154, 0, 18, 43, 184, 0, 30, 154, 0, 11, 187, 0, 34]
abbrev dktJ29_moveRootToFront_4 : List UInt8 := dkwJ29_moveRootToFront_4 ++ dktJ29_moveRootToFront_5
def dkwJ29_moveRootToFront_3 : List UInt8 := [198, 0, 10, 25, 6, 25, 5, 181, 0, 22, 25, 4, 198, 0, 9, 25, 4, 43, 181, 0, 19, 43, 25, 4]
abbrev dktJ29_moveRootToFront_3 : List UInt8 := dkwJ29_moveRootToFront_3 ++ dktJ29_moveRootToFront_4
def dkwJ29_moveRootToFront_2 : List UInt8 := [43, 180, 0, 22, 89, 58, 5, 198, 0, 13, 25, 5, 192, 0, 10, 25, 6, 181, 0, 19, 25, 6]
abbrev dktJ29_moveRootToFront_2 : List UInt8 := dkwJ29_moveRootToFront_2 ++ dktJ29_moveRootToFront_3
def dkwJ29_moveRootToFront_1 : List UInt8 := [42, 29, 50, 192, 0, 10, 58, 4, 43, 25, 4, 165, 0, 67, 42, 29, 43, 83, 43, 180, 0, 19, 58, 6]
abbrev dktJ29_moveRootToFront_1 : List UInt8 := dkwJ29_moveRootToFront_1 ++ dktJ29_moveRootToFront_2
def dkwJ29_moveRootToFront_0 : List UInt8 := [43, 198, 0, 122, 42, 198, 0, 118, 42, 190, 89, 61, 158, 0, 111, 28, 4, 100, 43, 180, 0, 15, 126, 62]
abbrev dktJ29_moveRootToFront_0 : List UInt8 := dkwJ29_moveRootToFront_0 ++ dktJ29_moveRootToFront_1
theorem dksJ29_moveRootToFront_0 : cJ29_moveRootToFront.data.toList.drop 0 = dktJ29_moveRootToFront_0 := by decide +kernel
theorem dksJ29_moveRootToFront_1 : cJ29_moveRootToFront.data.toList.drop 24 = dktJ29_moveRootToFront_1 := dk_seg dksJ29_moveRootToFront_0 24 rfl rfl
theorem dksJ29_moveRootToFront_2 : cJ29_moveRootToFront.data.toList.drop 48 = dktJ29_moveRootToFront_2 := dk_seg dksJ29_moveRootToFront_1 24 rfl rfl
theorem dksJ29_moveRootToFront_3 : cJ29_moveRootToFront.data.toList.drop 70 = dktJ29_moveRootToFront_3 := dk_seg dksJ29_moveRootToFront_2 22 rfl rfl
theorem dksJ29_moveRootToFront_4 : cJ29_moveRootToFront.data.toList.drop 94 = dktJ29_moveRootToFront_4 := dk_seg dksJ29_moveRootToFront_3 24 rfl rfl
theorem dksJ29_moveRootToFront_5 : cJ29_moveRootToFront.data.toList.drop 118 = dktJ29_moveRootToFront_5 := dk_seg dksJ29_moveRootToFront_4 24 rfl rfl
theorem dJ29_moveRootToFront_0 : decode cJ29_moveRootToFront 0 = .ok (.aload_n 1, 1) := dk_43 (dk_at dksJ29_moveRootToFront_0 0 rfl rfl)
theorem dJ29_moveRootToFront_1 : decode cJ29_moveRootToFront 1 = .ok (.ifnull 122, 3) := dk_198 0 122 (dk_at dksJ29_moveRootToFront_0 1 rfl rfl)
theorem dJ29_moveRootToFront_4 : decode cJ29_moveRootToFront 4 = .ok (.aload_n 0, 1) := dk_42 (dk_at dksJ29_moveRootToFront_0 4 rfl rfl)
theorem dJ29_moveRootToFront_5 : decode cJ29_moveRootToFront 5 = .ok (.ifnull 118, 3) := dk_198 0 118 (dk_at dksJ29_moveRootToFront_0 5 rfl rfl)
theorem dJ29_moveRootToFront_8 : decode cJ29_moveRootToFront 8 = .ok (.aload_n 0, 1) := dk_42 (dk_at dksJ29_moveRootToFront_0 8 rfl rfl)
theorem dJ29_moveRootToFront_9 : decode cJ29_moveRootToFront 9 = .ok (.arraylength, 1) := dk_190 (dk_at dksJ29_moveRootToFront_0 9 rfl rfl)
theorem dJ29_moveRootToFront_10 : decode cJ29_moveRootToFront 10 = .ok (.dup, 1) := dk_89 (dk_at dksJ29_moveRootToFront_0 10 rfl rfl)
theorem dJ29_moveRootToFront_11 : decode cJ29_moveRootToFront 11 = .ok (.istore_n 2, 1) := dk_61 (dk_at dksJ29_moveRootToFront_0 11 rfl rfl)
theorem dJ29_moveRootToFront_12 : decode cJ29_moveRootToFront 12 = .ok (.ifCond .le 111, 3) := dk_158 0 111 (dk_at dksJ29_moveRootToFront_0 12 rfl rfl)
theorem dJ29_moveRootToFront_15 : decode cJ29_moveRootToFront 15 = .ok (.iload_n 2, 1) := dk_28 (dk_at dksJ29_moveRootToFront_0 15 rfl rfl)
theorem dJ29_moveRootToFront_16 : decode cJ29_moveRootToFront 16 = .ok (.iconst 1, 1) := dk_4 (dk_at dksJ29_moveRootToFront_0 16 rfl rfl)
theorem dJ29_moveRootToFront_17 : decode cJ29_moveRootToFront 17 = .ok (.isub, 1) := dk_100 (dk_at dksJ29_moveRootToFront_0 17 rfl rfl)
theorem dJ29_moveRootToFront_18 : decode cJ29_moveRootToFront 18 = .ok (.aload_n 1, 1) := dk_43 (dk_at dksJ29_moveRootToFront_0 18 rfl rfl)
theorem dJ29_moveRootToFront_19 : decode cJ29_moveRootToFront 19 = .ok (.getfield 15, 3) := dk_180 0 15 (dk_at dksJ29_moveRootToFront_0 19 rfl rfl)
theorem dJ29_moveRootToFront_22 : decode cJ29_moveRootToFront 22 = .ok (.iand, 1) := dk_126 (dk_at dksJ29_moveRootToFront_0 22 rfl rfl)
theorem dJ29_moveRootToFront_23 : decode cJ29_moveRootToFront 23 = .ok (.istore_n 3, 1) := dk_62 (dk_at dksJ29_moveRootToFront_0 23 rfl rfl)
theorem dJ29_moveRootToFront_24 : decode cJ29_moveRootToFront 24 = .ok (.aload_n 0, 1) := dk_42 (dk_at dksJ29_moveRootToFront_1 0 rfl rfl)
theorem dJ29_moveRootToFront_25 : decode cJ29_moveRootToFront 25 = .ok (.iload_n 3, 1) := dk_29 (dk_at dksJ29_moveRootToFront_1 1 rfl rfl)
theorem dJ29_moveRootToFront_26 : decode cJ29_moveRootToFront 26 = .ok (.aaload, 1) := dk_50 (dk_at dksJ29_moveRootToFront_1 2 rfl rfl)
theorem dJ29_moveRootToFront_27 : decode cJ29_moveRootToFront 27 = .ok (.checkcast 10, 3) := dk_192 0 10 (dk_at dksJ29_moveRootToFront_1 3 rfl rfl)
theorem dJ29_moveRootToFront_30 : decode cJ29_moveRootToFront 30 = .ok (.astore 4, 2) := dk_58 4 (dk_at dksJ29_moveRootToFront_1 6 rfl rfl)
theorem dJ29_moveRootToFront_32 : decode cJ29_moveRootToFront 32 = .ok (.aload_n 1, 1) := dk_43 (dk_at dksJ29_moveRootToFront_1 8 rfl rfl)
theorem dJ29_moveRootToFront_33 : decode cJ29_moveRootToFront 33 = .ok (.aload 4, 2) := dk_25 4 (dk_at dksJ29_moveRootToFront_1 9 rfl rfl)
theorem dJ29_moveRootToFront_35 : decode cJ29_moveRootToFront 35 = .ok (.if_acmp .eq 67, 3) := dk_165 0 67 (dk_at dksJ29_moveRootToFront_1 11 rfl rfl)
theorem dJ29_moveRootToFront_38 : decode cJ29_moveRootToFront 38 = .ok (.aload_n 0, 1) := dk_42 (dk_at dksJ29_moveRootToFront_1 14 rfl rfl)
theorem dJ29_moveRootToFront_39 : decode cJ29_moveRootToFront 39 = .ok (.iload_n 3, 1) := dk_29 (dk_at dksJ29_moveRootToFront_1 15 rfl rfl)
theorem dJ29_moveRootToFront_40 : decode cJ29_moveRootToFront 40 = .ok (.aload_n 1, 1) := dk_43 (dk_at dksJ29_moveRootToFront_1 16 rfl rfl)
theorem dJ29_moveRootToFront_41 : decode cJ29_moveRootToFront 41 = .ok (.aastore, 1) := dk_83 (dk_at dksJ29_moveRootToFront_1 17 rfl rfl)
theorem dJ29_moveRootToFront_42 : decode cJ29_moveRootToFront 42 = .ok (.aload_n 1, 1) := dk_43 (dk_at dksJ29_moveRootToFront_1 18 rfl rfl)
theorem dJ29_moveRootToFront_43 : decode cJ29_moveRootToFront 43 = .ok (.getfield 19, 3) := dk_180 0 19 (dk_at dksJ29_moveRootToFront_1 19 rfl rfl)
theorem dJ29_moveRootToFront_46 : decode cJ29_moveRootToFront 46 = .ok (.astore 6, 2) := dk_58 6 (dk_at dksJ29_moveRootToFront_1 22 rfl rfl)
theorem dJ29_moveRootToFront_48 : decode cJ29_moveRootToFront 48 = .ok (.aload_n 1, 1) := dk_43 (dk_at dksJ29_moveRootToFront_2 0 rfl rfl)
theorem dJ29_moveRootToFront_49 : decode cJ29_moveRootToFront 49 = .ok (.getfield 22, 3) := dk_180 0 22 (dk_at dksJ29_moveRootToFront_2 1 rfl rfl)
theorem dJ29_moveRootToFront_52 : decode cJ29_moveRootToFront 52 = .ok (.dup, 1) := dk_89 (dk_at dksJ29_moveRootToFront_2 4 rfl rfl)
theorem dJ29_moveRootToFront_53 : decode cJ29_moveRootToFront 53 = .ok (.astore 5, 2) := dk_58 5 (dk_at dksJ29_moveRootToFront_2 5 rfl rfl)
theorem dJ29_moveRootToFront_55 : decode cJ29_moveRootToFront 55 = .ok (.ifnull 13, 3) := dk_198 0 13 (dk_at dksJ29_moveRootToFront_2 7 rfl rfl)
theorem dJ29_moveRootToFront_58 : decode cJ29_moveRootToFront 58 = .ok (.aload 5, 2) := dk_25 5 (dk_at dksJ29_moveRootToFront_2 10 rfl rfl)
theorem dJ29_moveRootToFront_60 : decode cJ29_moveRootToFront 60 = .ok (.checkcast 10, 3) := dk_192 0 10 (dk_at dksJ29_moveRootToFront_2 12 rfl rfl)
theorem dJ29_moveRootToFront_63 : decode cJ29_moveRootToFront 63 = .ok (.aload 6, 2) := dk_25 6 (dk_at dksJ29_moveRootToFront_2 15 rfl rfl)
theorem dJ29_moveRootToFront_65 : decode cJ29_moveRootToFront 65 = .ok (.putfield 19, 3) := dk_181 0 19 (dk_at dksJ29_moveRootToFront_2 17 rfl rfl)
theorem dJ29_moveRootToFront_68 : decode cJ29_moveRootToFront 68 = .ok (.aload 6, 2) := dk_25 6 (dk_at dksJ29_moveRootToFront_2 20 rfl rfl)
theorem dJ29_moveRootToFront_70 : decode cJ29_moveRootToFront 70 = .ok (.ifnull 10, 3) := dk_198 0 10 (dk_at dksJ29_moveRootToFront_3 0 rfl rfl)
theorem dJ29_moveRootToFront_73 : decode cJ29_moveRootToFront 73 = .ok (.aload 6, 2) := dk_25 6 (dk_at dksJ29_moveRootToFront_3 3 rfl rfl)
theorem dJ29_moveRootToFront_75 : decode cJ29_moveRootToFront 75 = .ok (.aload 5, 2) := dk_25 5 (dk_at dksJ29_moveRootToFront_3 5 rfl rfl)
theorem dJ29_moveRootToFront_77 : decode cJ29_moveRootToFront 77 = .ok (.putfield 22, 3) := dk_181 0 22 (dk_at dksJ29_moveRootToFront_3 7 rfl rfl)
theorem dJ29_moveRootToFront_80 : decode cJ29_moveRootToFront 80 = .ok (.aload 4, 2) := dk_25 4 (dk_at dksJ29_moveRootToFront_3 10 rfl rfl)
theorem dJ29_moveRootToFront_82 : decode cJ29_moveRootToFront 82 = .ok (.ifnull 9, 3) := dk_198 0 9 (dk_at dksJ29_moveRootToFront_3 12 rfl rfl)
theorem dJ29_moveRootToFront_85 : decode cJ29_moveRootToFront 85 = .ok (.aload 4, 2) := dk_25 4 (dk_at dksJ29_moveRootToFront_3 15 rfl rfl)
theorem dJ29_moveRootToFront_87 : decode cJ29_moveRootToFront 87 = .ok (.aload_n 1, 1) := dk_43 (dk_at dksJ29_moveRootToFront_3 17 rfl rfl)
theorem dJ29_moveRootToFront_88 : decode cJ29_moveRootToFront 88 = .ok (.putfield 19, 3) := dk_181 0 19 (dk_at dksJ29_moveRootToFront_3 18 rfl rfl)
theorem dJ29_moveRootToFront_91 : decode cJ29_moveRootToFront 91 = .ok (.aload_n 1, 1) := dk_43 (dk_at dksJ29_moveRootToFront_3 21 rfl rfl)
theorem dJ29_moveRootToFront_92 : decode cJ29_moveRootToFront 92 = .ok (.aload 4, 2) := dk_25 4 (dk_at dksJ29_moveRootToFront_3 22 rfl rfl)
theorem dJ29_moveRootToFront_94 : decode cJ29_moveRootToFront 94 = .ok (.putfield 22, 3) := dk_181 0 22 (dk_at dksJ29_moveRootToFront_4 0 rfl rfl)
theorem dJ29_moveRootToFront_97 : decode cJ29_moveRootToFront 97 = .ok (.aload_n 1, 1) := dk_43 (dk_at dksJ29_moveRootToFront_4 3 rfl rfl)
theorem dJ29_moveRootToFront_98 : decode cJ29_moveRootToFront 98 = .ok (.aconst_null, 1) := dk_1 (dk_at dksJ29_moveRootToFront_4 4 rfl rfl)
theorem dJ29_moveRootToFront_99 : decode cJ29_moveRootToFront 99 = .ok (.putfield 19, 3) := dk_181 0 19 (dk_at dksJ29_moveRootToFront_4 5 rfl rfl)
theorem dJ29_moveRootToFront_102 : decode cJ29_moveRootToFront 102 = .ok (.getstatic 26, 3) := dk_178 0 26 (dk_at dksJ29_moveRootToFront_4 8 rfl rfl)
theorem dJ29_moveRootToFront_105 : decode cJ29_moveRootToFront 105 = .ok (.ifCond .ne 18, 3) := dk_154 0 18 (dk_at dksJ29_moveRootToFront_4 11 rfl rfl)
theorem dJ29_moveRootToFront_108 : decode cJ29_moveRootToFront 108 = .ok (.aload_n 1, 1) := dk_43 (dk_at dksJ29_moveRootToFront_4 14 rfl rfl)
theorem dJ29_moveRootToFront_109 : decode cJ29_moveRootToFront 109 = .ok (.invokestatic 30, 3) := dk_184 0 30 (dk_at dksJ29_moveRootToFront_4 15 rfl rfl)
theorem dJ29_moveRootToFront_112 : decode cJ29_moveRootToFront 112 = .ok (.ifCond .ne 11, 3) := dk_154 0 11 (dk_at dksJ29_moveRootToFront_4 18 rfl rfl)
theorem dJ29_moveRootToFront_115 : decode cJ29_moveRootToFront 115 = .ok (.new 34, 3) := dk_187 0 34 (dk_at dksJ29_moveRootToFront_4 21 rfl rfl)
theorem dJ29_moveRootToFront_118 : decode cJ29_moveRootToFront 118 = .ok (.dup, 1) := dk_89 (dk_at dksJ29_moveRootToFront_5 0 rfl rfl)
theorem dJ29_moveRootToFront_119 : decode cJ29_moveRootToFront 119 = .ok (.invokespecial 36, 3) := dk_183 0 36 (dk_at dksJ29_moveRootToFront_5 1 rfl rfl)
theorem dJ29_moveRootToFront_122 : decode cJ29_moveRootToFront 122 = .ok (.athrow, 1) := dk_191 (dk_at dksJ29_moveRootToFront_5 4 rfl rfl)
theorem dJ29_moveRootToFront_123 : decode cJ29_moveRootToFront 123 = .ok (.return_, 1) := dk_177 (dk_at dksJ29_moveRootToFront_5 5 rfl rfl)
abbrev cJ29_putTreeVal : ByteArray := prog_49_method_9_code
def yJ29_putTreeVal : MethodName := ⟨RJ29, "putTreeVal", "(Ljava/util/HashMap;[Ljava/util/HashMap$Node;ILjava/lang/Object;Ljava/lang/Object;)Ljava/util/HashMap$TreeNode;"⟩
def dkwJ29_putTreeVal_13 : List UInt8 := [184, 0, 100, 184, 0, 104, 1, 176, 167, 254, 228]
abbrev dktJ29_putTreeVal_13 : List UInt8 := dkwJ29_putTreeVal_13 ++ []
def dkwJ29_putTreeVal_12 : List UInt8 := [181, 0, 9, 25, 14, 198, 0, 13, 25, 14, 192, 0, 10, 25, 15, 181, 0, 19, 44, 25, 8, 25, 15]
abbrev dktJ29_putTreeVal_12 : List UInt8 := dkwJ29_putTreeVal_12 ++ dktJ29_putTreeVal_13
def dkwJ29_putTreeVal_11 : List UInt8 := [25, 15, 181, 0, 42, 25, 13, 25, 15, 181, 0, 22, 25, 15, 25, 15, 25, 13, 90, 181, 0, 19]
abbrev dktJ29_putTreeVal_11 : List UInt8 := dkwJ29_putTreeVal_11 ++ dktJ29_putTreeVal_12
def dkwJ29_putTreeVal_10 : List UInt8 := [25, 14, 182, 0, 115, 58, 15, 21, 10, 157, 0, 13, 25, 13, 25, 15, 181, 0, 39, 167, 0, 10, 25, 13]
abbrev dktJ29_putTreeVal_10 : List UInt8 := dkwJ29_putTreeVal_10 ++ dktJ29_putTreeVal_11
def dkwJ29_putTreeVal_9 : List UInt8 := [25, 9, 180, 0, 42, 89, 58, 9, 199, 0, 93, 25, 13, 180, 0, 22, 58, 14, 43, 29, 25, 4, 25, 5]
abbrev dktJ29_putTreeVal_9 : List UInt8 := dkwJ29_putTreeVal_9 ++ dktJ29_putTreeVal_10
def dkwJ29_putTreeVal_8 : List UInt8 := [25, 12, 184, 0, 96, 54, 10, 25, 9, 58, 13, 21, 10, 157, 0, 11, 25, 9, 180, 0, 39, 167, 0, 8]
abbrev dktJ29_putTreeVal_8 : List UInt8 := dkwJ29_putTreeVal_8 ++ dktJ29_putTreeVal_9
def dkwJ29_putTreeVal_7 : List UInt8 := [198, 0, 22, 25, 14, 29, 25, 4, 25, 6, 182, 0, 63, 89, 58, 13, 198, 0, 6, 25, 13, 176, 25, 4]
abbrev dktJ29_putTreeVal_7 : List UInt8 := dkwJ29_putTreeVal_7 ++ dktJ29_putTreeVal_8
def dkwJ29_putTreeVal_6 : List UInt8 := [29, 25, 4, 25, 6, 182, 0, 63, 89, 58, 13, 199, 0, 30, 25, 9, 180, 0, 42, 89, 58, 14]
abbrev dktJ29_putTreeVal_6 : List UInt8 := dkwJ29_putTreeVal_6 ++ dktJ29_putTreeVal_7
def dkwJ29_putTreeVal_5 : List UInt8 := [154, 0, 77, 21, 7, 154, 0, 63, 4, 54, 7, 25, 9, 180, 0, 39, 89, 58, 14, 198, 0, 19, 25, 14]
abbrev dktJ29_putTreeVal_5 : List UInt8 := dkwJ29_putTreeVal_5 ++ dktJ29_putTreeVal_6
def dkwJ29_putTreeVal_4 : List UInt8 := [25, 4, 184, 0, 55, 89, 58, 6, 198, 0, 18, 25, 6, 25, 4, 25, 12, 184, 0, 59, 89, 54, 10]
abbrev dktJ29_putTreeVal_4 : List UInt8 := dkwJ29_putTreeVal_4 ++ dktJ29_putTreeVal_5
def dkwJ29_putTreeVal_3 : List UInt8 := [25, 4, 198, 0, 16, 25, 4, 25, 12, 182, 0, 49, 153, 0, 6, 25, 9, 176, 25, 6, 199, 0, 14]
abbrev dktJ29_putTreeVal_3 : List UInt8 := dkwJ29_putTreeVal_3 ++ dktJ29_putTreeVal_4
def dkwJ29_putTreeVal_2 : List UInt8 := [29, 162, 0, 9, 4, 54, 10, 167, 0, 139, 25, 9, 180, 0, 45, 89, 58, 12, 25, 4, 165, 0, 18]
abbrev dktJ29_putTreeVal_2 : List UInt8 := dkwJ29_putTreeVal_2 ++ dktJ29_putTreeVal_3
def dkwJ29_putTreeVal_1 : List UInt8 := [25, 8, 58, 9, 25, 9, 180, 0, 15, 89, 54, 11, 29, 164, 0, 9, 2, 54, 10, 167, 0, 151, 21, 11]
abbrev dktJ29_putTreeVal_1 : List UInt8 := dkwJ29_putTreeVal_1 ++ dktJ29_putTreeVal_2
def dkwJ29_putTreeVal_0 : List UInt8 := [1, 58, 6, 3, 54, 7, 42, 180, 0, 9, 198, 0, 10, 42, 182, 0, 67, 167, 0, 4, 42, 58, 8]
abbrev dktJ29_putTreeVal_0 : List UInt8 := dkwJ29_putTreeVal_0 ++ dktJ29_putTreeVal_1
theorem dksJ29_putTreeVal_0 : cJ29_putTreeVal.data.toList.drop 0 = dktJ29_putTreeVal_0 := by decide +kernel
theorem dksJ29_putTreeVal_1 : cJ29_putTreeVal.data.toList.drop 23 = dktJ29_putTreeVal_1 := dk_seg dksJ29_putTreeVal_0 23 rfl rfl
theorem dksJ29_putTreeVal_2 : cJ29_putTreeVal.data.toList.drop 47 = dktJ29_putTreeVal_2 := dk_seg dksJ29_putTreeVal_1 24 rfl rfl
theorem dksJ29_putTreeVal_3 : cJ29_putTreeVal.data.toList.drop 70 = dktJ29_putTreeVal_3 := dk_seg dksJ29_putTreeVal_2 23 rfl rfl
theorem dksJ29_putTreeVal_4 : cJ29_putTreeVal.data.toList.drop 93 = dktJ29_putTreeVal_4 := dk_seg dksJ29_putTreeVal_3 23 rfl rfl
theorem dksJ29_putTreeVal_5 : cJ29_putTreeVal.data.toList.drop 116 = dktJ29_putTreeVal_5 := dk_seg dksJ29_putTreeVal_4 23 rfl rfl
theorem dksJ29_putTreeVal_6 : cJ29_putTreeVal.data.toList.drop 140 = dktJ29_putTreeVal_6 := dk_seg dksJ29_putTreeVal_5 24 rfl rfl
theorem dksJ29_putTreeVal_7 : cJ29_putTreeVal.data.toList.drop 162 = dktJ29_putTreeVal_7 := dk_seg dksJ29_putTreeVal_6 22 rfl rfl
theorem dksJ29_putTreeVal_8 : cJ29_putTreeVal.data.toList.drop 186 = dktJ29_putTreeVal_8 := dk_seg dksJ29_putTreeVal_7 24 rfl rfl
theorem dksJ29_putTreeVal_9 : cJ29_putTreeVal.data.toList.drop 210 = dktJ29_putTreeVal_9 := dk_seg dksJ29_putTreeVal_8 24 rfl rfl
theorem dksJ29_putTreeVal_10 : cJ29_putTreeVal.data.toList.drop 234 = dktJ29_putTreeVal_10 := dk_seg dksJ29_putTreeVal_9 24 rfl rfl
theorem dksJ29_putTreeVal_11 : cJ29_putTreeVal.data.toList.drop 258 = dktJ29_putTreeVal_11 := dk_seg dksJ29_putTreeVal_10 24 rfl rfl
theorem dksJ29_putTreeVal_12 : cJ29_putTreeVal.data.toList.drop 280 = dktJ29_putTreeVal_12 := dk_seg dksJ29_putTreeVal_11 22 rfl rfl
theorem dksJ29_putTreeVal_13 : cJ29_putTreeVal.data.toList.drop 303 = dktJ29_putTreeVal_13 := dk_seg dksJ29_putTreeVal_12 23 rfl rfl
theorem dJ29_putTreeVal_0 : decode cJ29_putTreeVal 0 = .ok (.aconst_null, 1) := dk_1 (dk_at dksJ29_putTreeVal_0 0 rfl rfl)
theorem dJ29_putTreeVal_1 : decode cJ29_putTreeVal 1 = .ok (.astore 6, 2) := dk_58 6 (dk_at dksJ29_putTreeVal_0 1 rfl rfl)
theorem dJ29_putTreeVal_3 : decode cJ29_putTreeVal 3 = .ok (.iconst 0, 1) := dk_3 (dk_at dksJ29_putTreeVal_0 3 rfl rfl)
theorem dJ29_putTreeVal_4 : decode cJ29_putTreeVal 4 = .ok (.istore 7, 2) := dk_54 7 (dk_at dksJ29_putTreeVal_0 4 rfl rfl)
theorem dJ29_putTreeVal_6 : decode cJ29_putTreeVal 6 = .ok (.aload_n 0, 1) := dk_42 (dk_at dksJ29_putTreeVal_0 6 rfl rfl)
theorem dJ29_putTreeVal_7 : decode cJ29_putTreeVal 7 = .ok (.getfield 9, 3) := dk_180 0 9 (dk_at dksJ29_putTreeVal_0 7 rfl rfl)
theorem dJ29_putTreeVal_10 : decode cJ29_putTreeVal 10 = .ok (.ifnull 10, 3) := dk_198 0 10 (dk_at dksJ29_putTreeVal_0 10 rfl rfl)
theorem dJ29_putTreeVal_13 : decode cJ29_putTreeVal 13 = .ok (.aload_n 0, 1) := dk_42 (dk_at dksJ29_putTreeVal_0 13 rfl rfl)
theorem dJ29_putTreeVal_14 : decode cJ29_putTreeVal 14 = .ok (.invokevirtual 67, 3) := dk_182 0 67 (dk_at dksJ29_putTreeVal_0 14 rfl rfl)
theorem dJ29_putTreeVal_17 : decode cJ29_putTreeVal 17 = .ok (.goto 4, 3) := dk_167 0 4 (dk_at dksJ29_putTreeVal_0 17 rfl rfl)
theorem dJ29_putTreeVal_20 : decode cJ29_putTreeVal 20 = .ok (.aload_n 0, 1) := dk_42 (dk_at dksJ29_putTreeVal_0 20 rfl rfl)
theorem dJ29_putTreeVal_21 : decode cJ29_putTreeVal 21 = .ok (.astore 8, 2) := dk_58 8 (dk_at dksJ29_putTreeVal_0 21 rfl rfl)
theorem dJ29_putTreeVal_23 : decode cJ29_putTreeVal 23 = .ok (.aload 8, 2) := dk_25 8 (dk_at dksJ29_putTreeVal_1 0 rfl rfl)
theorem dJ29_putTreeVal_25 : decode cJ29_putTreeVal 25 = .ok (.astore 9, 2) := dk_58 9 (dk_at dksJ29_putTreeVal_1 2 rfl rfl)
theorem dJ29_putTreeVal_27 : decode cJ29_putTreeVal 27 = .ok (.aload 9, 2) := dk_25 9 (dk_at dksJ29_putTreeVal_1 4 rfl rfl)
theorem dJ29_putTreeVal_29 : decode cJ29_putTreeVal 29 = .ok (.getfield 15, 3) := dk_180 0 15 (dk_at dksJ29_putTreeVal_1 6 rfl rfl)
theorem dJ29_putTreeVal_32 : decode cJ29_putTreeVal 32 = .ok (.dup, 1) := dk_89 (dk_at dksJ29_putTreeVal_1 9 rfl rfl)
theorem dJ29_putTreeVal_33 : decode cJ29_putTreeVal 33 = .ok (.istore 11, 2) := dk_54 11 (dk_at dksJ29_putTreeVal_1 10 rfl rfl)
theorem dJ29_putTreeVal_35 : decode cJ29_putTreeVal 35 = .ok (.iload_n 3, 1) := dk_29 (dk_at dksJ29_putTreeVal_1 12 rfl rfl)
theorem dJ29_putTreeVal_36 : decode cJ29_putTreeVal 36 = .ok (.if_icmp .le 9, 3) := dk_164 0 9 (dk_at dksJ29_putTreeVal_1 13 rfl rfl)
theorem dJ29_putTreeVal_39 : decode cJ29_putTreeVal 39 = .ok (.iconst (-1), 1) := dk_2 (dk_at dksJ29_putTreeVal_1 16 rfl rfl)
theorem dJ29_putTreeVal_40 : decode cJ29_putTreeVal 40 = .ok (.istore 10, 2) := dk_54 10 (dk_at dksJ29_putTreeVal_1 17 rfl rfl)
theorem dJ29_putTreeVal_42 : decode cJ29_putTreeVal 42 = .ok (.goto 151, 3) := dk_167 0 151 (dk_at dksJ29_putTreeVal_1 19 rfl rfl)
theorem dJ29_putTreeVal_45 : decode cJ29_putTreeVal 45 = .ok (.iload 11, 2) := dk_21 11 (dk_at dksJ29_putTreeVal_1 22 rfl rfl)
theorem dJ29_putTreeVal_47 : decode cJ29_putTreeVal 47 = .ok (.iload_n 3, 1) := dk_29 (dk_at dksJ29_putTreeVal_2 0 rfl rfl)
theorem dJ29_putTreeVal_48 : decode cJ29_putTreeVal 48 = .ok (.if_icmp .ge 9, 3) := dk_162 0 9 (dk_at dksJ29_putTreeVal_2 1 rfl rfl)
theorem dJ29_putTreeVal_51 : decode cJ29_putTreeVal 51 = .ok (.iconst 1, 1) := dk_4 (dk_at dksJ29_putTreeVal_2 4 rfl rfl)
theorem dJ29_putTreeVal_52 : decode cJ29_putTreeVal 52 = .ok (.istore 10, 2) := dk_54 10 (dk_at dksJ29_putTreeVal_2 5 rfl rfl)
theorem dJ29_putTreeVal_54 : decode cJ29_putTreeVal 54 = .ok (.goto 139, 3) := dk_167 0 139 (dk_at dksJ29_putTreeVal_2 7 rfl rfl)
theorem dJ29_putTreeVal_57 : decode cJ29_putTreeVal 57 = .ok (.aload 9, 2) := dk_25 9 (dk_at dksJ29_putTreeVal_2 10 rfl rfl)
theorem dJ29_putTreeVal_59 : decode cJ29_putTreeVal 59 = .ok (.getfield 45, 3) := dk_180 0 45 (dk_at dksJ29_putTreeVal_2 12 rfl rfl)
theorem dJ29_putTreeVal_62 : decode cJ29_putTreeVal 62 = .ok (.dup, 1) := dk_89 (dk_at dksJ29_putTreeVal_2 15 rfl rfl)
theorem dJ29_putTreeVal_63 : decode cJ29_putTreeVal 63 = .ok (.astore 12, 2) := dk_58 12 (dk_at dksJ29_putTreeVal_2 16 rfl rfl)
theorem dJ29_putTreeVal_65 : decode cJ29_putTreeVal 65 = .ok (.aload 4, 2) := dk_25 4 (dk_at dksJ29_putTreeVal_2 18 rfl rfl)
theorem dJ29_putTreeVal_67 : decode cJ29_putTreeVal 67 = .ok (.if_acmp .eq 18, 3) := dk_165 0 18 (dk_at dksJ29_putTreeVal_2 20 rfl rfl)
theorem dJ29_putTreeVal_70 : decode cJ29_putTreeVal 70 = .ok (.aload 4, 2) := dk_25 4 (dk_at dksJ29_putTreeVal_3 0 rfl rfl)
theorem dJ29_putTreeVal_72 : decode cJ29_putTreeVal 72 = .ok (.ifnull 16, 3) := dk_198 0 16 (dk_at dksJ29_putTreeVal_3 2 rfl rfl)
theorem dJ29_putTreeVal_75 : decode cJ29_putTreeVal 75 = .ok (.aload 4, 2) := dk_25 4 (dk_at dksJ29_putTreeVal_3 5 rfl rfl)
theorem dJ29_putTreeVal_77 : decode cJ29_putTreeVal 77 = .ok (.aload 12, 2) := dk_25 12 (dk_at dksJ29_putTreeVal_3 7 rfl rfl)
theorem dJ29_putTreeVal_79 : decode cJ29_putTreeVal 79 = .ok (.invokevirtual 49, 3) := dk_182 0 49 (dk_at dksJ29_putTreeVal_3 9 rfl rfl)
theorem dJ29_putTreeVal_82 : decode cJ29_putTreeVal 82 = .ok (.ifCond .eq 6, 3) := dk_153 0 6 (dk_at dksJ29_putTreeVal_3 12 rfl rfl)
theorem dJ29_putTreeVal_85 : decode cJ29_putTreeVal 85 = .ok (.aload 9, 2) := dk_25 9 (dk_at dksJ29_putTreeVal_3 15 rfl rfl)
theorem dJ29_putTreeVal_87 : decode cJ29_putTreeVal 87 = .ok (.areturn, 1) := dk_176 (dk_at dksJ29_putTreeVal_3 17 rfl rfl)
theorem dJ29_putTreeVal_88 : decode cJ29_putTreeVal 88 = .ok (.aload 6, 2) := dk_25 6 (dk_at dksJ29_putTreeVal_3 18 rfl rfl)
theorem dJ29_putTreeVal_90 : decode cJ29_putTreeVal 90 = .ok (.ifnonnull 14, 3) := dk_199 0 14 (dk_at dksJ29_putTreeVal_3 20 rfl rfl)
theorem dJ29_putTreeVal_93 : decode cJ29_putTreeVal 93 = .ok (.aload 4, 2) := dk_25 4 (dk_at dksJ29_putTreeVal_4 0 rfl rfl)
theorem dJ29_putTreeVal_95 : decode cJ29_putTreeVal 95 = .ok (.invokestatic 55, 3) := dk_184 0 55 (dk_at dksJ29_putTreeVal_4 2 rfl rfl)
theorem dJ29_putTreeVal_98 : decode cJ29_putTreeVal 98 = .ok (.dup, 1) := dk_89 (dk_at dksJ29_putTreeVal_4 5 rfl rfl)
theorem dJ29_putTreeVal_99 : decode cJ29_putTreeVal 99 = .ok (.astore 6, 2) := dk_58 6 (dk_at dksJ29_putTreeVal_4 6 rfl rfl)
theorem dJ29_putTreeVal_101 : decode cJ29_putTreeVal 101 = .ok (.ifnull 18, 3) := dk_198 0 18 (dk_at dksJ29_putTreeVal_4 8 rfl rfl)
theorem dJ29_putTreeVal_104 : decode cJ29_putTreeVal 104 = .ok (.aload 6, 2) := dk_25 6 (dk_at dksJ29_putTreeVal_4 11 rfl rfl)
theorem dJ29_putTreeVal_106 : decode cJ29_putTreeVal 106 = .ok (.aload 4, 2) := dk_25 4 (dk_at dksJ29_putTreeVal_4 13 rfl rfl)
theorem dJ29_putTreeVal_108 : decode cJ29_putTreeVal 108 = .ok (.aload 12, 2) := dk_25 12 (dk_at dksJ29_putTreeVal_4 15 rfl rfl)
theorem dJ29_putTreeVal_110 : decode cJ29_putTreeVal 110 = .ok (.invokestatic 59, 3) := dk_184 0 59 (dk_at dksJ29_putTreeVal_4 17 rfl rfl)
theorem dJ29_putTreeVal_113 : decode cJ29_putTreeVal 113 = .ok (.dup, 1) := dk_89 (dk_at dksJ29_putTreeVal_4 20 rfl rfl)
theorem dJ29_putTreeVal_114 : decode cJ29_putTreeVal 114 = .ok (.istore 10, 2) := dk_54 10 (dk_at dksJ29_putTreeVal_4 21 rfl rfl)
theorem dJ29_putTreeVal_116 : decode cJ29_putTreeVal 116 = .ok (.ifCond .ne 77, 3) := dk_154 0 77 (dk_at dksJ29_putTreeVal_5 0 rfl rfl)
theorem dJ29_putTreeVal_119 : decode cJ29_putTreeVal 119 = .ok (.iload 7, 2) := dk_21 7 (dk_at dksJ29_putTreeVal_5 3 rfl rfl)
theorem dJ29_putTreeVal_121 : decode cJ29_putTreeVal 121 = .ok (.ifCond .ne 63, 3) := dk_154 0 63 (dk_at dksJ29_putTreeVal_5 5 rfl rfl)
theorem dJ29_putTreeVal_124 : decode cJ29_putTreeVal 124 = .ok (.iconst 1, 1) := dk_4 (dk_at dksJ29_putTreeVal_5 8 rfl rfl)
theorem dJ29_putTreeVal_125 : decode cJ29_putTreeVal 125 = .ok (.istore 7, 2) := dk_54 7 (dk_at dksJ29_putTreeVal_5 9 rfl rfl)
theorem dJ29_putTreeVal_127 : decode cJ29_putTreeVal 127 = .ok (.aload 9, 2) := dk_25 9 (dk_at dksJ29_putTreeVal_5 11 rfl rfl)
theorem dJ29_putTreeVal_129 : decode cJ29_putTreeVal 129 = .ok (.getfield 39, 3) := dk_180 0 39 (dk_at dksJ29_putTreeVal_5 13 rfl rfl)
theorem dJ29_putTreeVal_132 : decode cJ29_putTreeVal 132 = .ok (.dup, 1) := dk_89 (dk_at dksJ29_putTreeVal_5 16 rfl rfl)
theorem dJ29_putTreeVal_133 : decode cJ29_putTreeVal 133 = .ok (.astore 14, 2) := dk_58 14 (dk_at dksJ29_putTreeVal_5 17 rfl rfl)
theorem dJ29_putTreeVal_135 : decode cJ29_putTreeVal 135 = .ok (.ifnull 19, 3) := dk_198 0 19 (dk_at dksJ29_putTreeVal_5 19 rfl rfl)
theorem dJ29_putTreeVal_138 : decode cJ29_putTreeVal 138 = .ok (.aload 14, 2) := dk_25 14 (dk_at dksJ29_putTreeVal_5 22 rfl rfl)
theorem dJ29_putTreeVal_140 : decode cJ29_putTreeVal 140 = .ok (.iload_n 3, 1) := dk_29 (dk_at dksJ29_putTreeVal_6 0 rfl rfl)
theorem dJ29_putTreeVal_141 : decode cJ29_putTreeVal 141 = .ok (.aload 4, 2) := dk_25 4 (dk_at dksJ29_putTreeVal_6 1 rfl rfl)
theorem dJ29_putTreeVal_143 : decode cJ29_putTreeVal 143 = .ok (.aload 6, 2) := dk_25 6 (dk_at dksJ29_putTreeVal_6 3 rfl rfl)
theorem dJ29_putTreeVal_145 : decode cJ29_putTreeVal 145 = .ok (.invokevirtual 63, 3) := dk_182 0 63 (dk_at dksJ29_putTreeVal_6 5 rfl rfl)
theorem dJ29_putTreeVal_148 : decode cJ29_putTreeVal 148 = .ok (.dup, 1) := dk_89 (dk_at dksJ29_putTreeVal_6 8 rfl rfl)
theorem dJ29_putTreeVal_149 : decode cJ29_putTreeVal 149 = .ok (.astore 13, 2) := dk_58 13 (dk_at dksJ29_putTreeVal_6 9 rfl rfl)
theorem dJ29_putTreeVal_151 : decode cJ29_putTreeVal 151 = .ok (.ifnonnull 30, 3) := dk_199 0 30 (dk_at dksJ29_putTreeVal_6 11 rfl rfl)
theorem dJ29_putTreeVal_154 : decode cJ29_putTreeVal 154 = .ok (.aload 9, 2) := dk_25 9 (dk_at dksJ29_putTreeVal_6 14 rfl rfl)
theorem dJ29_putTreeVal_156 : decode cJ29_putTreeVal 156 = .ok (.getfield 42, 3) := dk_180 0 42 (dk_at dksJ29_putTreeVal_6 16 rfl rfl)
theorem dJ29_putTreeVal_159 : decode cJ29_putTreeVal 159 = .ok (.dup, 1) := dk_89 (dk_at dksJ29_putTreeVal_6 19 rfl rfl)
theorem dJ29_putTreeVal_160 : decode cJ29_putTreeVal 160 = .ok (.astore 14, 2) := dk_58 14 (dk_at dksJ29_putTreeVal_6 20 rfl rfl)
theorem dJ29_putTreeVal_162 : decode cJ29_putTreeVal 162 = .ok (.ifnull 22, 3) := dk_198 0 22 (dk_at dksJ29_putTreeVal_7 0 rfl rfl)
theorem dJ29_putTreeVal_165 : decode cJ29_putTreeVal 165 = .ok (.aload 14, 2) := dk_25 14 (dk_at dksJ29_putTreeVal_7 3 rfl rfl)
theorem dJ29_putTreeVal_167 : decode cJ29_putTreeVal 167 = .ok (.iload_n 3, 1) := dk_29 (dk_at dksJ29_putTreeVal_7 5 rfl rfl)
theorem dJ29_putTreeVal_168 : decode cJ29_putTreeVal 168 = .ok (.aload 4, 2) := dk_25 4 (dk_at dksJ29_putTreeVal_7 6 rfl rfl)
theorem dJ29_putTreeVal_170 : decode cJ29_putTreeVal 170 = .ok (.aload 6, 2) := dk_25 6 (dk_at dksJ29_putTreeVal_7 8 rfl rfl)
theorem dJ29_putTreeVal_172 : decode cJ29_putTreeVal 172 = .ok (.invokevirtual 63, 3) := dk_182 0 63 (dk_at dksJ29_putTreeVal_7 10 rfl rfl)
theorem dJ29_putTreeVal_175 : decode cJ29_putTreeVal 175 = .ok (.dup, 1) := dk_89 (dk_at dksJ29_putTreeVal_7 13 rfl rfl)
theorem dJ29_putTreeVal_176 : decode cJ29_putTreeVal 176 = .ok (.astore 13, 2) := dk_58 13 (dk_at dksJ29_putTreeVal_7 14 rfl rfl)
theorem dJ29_putTreeVal_178 : decode cJ29_putTreeVal 178 = .ok (.ifnull 6, 3) := dk_198 0 6 (dk_at dksJ29_putTreeVal_7 16 rfl rfl)
theorem dJ29_putTreeVal_181 : decode cJ29_putTreeVal 181 = .ok (.aload 13, 2) := dk_25 13 (dk_at dksJ29_putTreeVal_7 19 rfl rfl)
theorem dJ29_putTreeVal_183 : decode cJ29_putTreeVal 183 = .ok (.areturn, 1) := dk_176 (dk_at dksJ29_putTreeVal_7 21 rfl rfl)
theorem dJ29_putTreeVal_184 : decode cJ29_putTreeVal 184 = .ok (.aload 4, 2) := dk_25 4 (dk_at dksJ29_putTreeVal_7 22 rfl rfl)
theorem dJ29_putTreeVal_186 : decode cJ29_putTreeVal 186 = .ok (.aload 12, 2) := dk_25 12 (dk_at dksJ29_putTreeVal_8 0 rfl rfl)
theorem dJ29_putTreeVal_188 : decode cJ29_putTreeVal 188 = .ok (.invokestatic 96, 3) := dk_184 0 96 (dk_at dksJ29_putTreeVal_8 2 rfl rfl)
theorem dJ29_putTreeVal_191 : decode cJ29_putTreeVal 191 = .ok (.istore 10, 2) := dk_54 10 (dk_at dksJ29_putTreeVal_8 5 rfl rfl)
theorem dJ29_putTreeVal_193 : decode cJ29_putTreeVal 193 = .ok (.aload 9, 2) := dk_25 9 (dk_at dksJ29_putTreeVal_8 7 rfl rfl)
theorem dJ29_putTreeVal_195 : decode cJ29_putTreeVal 195 = .ok (.astore 13, 2) := dk_58 13 (dk_at dksJ29_putTreeVal_8 9 rfl rfl)
theorem dJ29_putTreeVal_197 : decode cJ29_putTreeVal 197 = .ok (.iload 10, 2) := dk_21 10 (dk_at dksJ29_putTreeVal_8 11 rfl rfl)
theorem dJ29_putTreeVal_199 : decode cJ29_putTreeVal 199 = .ok (.ifCond .gt 11, 3) := dk_157 0 11 (dk_at dksJ29_putTreeVal_8 13 rfl rfl)
theorem dJ29_putTreeVal_202 : decode cJ29_putTreeVal 202 = .ok (.aload 9, 2) := dk_25 9 (dk_at dksJ29_putTreeVal_8 16 rfl rfl)
theorem dJ29_putTreeVal_204 : decode cJ29_putTreeVal 204 = .ok (.getfield 39, 3) := dk_180 0 39 (dk_at dksJ29_putTreeVal_8 18 rfl rfl)
theorem dJ29_putTreeVal_207 : decode cJ29_putTreeVal 207 = .ok (.goto 8, 3) := dk_167 0 8 (dk_at dksJ29_putTreeVal_8 21 rfl rfl)
theorem dJ29_putTreeVal_210 : decode cJ29_putTreeVal 210 = .ok (.aload 9, 2) := dk_25 9 (dk_at dksJ29_putTreeVal_9 0 rfl rfl)
theorem dJ29_putTreeVal_212 : decode cJ29_putTreeVal 212 = .ok (.getfield 42, 3) := dk_180 0 42 (dk_at dksJ29_putTreeVal_9 2 rfl rfl)
theorem dJ29_putTreeVal_215 : decode cJ29_putTreeVal 215 = .ok (.dup, 1) := dk_89 (dk_at dksJ29_putTreeVal_9 5 rfl rfl)
theorem dJ29_putTreeVal_216 : decode cJ29_putTreeVal 216 = .ok (.astore 9, 2) := dk_58 9 (dk_at dksJ29_putTreeVal_9 6 rfl rfl)
theorem dJ29_putTreeVal_218 : decode cJ29_putTreeVal 218 = .ok (.ifnonnull 93, 3) := dk_199 0 93 (dk_at dksJ29_putTreeVal_9 8 rfl rfl)
theorem dJ29_putTreeVal_221 : decode cJ29_putTreeVal 221 = .ok (.aload 13, 2) := dk_25 13 (dk_at dksJ29_putTreeVal_9 11 rfl rfl)
theorem dJ29_putTreeVal_223 : decode cJ29_putTreeVal 223 = .ok (.getfield 22, 3) := dk_180 0 22 (dk_at dksJ29_putTreeVal_9 13 rfl rfl)
theorem dJ29_putTreeVal_226 : decode cJ29_putTreeVal 226 = .ok (.astore 14, 2) := dk_58 14 (dk_at dksJ29_putTreeVal_9 16 rfl rfl)
theorem dJ29_putTreeVal_228 : decode cJ29_putTreeVal 228 = .ok (.aload_n 1, 1) := dk_43 (dk_at dksJ29_putTreeVal_9 18 rfl rfl)
theorem dJ29_putTreeVal_229 : decode cJ29_putTreeVal 229 = .ok (.iload_n 3, 1) := dk_29 (dk_at dksJ29_putTreeVal_9 19 rfl rfl)
theorem dJ29_putTreeVal_230 : decode cJ29_putTreeVal 230 = .ok (.aload 4, 2) := dk_25 4 (dk_at dksJ29_putTreeVal_9 20 rfl rfl)
theorem dJ29_putTreeVal_232 : decode cJ29_putTreeVal 232 = .ok (.aload 5, 2) := dk_25 5 (dk_at dksJ29_putTreeVal_9 22 rfl rfl)
theorem dJ29_putTreeVal_234 : decode cJ29_putTreeVal 234 = .ok (.aload 14, 2) := dk_25 14 (dk_at dksJ29_putTreeVal_10 0 rfl rfl)
theorem dJ29_putTreeVal_236 : decode cJ29_putTreeVal 236 = .ok (.invokevirtual 115, 3) := dk_182 0 115 (dk_at dksJ29_putTreeVal_10 2 rfl rfl)
theorem dJ29_putTreeVal_239 : decode cJ29_putTreeVal 239 = .ok (.astore 15, 2) := dk_58 15 (dk_at dksJ29_putTreeVal_10 5 rfl rfl)
theorem dJ29_putTreeVal_241 : decode cJ29_putTreeVal 241 = .ok (.iload 10, 2) := dk_21 10 (dk_at dksJ29_putTreeVal_10 7 rfl rfl)
theorem dJ29_putTreeVal_243 : decode cJ29_putTreeVal 243 = .ok (.ifCond .gt 13, 3) := dk_157 0 13 (dk_at dksJ29_putTreeVal_10 9 rfl rfl)
theorem dJ29_putTreeVal_246 : decode cJ29_putTreeVal 246 = .ok (.aload 13, 2) := dk_25 13 (dk_at dksJ29_putTreeVal_10 12 rfl rfl)
theorem dJ29_putTreeVal_248 : decode cJ29_putTreeVal 248 = .ok (.aload 15, 2) := dk_25 15 (dk_at dksJ29_putTreeVal_10 14 rfl rfl)
theorem dJ29_putTreeVal_250 : decode cJ29_putTreeVal 250 = .ok (.putfield 39, 3) := dk_181 0 39 (dk_at dksJ29_putTreeVal_10 16 rfl rfl)
theorem dJ29_putTreeVal_253 : decode cJ29_putTreeVal 253 = .ok (.goto 10, 3) := dk_167 0 10 (dk_at dksJ29_putTreeVal_10 19 rfl rfl)
theorem dJ29_putTreeVal_256 : decode cJ29_putTreeVal 256 = .ok (.aload 13, 2) := dk_25 13 (dk_at dksJ29_putTreeVal_10 22 rfl rfl)
theorem dJ29_putTreeVal_258 : decode cJ29_putTreeVal 258 = .ok (.aload 15, 2) := dk_25 15 (dk_at dksJ29_putTreeVal_11 0 rfl rfl)
theorem dJ29_putTreeVal_260 : decode cJ29_putTreeVal 260 = .ok (.putfield 42, 3) := dk_181 0 42 (dk_at dksJ29_putTreeVal_11 2 rfl rfl)
theorem dJ29_putTreeVal_263 : decode cJ29_putTreeVal 263 = .ok (.aload 13, 2) := dk_25 13 (dk_at dksJ29_putTreeVal_11 5 rfl rfl)
theorem dJ29_putTreeVal_265 : decode cJ29_putTreeVal 265 = .ok (.aload 15, 2) := dk_25 15 (dk_at dksJ29_putTreeVal_11 7 rfl rfl)
theorem dJ29_putTreeVal_267 : decode cJ29_putTreeVal 267 = .ok (.putfield 22, 3) := dk_181 0 22 (dk_at dksJ29_putTreeVal_11 9 rfl rfl)
theorem dJ29_putTreeVal_270 : decode cJ29_putTreeVal 270 = .ok (.aload 15, 2) := dk_25 15 (dk_at dksJ29_putTreeVal_11 12 rfl rfl)
theorem dJ29_putTreeVal_272 : decode cJ29_putTreeVal 272 = .ok (.aload 15, 2) := dk_25 15 (dk_at dksJ29_putTreeVal_11 14 rfl rfl)
theorem dJ29_putTreeVal_274 : decode cJ29_putTreeVal 274 = .ok (.aload 13, 2) := dk_25 13 (dk_at dksJ29_putTreeVal_11 16 rfl rfl)
theorem dJ29_putTreeVal_276 : decode cJ29_putTreeVal 276 = .ok (.dup_x1, 1) := dk_90 (dk_at dksJ29_putTreeVal_11 18 rfl rfl)
theorem dJ29_putTreeVal_277 : decode cJ29_putTreeVal 277 = .ok (.putfield 19, 3) := dk_181 0 19 (dk_at dksJ29_putTreeVal_11 19 rfl rfl)
theorem dJ29_putTreeVal_280 : decode cJ29_putTreeVal 280 = .ok (.putfield 9, 3) := dk_181 0 9 (dk_at dksJ29_putTreeVal_12 0 rfl rfl)
theorem dJ29_putTreeVal_283 : decode cJ29_putTreeVal 283 = .ok (.aload 14, 2) := dk_25 14 (dk_at dksJ29_putTreeVal_12 3 rfl rfl)
theorem dJ29_putTreeVal_285 : decode cJ29_putTreeVal 285 = .ok (.ifnull 13, 3) := dk_198 0 13 (dk_at dksJ29_putTreeVal_12 5 rfl rfl)
theorem dJ29_putTreeVal_288 : decode cJ29_putTreeVal 288 = .ok (.aload 14, 2) := dk_25 14 (dk_at dksJ29_putTreeVal_12 8 rfl rfl)
theorem dJ29_putTreeVal_290 : decode cJ29_putTreeVal 290 = .ok (.checkcast 10, 3) := dk_192 0 10 (dk_at dksJ29_putTreeVal_12 10 rfl rfl)
theorem dJ29_putTreeVal_293 : decode cJ29_putTreeVal 293 = .ok (.aload 15, 2) := dk_25 15 (dk_at dksJ29_putTreeVal_12 13 rfl rfl)
theorem dJ29_putTreeVal_295 : decode cJ29_putTreeVal 295 = .ok (.putfield 19, 3) := dk_181 0 19 (dk_at dksJ29_putTreeVal_12 15 rfl rfl)
theorem dJ29_putTreeVal_298 : decode cJ29_putTreeVal 298 = .ok (.aload_n 2, 1) := dk_44 (dk_at dksJ29_putTreeVal_12 18 rfl rfl)
theorem dJ29_putTreeVal_299 : decode cJ29_putTreeVal 299 = .ok (.aload 8, 2) := dk_25 8 (dk_at dksJ29_putTreeVal_12 19 rfl rfl)
theorem dJ29_putTreeVal_301 : decode cJ29_putTreeVal 301 = .ok (.aload 15, 2) := dk_25 15 (dk_at dksJ29_putTreeVal_12 21 rfl rfl)
theorem dJ29_putTreeVal_303 : decode cJ29_putTreeVal 303 = .ok (.invokestatic 100, 3) := dk_184 0 100 (dk_at dksJ29_putTreeVal_13 0 rfl rfl)
theorem dJ29_putTreeVal_306 : decode cJ29_putTreeVal 306 = .ok (.invokestatic 104, 3) := dk_184 0 104 (dk_at dksJ29_putTreeVal_13 3 rfl rfl)
theorem dJ29_putTreeVal_309 : decode cJ29_putTreeVal 309 = .ok (.aconst_null, 1) := dk_1 (dk_at dksJ29_putTreeVal_13 6 rfl rfl)
theorem dJ29_putTreeVal_310 : decode cJ29_putTreeVal 310 = .ok (.areturn, 1) := dk_176 (dk_at dksJ29_putTreeVal_13 7 rfl rfl)
theorem dJ29_putTreeVal_311 : decode cJ29_putTreeVal 311 = .ok (.goto (-284), 3) := dk_167 254 228 (dk_at dksJ29_putTreeVal_13 8 rfl rfl)
abbrev cJ29_init : ByteArray := prog_49_method_1_code
def yJ29_init : MethodName := ⟨RJ29, "<init>", "(ILjava/lang/Object;Ljava/lang/Object;Ljava/util/HashMap$Node;)V"⟩
def dkwJ29_init_0 : List UInt8 := [42, 27, 44, 45, 25, 4, 183, 0, 3, 177]
abbrev dktJ29_init_0 : List UInt8 := dkwJ29_init_0 ++ []
theorem dksJ29_init_0 : cJ29_init.data.toList.drop 0 = dktJ29_init_0 := by decide +kernel
theorem dJ29_init_0 : decode cJ29_init 0 = .ok (.aload_n 0, 1) := dk_42 (dk_at dksJ29_init_0 0 rfl rfl)
theorem dJ29_init_1 : decode cJ29_init 1 = .ok (.iload_n 1, 1) := dk_27 (dk_at dksJ29_init_0 1 rfl rfl)
theorem dJ29_init_2 : decode cJ29_init 2 = .ok (.aload_n 2, 1) := dk_44 (dk_at dksJ29_init_0 2 rfl rfl)
theorem dJ29_init_3 : decode cJ29_init 3 = .ok (.aload_n 3, 1) := dk_45 (dk_at dksJ29_init_0 3 rfl rfl)
theorem dJ29_init_4 : decode cJ29_init 4 = .ok (.aload 4, 2) := dk_25 4 (dk_at dksJ29_init_0 4 rfl rfl)
theorem dJ29_init_6 : decode cJ29_init 6 = .ok (.invokespecial 3, 3) := dk_183 0 3 (dk_at dksJ29_init_0 6 rfl rfl)
theorem dJ29_init_9 : decode cJ29_init 9 = .ok (.return_, 1) := dk_177 (dk_at dksJ29_init_0 9 rfl rfl)
theorem q116 : (Jvm.Cond.initialized "java/util/HashMap$TreeNode") ∈ lw_all := lw_g (lw_at lw_m1 39 rfl) rfl
theorem q478 : (Jvm.Cond.selects "java/util/HashMap$TreeNode" ({ cls := "java/lang/Object", name := "getClass", desc := "()Ljava/lang/Class;" } : Jvm.MethodName) ({ cls := "java/lang/Object", name := "getClass", desc := "()Ljava/lang/Class;" } : Jvm.MethodName)) ∈ lw_all := lw_g (lw_at lw_m2 161 rfl) rfl
theorem q1420 : (Jvm.Cond.instanceMethod ({ cls := "java/util/HashMap$TreeNode", name := "getTreeNode", desc := "(ILjava/lang/Object;)Ljava/util/HashMap$TreeNode;" } : Jvm.MethodName)) ∈ lw_all := lw_g (lw_at lw_m6 143 rfl) rfl
theorem q1421 : (Jvm.Cond.selects "java/util/HashMap$TreeNode" ({ cls := "java/util/HashMap$TreeNode", name := "getTreeNode", desc := "(ILjava/lang/Object;)Ljava/util/HashMap$TreeNode;" } : Jvm.MethodName) ({ cls := "java/util/HashMap$TreeNode", name := "getTreeNode", desc := "(ILjava/lang/Object;)Ljava/util/HashMap$TreeNode;" } : Jvm.MethodName)) ∈ lw_all := lw_g (lw_at lw_m6 144 rfl) rfl
theorem q1422 : (Jvm.Cond.code ({ cls := "java/util/HashMap$TreeNode", name := "getTreeNode", desc := "(ILjava/lang/Object;)Ljava/util/HashMap$TreeNode;" } : Jvm.MethodName) prog_49_method_5_code (3 : Nat) (Option.some (Jvm.ClassFile.FieldType.object "java/util/HashMap$TreeNode"))) ∈ lw_all := lw_g (lw_at lw_m6 145 rfl) rfl
theorem q1423 : (Jvm.Cond.methodLink "java/util/HashMap$TreeNode" (67 : Nat) ({ cls := "java/util/HashMap$TreeNode", name := "root", desc := "()Ljava/util/HashMap$TreeNode;" } : Jvm.MethodName)) ∈ lw_all := lw_g (lw_at lw_m6 146 rfl) rfl
theorem q1424 : (Jvm.Cond.instanceMethod ({ cls := "java/util/HashMap$TreeNode", name := "root", desc := "()Ljava/util/HashMap$TreeNode;" } : Jvm.MethodName)) ∈ lw_all := lw_g (lw_at lw_m6 147 rfl) rfl
theorem q1425 : (Jvm.Cond.selects "java/util/HashMap$TreeNode" ({ cls := "java/util/HashMap$TreeNode", name := "root", desc := "()Ljava/util/HashMap$TreeNode;" } : Jvm.MethodName) ({ cls := "java/util/HashMap$TreeNode", name := "root", desc := "()Ljava/util/HashMap$TreeNode;" } : Jvm.MethodName)) ∈ lw_all := lw_g (lw_at lw_m6 148 rfl) rfl
theorem q1426 : (Jvm.Cond.code ({ cls := "java/util/HashMap$TreeNode", name := "root", desc := "()Ljava/util/HashMap$TreeNode;" } : Jvm.MethodName) prog_49_method_2_code (3 : Nat) (Option.some (Jvm.ClassFile.FieldType.object "java/util/HashMap$TreeNode"))) ∈ lw_all := lw_g (lw_at lw_m6 149 rfl) rfl
theorem q1427 : (Jvm.Cond.methodLink "java/util/HashMap$TreeNode" (63 : Nat) ({ cls := "java/util/HashMap$TreeNode", name := "find", desc := "(ILjava/lang/Object;Ljava/lang/Class;)Ljava/util/HashMap$TreeNode;" } : Jvm.MethodName)) ∈ lw_all := lw_g (lw_at lw_m6 150 rfl) rfl
theorem q1428 : (Jvm.Cond.instanceMethod ({ cls := "java/util/HashMap$TreeNode", name := "find", desc := "(ILjava/lang/Object;Ljava/lang/Class;)Ljava/util/HashMap$TreeNode;" } : Jvm.MethodName)) ∈ lw_all := lw_g (lw_at lw_m6 151 rfl) rfl
theorem q1429 : (Jvm.Cond.selects "java/util/HashMap$TreeNode" ({ cls := "java/util/HashMap$TreeNode", name := "find", desc := "(ILjava/lang/Object;Ljava/lang/Class;)Ljava/util/HashMap$TreeNode;" } : Jvm.MethodName) ({ cls := "java/util/HashMap$TreeNode", name := "find", desc := "(ILjava/lang/Object;Ljava/lang/Class;)Ljava/util/HashMap$TreeNode;" } : Jvm.MethodName)) ∈ lw_all := lw_g (lw_at lw_m6 152 rfl) rfl
theorem q1430 : (Jvm.Cond.code ({ cls := "java/util/HashMap$TreeNode", name := "find", desc := "(ILjava/lang/Object;Ljava/lang/Class;)Ljava/util/HashMap$TreeNode;" } : Jvm.MethodName) prog_49_method_4_code (11 : Nat) (Option.some (Jvm.ClassFile.FieldType.object "java/util/HashMap$TreeNode"))) ∈ lw_all := lw_g (lw_at lw_m6 153 rfl) rfl
theorem q1431 : (Jvm.Cond.methodLink "java/util/HashMap$TreeNode" (49 : Nat) ({ cls := "java/lang/Object", name := "equals", desc := "(Ljava/lang/Object;)Z" } : Jvm.MethodName)) ∈ lw_all := lw_g (lw_at lw_m6 154 rfl) rfl
theorem q1432 : (Jvm.Cond.methodLink "java/util/HashMap$TreeNode" (55 : Nat) ({ cls := "java/util/HashMap", name := "comparableClassFor", desc := "(Ljava/lang/Object;)Ljava/lang/Class;" } : Jvm.MethodName)) ∈ lw_all := lw_g (lw_at lw_m6 155 rfl) rfl
theorem q1438 : (Jvm.Cond.methodLink "java/util/HashMap$TreeNode" (59 : Nat) ({ cls := "java/util/HashMap", name := "compareComparables", desc := "(Ljava/lang/Class;Ljava/lang/Object;Ljava/lang/Object;)I" } : Jvm.MethodName)) ∈ lw_all := lw_g (lw_at lw_m6 161 rfl) rfl
theorem q1654 : (Jvm.Cond.instanceMethod ({ cls := "java/util/HashMap$TreeNode", name := "split", desc := "(Ljava/util/HashMap;[Ljava/util/HashMap$Node;II)V" } : Jvm.MethodName)) ∈ lw_all := lw_g (lw_at lw_m7 137 rfl) rfl
theorem q1655 : (Jvm.Cond.selects "java/util/HashMap$TreeNode" ({ cls := "java/util/HashMap$TreeNode", name := "split", desc := "(Ljava/util/HashMap;[Ljava/util/HashMap$Node;II)V" } : Jvm.MethodName) ({ cls := "java/util/HashMap$TreeNode", name := "split", desc := "(Ljava/util/HashMap;[Ljava/util/HashMap$Node;II)V" } : Jvm.MethodName)) ∈ lw_all := lw_g (lw_at lw_m7 138 rfl) rfl
theorem q1656 : (Jvm.Cond.code ({ cls := "java/util/HashMap$TreeNode", name := "split", desc := "(Ljava/util/HashMap;[Ljava/util/HashMap$Node;II)V" } : Jvm.MethodName) prog_49_method_11_code (14 : Nat) (Option.none : Option Jvm.ClassFile.FieldType)) ∈ lw_all := lw_g (lw_at lw_m7 139 rfl) rfl
theorem q1657 : (Jvm.Cond.classLink "java/util/HashMap$TreeNode" (10 : Nat) "java/util/HashMap$TreeNode") ∈ lw_all := lw_g (lw_at lw_m7 140 rfl) rfl
theorem q1658 : (Jvm.Cond.methodLink "java/util/HashMap$TreeNode" (119 : Nat) ({ cls := "java/util/HashMap$TreeNode", name := "untreeify", desc := "(Ljava/util/HashMap;)Ljava/util/HashMap$Node;" } : Jvm.MethodName)) ∈ lw_all := lw_g (lw_at lw_m7 141 rfl) rfl
theorem q1659 : (Jvm.Cond.instanceMethod ({ cls := "java/util/HashMap$TreeNode", name := "untreeify", desc := "(Ljava/util/HashMap;)Ljava/util/HashMap$Node;" } : Jvm.MethodName)) ∈ lw_all := lw_g (lw_at lw_m7 142 rfl) rfl
theorem q1660 : (Jvm.Cond.selects "java/util/HashMap$TreeNode" ({ cls := "java/util/HashMap$TreeNode", name := "untreeify", desc := "(Ljava/util/HashMap;)Ljava/util/HashMap$Node;" } : Jvm.MethodName) ({ cls := "java/util/HashMap$TreeNode", name := "untreeify", desc := "(Ljava/util/HashMap;)Ljava/util/HashMap$Node;" } : Jvm.MethodName)) ∈ lw_all := lw_g (lw_at lw_m7 143 rfl) rfl
theorem q1661 : (Jvm.Cond.code ({ cls := "java/util/HashMap$TreeNode", name := "untreeify", desc := "(Ljava/util/HashMap;)Ljava/util/HashMap$Node;" } : Jvm.MethodName) prog_49_method_8_code (6 : Nat) (Option.some (Jvm.ClassFile.FieldType.object "java/util/HashMap$Node"))) ∈ lw_all := lw_g (lw_at lw_m7 144 rfl) rfl
theorem q1662 : (Jvm.Cond.methodLink "java/util/HashMap$TreeNode" (108 : Nat) ({ cls := "java/util/HashMap", name := "replacementNode", desc := "(Ljava/util/HashMap$Node;Ljava/util/HashMap$Node;)Ljava/util/HashMap$Node;" } : Jvm.MethodName)) ∈ lw_all := lw_g (lw_at lw_m7 145 rfl) rfl
theorem q1672 : (Jvm.Cond.fieldLink "java/util/HashMap$TreeNode" (15 : Nat) "java/util/HashMap$TreeNode" "hash" "I") ∈ lw_all := lw_g (lw_at lw_m7 155 rfl) rfl
theorem q1673 : (Jvm.Cond.sameField "java/util/HashMap$TreeNode" "java/util/HashMap$Node" "hash" "I") ∈ lw_all := lw_g (lw_at lw_m7 156 rfl) rfl
theorem q1677 : (Jvm.Cond.fieldLink "java/util/HashMap$TreeNode" (45 : Nat) "java/util/HashMap$TreeNode" "key" "Ljava/lang/Object;") ∈ lw_all := lw_g (lw_at lw_m7 160 rfl) rfl
theorem q1678 : (Jvm.Cond.sameField "java/util/HashMap$TreeNode" "java/util/HashMap$Node" "key" "Ljava/lang/Object;") ∈ lw_all := lw_g (lw_at lw_m7 161 rfl) rfl
theorem q1685 : (Jvm.Cond.fieldLink "java/util/HashMap$TreeNode" (22 : Nat) "java/util/HashMap$TreeNode" "next" "Ljava/util/HashMap$Node;") ∈ lw_all := lw_g (lw_at lw_m7 168 rfl) rfl
theorem q1686 : (Jvm.Cond.sameField "java/util/HashMap$TreeNode" "java/util/HashMap$Node" "next" "Ljava/util/HashMap$Node;") ∈ lw_all := lw_g (lw_at lw_m7 169 rfl) rfl
theorem q1687 : (Jvm.Cond.fieldLink "java/util/HashMap$TreeNode" (112 : Nat) "java/util/HashMap$Node" "next" "Ljava/util/HashMap$Node;") ∈ lw_all := lw_g (lw_at lw_m7 170 rfl) rfl
theorem q1699 : (Jvm.Cond.methodLink "java/util/HashMap$TreeNode" (126 : Nat) ({ cls := "java/util/HashMap$TreeNode", name := "treeify", desc := "([Ljava/util/HashMap$Node;)V" } : Jvm.MethodName)) ∈ lw_all := lw_g (lw_at lw_m7 182 rfl) rfl
theorem q1700 : (Jvm.Cond.instanceMethod ({ cls := "java/util/HashMap$TreeNode", name := "treeify", desc := "([Ljava/util/HashMap$Node;)V" } : Jvm.MethodName)) ∈ lw_all := lw_g (lw_at lw_m7 183 rfl) rfl
theorem q1701 : (Jvm.Cond.selects "java/util/HashMap$TreeNode" ({ cls := "java/util/HashMap$TreeNode", name := "treeify", desc := "([Ljava/util/HashMap$Node;)V" } : Jvm.MethodName) ({ cls := "java/util/HashMap$TreeNode", name := "treeify", desc := "([Ljava/util/HashMap$Node;)V" } : Jvm.MethodName)) ∈ lw_all := lw_g (lw_at lw_m7 184 rfl) rfl
theorem q1702 : (Jvm.Cond.code ({ cls := "java/util/HashMap$TreeNode", name := "treeify", desc := "([Ljava/util/HashMap$Node;)V" } : Jvm.MethodName) prog_49_method_7_code (13 : Nat) (Option.none : Option Jvm.ClassFile.FieldType)) ∈ lw_all := lw_g (lw_at lw_m7 185 rfl) rfl
theorem q1703 : (Jvm.Cond.methodLink "java/util/HashMap$TreeNode" (100 : Nat) ({ cls := "java/util/HashMap$TreeNode", name := "balanceInsertion", desc := "(Ljava/util/HashMap$TreeNode;Ljava/util/HashMap$TreeNode;)Ljava/util/HashMap$TreeNode;" } : Jvm.MethodName)) ∈ lw_all := lw_g (lw_at lw_m7 186 rfl) rfl
theorem q1704 : (Jvm.Cond.static ({ cls := "java/util/HashMap$TreeNode", name := "balanceInsertion", desc := "(Ljava/util/HashMap$TreeNode;Ljava/util/HashMap$TreeNode;)Ljava/util/HashMap$TreeNode;" } : Jvm.MethodName)) ∈ lw_all := lw_g (lw_at lw_m7 187 rfl) rfl
theorem q1705 : (Jvm.Cond.code ({ cls := "java/util/HashMap$TreeNode", name := "balanceInsertion", desc := "(Ljava/util/HashMap$TreeNode;Ljava/util/HashMap$TreeNode;)Ljava/util/HashMap$TreeNode;" } : Jvm.MethodName) prog_49_method_14_code (6 : Nat) (Option.some (Jvm.ClassFile.FieldType.object "java/util/HashMap$TreeNode"))) ∈ lw_all := lw_g (lw_at lw_m7 188 rfl) rfl
theorem q1706 : (Jvm.Cond.methodLink "java/util/HashMap$TreeNode" (130 : Nat) ({ cls := "java/util/HashMap$TreeNode", name := "rotateLeft", desc := "(Ljava/util/HashMap$TreeNode;Ljava/util/HashMap$TreeNode;)Ljava/util/HashMap$TreeNode;" } : Jvm.MethodName)) ∈ lw_all := lw_g (lw_at lw_m7 189 rfl) rfl
theorem q1707 : (Jvm.Cond.static ({ cls := "java/util/HashMap$TreeNode", name := "rotateLeft", desc := "(Ljava/util/HashMap$TreeNode;Ljava/util/HashMap$TreeNode;)Ljava/util/HashMap$TreeNode;" } : Jvm.MethodName)) ∈ lw_all := lw_g (lw_at lw_m7 190 rfl) rfl
theorem q1708 : (Jvm.Cond.code ({ cls := "java/util/HashMap$TreeNode", name := "rotateLeft", desc := "(Ljava/util/HashMap$TreeNode;Ljava/util/HashMap$TreeNode;)Ljava/util/HashMap$TreeNode;" } : Jvm.MethodName) prog_49_method_12_code (5 : Nat) (Option.some (Jvm.ClassFile.FieldType.object "java/util/HashMap$TreeNode"))) ∈ lw_all := lw_g (lw_at lw_m7 191 rfl) rfl
theorem q1709 : (Jvm.Cond.methodLink "java/util/HashMap$TreeNode" (133 : Nat) ({ cls := "java/util/HashMap$TreeNode", name := "rotateRight", desc := "(Ljava/util/HashMap$TreeNode;Ljava/util/HashMap$TreeNode;)Ljava/util/HashMap$TreeNode;" } : Jvm.MethodName)) ∈ lw_all := lw_g (lw_at lw_m7 192 rfl) rfl
theorem q1710 : (Jvm.Cond.static ({ cls := "java/util/HashMap$TreeNode", name := "rotateRight", desc := "(Ljava/util/HashMap$TreeNode;Ljava/util/HashMap$TreeNode;)Ljava/util/HashMap$TreeNode;" } : Jvm.MethodName)) ∈ lw_all := lw_g (lw_at lw_m7 193 rfl) rfl
theorem q1711 : (Jvm.Cond.code ({ cls := "java/util/HashMap$TreeNode", name := "rotateRight", desc := "(Ljava/util/HashMap$TreeNode;Ljava/util/HashMap$TreeNode;)Ljava/util/HashMap$TreeNode;" } : Jvm.MethodName) prog_49_method_13_code (5 : Nat) (Option.some (Jvm.ClassFile.FieldType.object "java/util/HashMap$TreeNode"))) ∈ lw_all := lw_g (lw_at lw_m7 194 rfl) rfl
theorem q1712 : (Jvm.Cond.methodLink "java/util/HashMap$TreeNode" (104 : Nat) ({ cls := "java/util/HashMap$TreeNode", name := "moveRootToFront", desc := "([Ljava/util/HashMap$Node;Ljava/util/HashMap$TreeNode;)V" } : Jvm.MethodName)) ∈ lw_all := lw_g (lw_at lw_m7 195 rfl) rfl
theorem q1713 : (Jvm.Cond.static ({ cls := "java/util/HashMap$TreeNode", name := "moveRootToFront", desc := "([Ljava/util/HashMap$Node;Ljava/util/HashMap$TreeNode;)V" } : Jvm.MethodName)) ∈ lw_all := lw_g (lw_at lw_m7 196 rfl) rfl
theorem q1714 : (Jvm.Cond.code ({ cls := "java/util/HashMap$TreeNode", name := "moveRootToFront", desc := "([Ljava/util/HashMap$Node;Ljava/util/HashMap$TreeNode;)V" } : Jvm.MethodName) prog_49_method_3_code (7 : Nat) (Option.none : Option Jvm.ClassFile.FieldType)) ∈ lw_all := lw_g (lw_at lw_m7 197 rfl) rfl
theorem q1715 : (Jvm.Cond.fieldLink "java/util/HashMap$TreeNode" (26 : Nat) "java/util/HashMap$TreeNode" "$assertionsDisabled" "Z") ∈ lw_all := lw_g (lw_at lw_m7 198 rfl) rfl
theorem q1716 : (Jvm.Cond.laysStatic "java/util/HashMap$TreeNode" "$assertionsDisabled" "Z") ∈ lw_tbl := lw_at lw_m7 199 rfl
theorem q1722 : (Jvm.Cond.instanceMethod ({ cls := "java/util/HashMap$TreeNode", name := "putTreeVal", desc := "(Ljava/util/HashMap;[Ljava/util/HashMap$Node;ILjava/lang/Object;Ljava/lang/Object;)Ljava/util/HashMap$TreeNode;" } : Jvm.MethodName)) ∈ lw_all := lw_g (lw_at lw_m7 205 rfl) rfl
theorem q1723 : (Jvm.Cond.selects "java/util/HashMap$TreeNode" ({ cls := "java/util/HashMap$TreeNode", name := "putTreeVal", desc := "(Ljava/util/HashMap;[Ljava/util/HashMap$Node;ILjava/lang/Object;Ljava/lang/Object;)Ljava/util/HashMap$TreeNode;" } : Jvm.MethodName) ({ cls := "java/util/HashMap$TreeNode", name := "putTreeVal", desc := "(Ljava/util/HashMap;[Ljava/util/HashMap$Node;ILjava/lang/Object;Ljava/lang/Object;)Ljava/util/HashMap$TreeNode;" } : Jvm.MethodName)) ∈ lw_all := lw_g (lw_at lw_m7 206 rfl) rfl
theorem q1724 : (Jvm.Cond.code ({ cls := "java/util/HashMap$TreeNode", name := "putTreeVal", desc := "(Ljava/util/HashMap;[Ljava/util/HashMap$Node;ILjava/lang/Object;Ljava/lang/Object;)Ljava/util/HashMap$TreeNode;" } : Jvm.MethodName) prog_49_method_9_code (16 : Nat) (Option.some (Jvm.ClassFile.FieldType.object "java/util/HashMap$TreeNode"))) ∈ lw_all := lw_g (lw_at lw_m7 207 rfl) rfl
theorem q1725 : (Jvm.Cond.methodLink "java/util/HashMap$TreeNode" (115 : Nat) ({ cls := "java/util/HashMap", name := "newTreeNode", desc := "(ILjava/lang/Object;Ljava/lang/Object;Ljava/util/HashMap$Node;)Ljava/util/HashMap$TreeNode;" } : Jvm.MethodName)) ∈ lw_all := lw_g (lw_at lw_m7 208 rfl) rfl
theorem q1729 : (Jvm.Cond.instantiable "java/util/HashMap$TreeNode" (11 : Nat)) ∈ lw_all := lw_g (lw_at lw_m7 212 rfl) rfl
theorem q1731 : (Jvm.Cond.instanceMethod ({ cls := "java/util/HashMap$TreeNode", name := "<init>", desc := "(ILjava/lang/Object;Ljava/lang/Object;Ljava/util/HashMap$Node;)V" } : Jvm.MethodName)) ∈ lw_all := lw_g (lw_at lw_m7 214 rfl) rfl
theorem q1732 : (Jvm.Cond.code ({ cls := "java/util/HashMap$TreeNode", name := "<init>", desc := "(ILjava/lang/Object;Ljava/lang/Object;Ljava/util/HashMap$Node;)V" } : Jvm.MethodName) prog_49_method_1_code (5 : Nat) (Option.none : Option Jvm.ClassFile.FieldType)) ∈ lw_all := lw_g (lw_at lw_m7 215 rfl) rfl
theorem q1733 : (Jvm.Cond.methodLink "java/util/HashMap$TreeNode" (3 : Nat) ({ cls := "java/util/LinkedHashMap$Entry", name := "<init>", desc := "(ILjava/lang/Object;Ljava/lang/Object;Ljava/util/HashMap$Node;)V" } : Jvm.MethodName)) ∈ lw_all := lw_g (lw_at lw_m7 216 rfl) rfl
theorem q1737 : (Jvm.Cond.fieldLink "java/util/HashMap$TreeNode" (9 : Nat) "java/util/HashMap$TreeNode" "parent" "Ljava/util/HashMap$TreeNode;") ∈ lw_all := lw_g (lw_at lw_m7 220 rfl) rfl
theorem q1738 : (Jvm.Cond.fieldLink "java/util/HashMap$TreeNode" (39 : Nat) "java/util/HashMap$TreeNode" "left" "Ljava/util/HashMap$TreeNode;") ∈ lw_all := lw_g (lw_at lw_m7 221 rfl) rfl
theorem q1739 : (Jvm.Cond.fieldLink "java/util/HashMap$TreeNode" (42 : Nat) "java/util/HashMap$TreeNode" "right" "Ljava/util/HashMap$TreeNode;") ∈ lw_all := lw_g (lw_at lw_m7 222 rfl) rfl
theorem q1740 : (Jvm.Cond.fieldLink "java/util/HashMap$TreeNode" (19 : Nat) "java/util/HashMap$TreeNode" "prev" "Ljava/util/HashMap$TreeNode;") ∈ lw_all := lw_g (lw_at lw_m7 223 rfl) rfl
theorem q1742 : (Jvm.Cond.fieldLink "java/util/HashMap$TreeNode" (93 : Nat) "java/util/HashMap$TreeNode" "red" "Z") ∈ lw_all := lw_g (lw_at lw_m7 225 rfl) rfl
theorem q1743 : (Jvm.Cond.lays "java/util/HashMap$TreeNode" "java/util/HashMap$TreeNode" "parent" "Ljava/util/HashMap$TreeNode;") ∈ lw_all := lw_g (lw_at lw_m7 226 rfl) rfl
theorem q1744 : (Jvm.Cond.soleField "java/util/HashMap$TreeNode" "parent") ∈ lw_all := lw_g (lw_at lw_m7 227 rfl) rfl
theorem q1745 : (Jvm.Cond.lays "java/util/HashMap$TreeNode" "java/util/HashMap$TreeNode" "left" "Ljava/util/HashMap$TreeNode;") ∈ lw_all := lw_g (lw_at lw_m7 228 rfl) rfl
theorem q1746 : (Jvm.Cond.soleField "java/util/HashMap$TreeNode" "left") ∈ lw_all := lw_g (lw_at lw_m7 229 rfl) rfl
theorem q1747 : (Jvm.Cond.lays "java/util/HashMap$TreeNode" "java/util/HashMap$TreeNode" "right" "Ljava/util/HashMap$TreeNode;") ∈ lw_all := lw_g (lw_at lw_m7 230 rfl) rfl
theorem q1748 : (Jvm.Cond.soleField "java/util/HashMap$TreeNode" "right") ∈ lw_all := lw_g (lw_at lw_m7 231 rfl) rfl
theorem q1749 : (Jvm.Cond.lays "java/util/HashMap$TreeNode" "java/util/HashMap$TreeNode" "prev" "Ljava/util/HashMap$TreeNode;") ∈ lw_all := lw_g (lw_at lw_m7 232 rfl) rfl
theorem q1750 : (Jvm.Cond.soleField "java/util/HashMap$TreeNode" "prev") ∈ lw_all := lw_g (lw_at lw_m7 233 rfl) rfl
theorem q1751 : (Jvm.Cond.lays "java/util/HashMap$TreeNode" "java/util/HashMap$TreeNode" "red" "Z") ∈ lw_all := lw_g (lw_at lw_m7 234 rfl) rfl
theorem q1752 : (Jvm.Cond.soleField "java/util/HashMap$TreeNode" "red") ∈ lw_all := lw_g (lw_at lw_m7 235 rfl) rfl
theorem q1753 : (Jvm.Cond.lays "java/util/HashMap$TreeNode" "java/util/LinkedHashMap$Entry" "before" "Ljava/util/LinkedHashMap$Entry;") ∈ lw_all := lw_g (lw_at lw_m7 236 rfl) rfl
theorem q1755 : (Jvm.Cond.lays "java/util/HashMap$TreeNode" "java/util/LinkedHashMap$Entry" "after" "Ljava/util/LinkedHashMap$Entry;") ∈ lw_all := lw_g (lw_at lw_m7 238 rfl) rfl
theorem q1757 : (Jvm.Cond.laysFinal "java/util/HashMap$TreeNode" "java/util/HashMap$Node" "hash" "I") ∈ lw_all := lw_g (lw_at lw_m8 0 rfl) rfl
theorem q1758 : (Jvm.Cond.laysFinal "java/util/HashMap$TreeNode" "java/util/HashMap$Node" "key" "Ljava/lang/Object;") ∈ lw_all := lw_g (lw_at lw_m8 1 rfl) rfl
theorem q1759 : (Jvm.Cond.lays "java/util/HashMap$TreeNode" "java/util/HashMap$Node" "value" "Ljava/lang/Object;") ∈ lw_all := lw_g (lw_at lw_m8 2 rfl) rfl
theorem q1760 : (Jvm.Cond.lays "java/util/HashMap$TreeNode" "java/util/HashMap$Node" "next" "Ljava/util/HashMap$Node;") ∈ lw_all := lw_g (lw_at lw_m8 3 rfl) rfl
theorem q1761 : (Jvm.Cond.superclass "java/util/HashMap$TreeNode" "java/util/LinkedHashMap$Entry") ∈ lw_all := lw_g (lw_at lw_m8 4 rfl) rfl
theorem q2534 : (Jvm.Cond.castable "java/util/HashMap$TreeNode" "java/lang/Object") ∈ lw_tbl := lw_at lw_m11 57 rfl
theorem q2547 : (Jvm.Cond.castable "java/util/HashMap$TreeNode" "java/util/HashMap$Node") ∈ lw_tbl := lw_at lw_m11 70 rfl
theorem in_J29 : ∀ w ∈ wsJ290, w ∈ lw_all := lw_in wsJ290 [1753, 1755, 1757, 1758, 1759, 1760, 1743, 1745, 1747, 1749, 1751] (by decide +kernel) (by decide +kernel)

/-! java/lang/AbstractStringBuilder -/
def RJ5 : String := "java/lang/AbstractStringBuilder"
abbrev cJ5_init : ByteArray := prog_9_method_2_code
def yJ5_init : MethodName := ⟨RJ5, "<init>", "(I)V"⟩
def dkwJ5_init_1 : List UInt8 := [167, 0, 16, 42, 27, 184, 0, 26, 181, 0, 15, 42, 4, 181, 0, 22, 177]
abbrev dktJ5_init_1 : List UInt8 := dkwJ5_init_1 ++ []
def dkwJ5_init_0 : List UInt8 := [42, 183, 0, 3, 178, 0, 18, 153, 0, 18, 42, 27, 188, 8, 181, 0, 15, 42, 3, 181, 0, 22]
abbrev dktJ5_init_0 : List UInt8 := dkwJ5_init_0 ++ dktJ5_init_1
theorem dksJ5_init_0 : cJ5_init.data.toList.drop 0 = dktJ5_init_0 := by decide +kernel
theorem dksJ5_init_1 : cJ5_init.data.toList.drop 22 = dktJ5_init_1 := dk_seg dksJ5_init_0 22 rfl rfl
theorem dJ5_init_0 : decode cJ5_init 0 = .ok (.aload_n 0, 1) := dk_42 (dk_at dksJ5_init_0 0 rfl rfl)
theorem dJ5_init_1 : decode cJ5_init 1 = .ok (.invokespecial 3, 3) := dk_183 0 3 (dk_at dksJ5_init_0 1 rfl rfl)
theorem dJ5_init_4 : decode cJ5_init 4 = .ok (.getstatic 18, 3) := dk_178 0 18 (dk_at dksJ5_init_0 4 rfl rfl)
theorem dJ5_init_7 : decode cJ5_init 7 = .ok (.ifCond .eq 18, 3) := dk_153 0 18 (dk_at dksJ5_init_0 7 rfl rfl)
theorem dJ5_init_10 : decode cJ5_init 10 = .ok (.aload_n 0, 1) := dk_42 (dk_at dksJ5_init_0 10 rfl rfl)
theorem dJ5_init_11 : decode cJ5_init 11 = .ok (.iload_n 1, 1) := dk_27 (dk_at dksJ5_init_0 11 rfl rfl)
theorem dJ5_init_12 : decode cJ5_init 12 = .ok (.newarray .byte, 2) := dk_188_8 (dk_at dksJ5_init_0 12 rfl rfl)
theorem dJ5_init_14 : decode cJ5_init 14 = .ok (.putfield 15, 3) := dk_181 0 15 (dk_at dksJ5_init_0 14 rfl rfl)
theorem dJ5_init_17 : decode cJ5_init 17 = .ok (.aload_n 0, 1) := dk_42 (dk_at dksJ5_init_0 17 rfl rfl)
theorem dJ5_init_18 : decode cJ5_init 18 = .ok (.iconst 0, 1) := dk_3 (dk_at dksJ5_init_0 18 rfl rfl)
theorem dJ5_init_19 : decode cJ5_init 19 = .ok (.putfield 22, 3) := dk_181 0 22 (dk_at dksJ5_init_0 19 rfl rfl)
theorem dJ5_init_22 : decode cJ5_init 22 = .ok (.goto 16, 3) := dk_167 0 16 (dk_at dksJ5_init_1 0 rfl rfl)
theorem dJ5_init_25 : decode cJ5_init 25 = .ok (.aload_n 0, 1) := dk_42 (dk_at dksJ5_init_1 3 rfl rfl)
theorem dJ5_init_26 : decode cJ5_init 26 = .ok (.iload_n 1, 1) := dk_27 (dk_at dksJ5_init_1 4 rfl rfl)
theorem dJ5_init_27 : decode cJ5_init 27 = .ok (.invokestatic 26, 3) := dk_184 0 26 (dk_at dksJ5_init_1 5 rfl rfl)
theorem dJ5_init_30 : decode cJ5_init 30 = .ok (.putfield 15, 3) := dk_181 0 15 (dk_at dksJ5_init_1 8 rfl rfl)
theorem dJ5_init_33 : decode cJ5_init 33 = .ok (.aload_n 0, 1) := dk_42 (dk_at dksJ5_init_1 11 rfl rfl)
theorem dJ5_init_34 : decode cJ5_init 34 = .ok (.iconst 1, 1) := dk_4 (dk_at dksJ5_init_1 12 rfl rfl)
theorem dJ5_init_35 : decode cJ5_init 35 = .ok (.putfield 22, 3) := dk_181 0 22 (dk_at dksJ5_init_1 13 rfl rfl)
theorem dJ5_init_38 : decode cJ5_init 38 = .ok (.return_, 1) := dk_177 (dk_at dksJ5_init_1 16 rfl rfl)
abbrev cJ5_append : ByteArray := prog_9_method_22_code
def yJ5_append : MethodName := ⟨RJ5, "append", "(Ljava/lang/String;)Ljava/lang/AbstractStringBuilder;"⟩
def dkwJ5_append_1 : List UInt8 := [42, 42, 180, 0, 79, 43, 182, 0, 208, 42, 89, 180, 0, 79, 28, 96, 181, 0, 79, 42, 176]
abbrev dktJ5_append_1 : List UInt8 := dkwJ5_append_1 ++ []
def dkwJ5_append_0 : List UInt8 := [43, 199, 0, 8, 42, 182, 0, 204, 176, 43, 182, 0, 32, 61, 42, 42, 180, 0, 79, 28, 96, 182, 0, 100]
abbrev dktJ5_append_0 : List UInt8 := dkwJ5_append_0 ++ dktJ5_append_1
theorem dksJ5_append_0 : cJ5_append.data.toList.drop 0 = dktJ5_append_0 := by decide +kernel
theorem dksJ5_append_1 : cJ5_append.data.toList.drop 24 = dktJ5_append_1 := dk_seg dksJ5_append_0 24 rfl rfl
theorem dJ5_append_0 : decode cJ5_append 0 = .ok (.aload_n 1, 1) := dk_43 (dk_at dksJ5_append_0 0 rfl rfl)
theorem dJ5_append_1 : decode cJ5_append 1 = .ok (.ifnonnull 8, 3) := dk_199 0 8 (dk_at dksJ5_append_0 1 rfl rfl)
theorem dJ5_append_4 : decode cJ5_append 4 = .ok (.aload_n 0, 1) := dk_42 (dk_at dksJ5_append_0 4 rfl rfl)
theorem dJ5_append_5 : decode cJ5_append 5 = .ok (.invokevirtual 204, 3) := dk_182 0 204 (dk_at dksJ5_append_0 5 rfl rfl)
theorem dJ5_append_8 : decode cJ5_append 8 = .ok (.areturn, 1) := dk_176 (dk_at dksJ5_append_0 8 rfl rfl)
theorem dJ5_append_9 : decode cJ5_append 9 = .ok (.aload_n 1, 1) := dk_43 (dk_at dksJ5_append_0 9 rfl rfl)
theorem dJ5_append_10 : decode cJ5_append 10 = .ok (.invokevirtual 32, 3) := dk_182 0 32 (dk_at dksJ5_append_0 10 rfl rfl)
theorem dJ5_append_13 : decode cJ5_append 13 = .ok (.istore_n 2, 1) := dk_61 (dk_at dksJ5_append_0 13 rfl rfl)
theorem dJ5_append_14 : decode cJ5_append 14 = .ok (.aload_n 0, 1) := dk_42 (dk_at dksJ5_append_0 14 rfl rfl)
theorem dJ5_append_15 : decode cJ5_append 15 = .ok (.aload_n 0, 1) := dk_42 (dk_at dksJ5_append_0 15 rfl rfl)
theorem dJ5_append_16 : decode cJ5_append 16 = .ok (.getfield 79, 3) := dk_180 0 79 (dk_at dksJ5_append_0 16 rfl rfl)
theorem dJ5_append_19 : decode cJ5_append 19 = .ok (.iload_n 2, 1) := dk_28 (dk_at dksJ5_append_0 19 rfl rfl)
theorem dJ5_append_20 : decode cJ5_append 20 = .ok (.iadd, 1) := dk_96 (dk_at dksJ5_append_0 20 rfl rfl)
theorem dJ5_append_21 : decode cJ5_append 21 = .ok (.invokevirtual 100, 3) := dk_182 0 100 (dk_at dksJ5_append_0 21 rfl rfl)
theorem dJ5_append_24 : decode cJ5_append 24 = .ok (.aload_n 0, 1) := dk_42 (dk_at dksJ5_append_1 0 rfl rfl)
theorem dJ5_append_25 : decode cJ5_append 25 = .ok (.aload_n 0, 1) := dk_42 (dk_at dksJ5_append_1 1 rfl rfl)
theorem dJ5_append_26 : decode cJ5_append 26 = .ok (.getfield 79, 3) := dk_180 0 79 (dk_at dksJ5_append_1 2 rfl rfl)
theorem dJ5_append_29 : decode cJ5_append 29 = .ok (.aload_n 1, 1) := dk_43 (dk_at dksJ5_append_1 5 rfl rfl)
theorem dJ5_append_30 : decode cJ5_append 30 = .ok (.invokevirtual 208, 3) := dk_182 0 208 (dk_at dksJ5_append_1 6 rfl rfl)
theorem dJ5_append_33 : decode cJ5_append 33 = .ok (.aload_n 0, 1) := dk_42 (dk_at dksJ5_append_1 9 rfl rfl)
theorem dJ5_append_34 : decode cJ5_append 34 = .ok (.dup, 1) := dk_89 (dk_at dksJ5_append_1 10 rfl rfl)
theorem dJ5_append_35 : decode cJ5_append 35 = .ok (.getfield 79, 3) := dk_180 0 79 (dk_at dksJ5_append_1 11 rfl rfl)
theorem dJ5_append_38 : decode cJ5_append 38 = .ok (.iload_n 2, 1) := dk_28 (dk_at dksJ5_append_1 14 rfl rfl)
theorem dJ5_append_39 : decode cJ5_append 39 = .ok (.iadd, 1) := dk_96 (dk_at dksJ5_append_1 15 rfl rfl)
theorem dJ5_append_40 : decode cJ5_append 40 = .ok (.putfield 79, 3) := dk_181 0 79 (dk_at dksJ5_append_1 16 rfl rfl)
theorem dJ5_append_43 : decode cJ5_append 43 = .ok (.aload_n 0, 1) := dk_42 (dk_at dksJ5_append_1 19 rfl rfl)
theorem dJ5_append_44 : decode cJ5_append 44 = .ok (.areturn, 1) := dk_176 (dk_at dksJ5_append_1 20 rfl rfl)
abbrev cJ5_appendNull : ByteArray := prog_9_method_26_code
def yJ5_appendNull : MethodName := ⟨RJ5, "appendNull", "()Ljava/lang/AbstractStringBuilder;"⟩
def dkwJ5_appendNull_3 : List UInt8 := [184, 0, 226, 60, 42, 27, 181, 0, 79, 42, 176]
abbrev dktJ5_appendNull_3 : List UInt8 := dkwJ5_appendNull_3 ++ []
def dkwJ5_appendNull_2 : List UInt8 := [16, 108, 84, 44, 27, 132, 1, 1, 16, 108, 84, 167, 0, 17, 44, 27, 16, 110, 16, 117, 16, 108, 16, 108]
abbrev dktJ5_appendNull_2 : List UInt8 := dkwJ5_appendNull_2 ++ dktJ5_appendNull_3
def dkwJ5_appendNull_1 : List UInt8 := [153, 0, 38, 44, 27, 132, 1, 1, 16, 110, 84, 44, 27, 132, 1, 1, 16, 117, 84, 44, 27, 132, 1, 1]
abbrev dktJ5_appendNull_1 : List UInt8 := dkwJ5_appendNull_1 ++ dktJ5_appendNull_2
def dkwJ5_appendNull_0 : List UInt8 := [42, 42, 180, 0, 79, 7, 96, 182, 0, 100, 42, 180, 0, 79, 60, 42, 180, 0, 15, 77, 42, 182, 0, 83]
abbrev dktJ5_appendNull_0 : List UInt8 := dkwJ5_appendNull_0 ++ dktJ5_appendNull_1
theorem dksJ5_appendNull_0 : cJ5_appendNull.data.toList.drop 0 = dktJ5_appendNull_0 := by decide +kernel
theorem dksJ5_appendNull_1 : cJ5_appendNull.data.toList.drop 24 = dktJ5_appendNull_1 := dk_seg dksJ5_appendNull_0 24 rfl rfl
theorem dksJ5_appendNull_2 : cJ5_appendNull.data.toList.drop 48 = dktJ5_appendNull_2 := dk_seg dksJ5_appendNull_1 24 rfl rfl
theorem dksJ5_appendNull_3 : cJ5_appendNull.data.toList.drop 72 = dktJ5_appendNull_3 := dk_seg dksJ5_appendNull_2 24 rfl rfl
theorem dJ5_appendNull_0 : decode cJ5_appendNull 0 = .ok (.aload_n 0, 1) := dk_42 (dk_at dksJ5_appendNull_0 0 rfl rfl)
theorem dJ5_appendNull_1 : decode cJ5_appendNull 1 = .ok (.aload_n 0, 1) := dk_42 (dk_at dksJ5_appendNull_0 1 rfl rfl)
theorem dJ5_appendNull_2 : decode cJ5_appendNull 2 = .ok (.getfield 79, 3) := dk_180 0 79 (dk_at dksJ5_appendNull_0 2 rfl rfl)
theorem dJ5_appendNull_5 : decode cJ5_appendNull 5 = .ok (.iconst 4, 1) := dk_7 (dk_at dksJ5_appendNull_0 5 rfl rfl)
theorem dJ5_appendNull_6 : decode cJ5_appendNull 6 = .ok (.iadd, 1) := dk_96 (dk_at dksJ5_appendNull_0 6 rfl rfl)
theorem dJ5_appendNull_7 : decode cJ5_appendNull 7 = .ok (.invokevirtual 100, 3) := dk_182 0 100 (dk_at dksJ5_appendNull_0 7 rfl rfl)
theorem dJ5_appendNull_10 : decode cJ5_appendNull 10 = .ok (.aload_n 0, 1) := dk_42 (dk_at dksJ5_appendNull_0 10 rfl rfl)
theorem dJ5_appendNull_11 : decode cJ5_appendNull 11 = .ok (.getfield 79, 3) := dk_180 0 79 (dk_at dksJ5_appendNull_0 11 rfl rfl)
theorem dJ5_appendNull_14 : decode cJ5_appendNull 14 = .ok (.istore_n 1, 1) := dk_60 (dk_at dksJ5_appendNull_0 14 rfl rfl)
theorem dJ5_appendNull_15 : decode cJ5_appendNull 15 = .ok (.aload_n 0, 1) := dk_42 (dk_at dksJ5_appendNull_0 15 rfl rfl)
theorem dJ5_appendNull_16 : decode cJ5_appendNull 16 = .ok (.getfield 15, 3) := dk_180 0 15 (dk_at dksJ5_appendNull_0 16 rfl rfl)
theorem dJ5_appendNull_19 : decode cJ5_appendNull 19 = .ok (.astore_n 2, 1) := dk_77 (dk_at dksJ5_appendNull_0 19 rfl rfl)
theorem dJ5_appendNull_20 : decode cJ5_appendNull 20 = .ok (.aload_n 0, 1) := dk_42 (dk_at dksJ5_appendNull_0 20 rfl rfl)
theorem dJ5_appendNull_21 : decode cJ5_appendNull 21 = .ok (.invokevirtual 83, 3) := dk_182 0 83 (dk_at dksJ5_appendNull_0 21 rfl rfl)
theorem dJ5_appendNull_24 : decode cJ5_appendNull 24 = .ok (.ifCond .eq 38, 3) := dk_153 0 38 (dk_at dksJ5_appendNull_1 0 rfl rfl)
theorem dJ5_appendNull_27 : decode cJ5_appendNull 27 = .ok (.aload_n 2, 1) := dk_44 (dk_at dksJ5_appendNull_1 3 rfl rfl)
theorem dJ5_appendNull_28 : decode cJ5_appendNull 28 = .ok (.iload_n 1, 1) := dk_27 (dk_at dksJ5_appendNull_1 4 rfl rfl)
theorem dJ5_appendNull_29 : decode cJ5_appendNull 29 = .ok (.iinc 1 1, 3) := dk_132 1 1 (dk_at dksJ5_appendNull_1 5 rfl rfl)
theorem dJ5_appendNull_32 : decode cJ5_appendNull 32 = .ok (.bipush 110, 2) := dk_16 110 (dk_at dksJ5_appendNull_1 8 rfl rfl)
theorem dJ5_appendNull_34 : decode cJ5_appendNull 34 = .ok (.bastore, 1) := dk_84 (dk_at dksJ5_appendNull_1 10 rfl rfl)
theorem dJ5_appendNull_35 : decode cJ5_appendNull 35 = .ok (.aload_n 2, 1) := dk_44 (dk_at dksJ5_appendNull_1 11 rfl rfl)
theorem dJ5_appendNull_36 : decode cJ5_appendNull 36 = .ok (.iload_n 1, 1) := dk_27 (dk_at dksJ5_appendNull_1 12 rfl rfl)
theorem dJ5_appendNull_37 : decode cJ5_appendNull 37 = .ok (.iinc 1 1, 3) := dk_132 1 1 (dk_at dksJ5_appendNull_1 13 rfl rfl)
theorem dJ5_appendNull_40 : decode cJ5_appendNull 40 = .ok (.bipush 117, 2) := dk_16 117 (dk_at dksJ5_appendNull_1 16 rfl rfl)
theorem dJ5_appendNull_42 : decode cJ5_appendNull 42 = .ok (.bastore, 1) := dk_84 (dk_at dksJ5_appendNull_1 18 rfl rfl)
theorem dJ5_appendNull_43 : decode cJ5_appendNull 43 = .ok (.aload_n 2, 1) := dk_44 (dk_at dksJ5_appendNull_1 19 rfl rfl)
theorem dJ5_appendNull_44 : decode cJ5_appendNull 44 = .ok (.iload_n 1, 1) := dk_27 (dk_at dksJ5_appendNull_1 20 rfl rfl)
theorem dJ5_appendNull_45 : decode cJ5_appendNull 45 = .ok (.iinc 1 1, 3) := dk_132 1 1 (dk_at dksJ5_appendNull_1 21 rfl rfl)
theorem dJ5_appendNull_48 : decode cJ5_appendNull 48 = .ok (.bipush 108, 2) := dk_16 108 (dk_at dksJ5_appendNull_2 0 rfl rfl)
theorem dJ5_appendNull_50 : decode cJ5_appendNull 50 = .ok (.bastore, 1) := dk_84 (dk_at dksJ5_appendNull_2 2 rfl rfl)
theorem dJ5_appendNull_51 : decode cJ5_appendNull 51 = .ok (.aload_n 2, 1) := dk_44 (dk_at dksJ5_appendNull_2 3 rfl rfl)
theorem dJ5_appendNull_52 : decode cJ5_appendNull 52 = .ok (.iload_n 1, 1) := dk_27 (dk_at dksJ5_appendNull_2 4 rfl rfl)
theorem dJ5_appendNull_53 : decode cJ5_appendNull 53 = .ok (.iinc 1 1, 3) := dk_132 1 1 (dk_at dksJ5_appendNull_2 5 rfl rfl)
theorem dJ5_appendNull_56 : decode cJ5_appendNull 56 = .ok (.bipush 108, 2) := dk_16 108 (dk_at dksJ5_appendNull_2 8 rfl rfl)
theorem dJ5_appendNull_58 : decode cJ5_appendNull 58 = .ok (.bastore, 1) := dk_84 (dk_at dksJ5_appendNull_2 10 rfl rfl)
theorem dJ5_appendNull_59 : decode cJ5_appendNull 59 = .ok (.goto 17, 3) := dk_167 0 17 (dk_at dksJ5_appendNull_2 11 rfl rfl)
theorem dJ5_appendNull_62 : decode cJ5_appendNull 62 = .ok (.aload_n 2, 1) := dk_44 (dk_at dksJ5_appendNull_2 14 rfl rfl)
theorem dJ5_appendNull_63 : decode cJ5_appendNull 63 = .ok (.iload_n 1, 1) := dk_27 (dk_at dksJ5_appendNull_2 15 rfl rfl)
theorem dJ5_appendNull_64 : decode cJ5_appendNull 64 = .ok (.bipush 110, 2) := dk_16 110 (dk_at dksJ5_appendNull_2 16 rfl rfl)
theorem dJ5_appendNull_66 : decode cJ5_appendNull 66 = .ok (.bipush 117, 2) := dk_16 117 (dk_at dksJ5_appendNull_2 18 rfl rfl)
theorem dJ5_appendNull_68 : decode cJ5_appendNull 68 = .ok (.bipush 108, 2) := dk_16 108 (dk_at dksJ5_appendNull_2 20 rfl rfl)
theorem dJ5_appendNull_70 : decode cJ5_appendNull 70 = .ok (.bipush 108, 2) := dk_16 108 (dk_at dksJ5_appendNull_2 22 rfl rfl)
theorem dJ5_appendNull_72 : decode cJ5_appendNull 72 = .ok (.invokestatic 226, 3) := dk_184 0 226 (dk_at dksJ5_appendNull_3 0 rfl rfl)
theorem dJ5_appendNull_75 : decode cJ5_appendNull 75 = .ok (.istore_n 1, 1) := dk_60 (dk_at dksJ5_appendNull_3 3 rfl rfl)
theorem dJ5_appendNull_76 : decode cJ5_appendNull 76 = .ok (.aload_n 0, 1) := dk_42 (dk_at dksJ5_appendNull_3 4 rfl rfl)
theorem dJ5_appendNull_77 : decode cJ5_appendNull 77 = .ok (.iload_n 1, 1) := dk_27 (dk_at dksJ5_appendNull_3 5 rfl rfl)
theorem dJ5_appendNull_78 : decode cJ5_appendNull 78 = .ok (.putfield 79, 3) := dk_181 0 79 (dk_at dksJ5_appendNull_3 6 rfl rfl)
theorem dJ5_appendNull_81 : decode cJ5_appendNull 81 = .ok (.aload_n 0, 1) := dk_42 (dk_at dksJ5_appendNull_3 9 rfl rfl)
theorem dJ5_appendNull_82 : decode cJ5_appendNull 82 = .ok (.areturn, 1) := dk_176 (dk_at dksJ5_appendNull_3 10 rfl rfl)
abbrev cJ5_ensureCapacityInternal : ByteArray := prog_9_method_9_code
def yJ5_ensureCapacityInternal : MethodName := ⟨RJ5, "ensureCapacityInternal", "(I)V"⟩
def dkwJ5_ensureCapacityInternal_1 : List UInt8 := [182, 0, 104, 42, 180, 0, 22, 120, 184, 0, 108, 181, 0, 15, 177]
abbrev dktJ5_ensureCapacityInternal_1 : List UInt8 := dkwJ5_ensureCapacityInternal_1 ++ []
def dkwJ5_ensureCapacityInternal_0 : List UInt8 := [42, 180, 0, 15, 190, 42, 180, 0, 22, 122, 61, 27, 28, 100, 158, 0, 24, 42, 42, 180, 0, 15, 42, 27]
abbrev dktJ5_ensureCapacityInternal_0 : List UInt8 := dkwJ5_ensureCapacityInternal_0 ++ dktJ5_ensureCapacityInternal_1
theorem dksJ5_ensureCapacityInternal_0 : cJ5_ensureCapacityInternal.data.toList.drop 0 = dktJ5_ensureCapacityInternal_0 := by decide +kernel
theorem dksJ5_ensureCapacityInternal_1 : cJ5_ensureCapacityInternal.data.toList.drop 24 = dktJ5_ensureCapacityInternal_1 := dk_seg dksJ5_ensureCapacityInternal_0 24 rfl rfl
theorem dJ5_ensureCapacityInternal_0 : decode cJ5_ensureCapacityInternal 0 = .ok (.aload_n 0, 1) := dk_42 (dk_at dksJ5_ensureCapacityInternal_0 0 rfl rfl)
theorem dJ5_ensureCapacityInternal_1 : decode cJ5_ensureCapacityInternal 1 = .ok (.getfield 15, 3) := dk_180 0 15 (dk_at dksJ5_ensureCapacityInternal_0 1 rfl rfl)
theorem dJ5_ensureCapacityInternal_4 : decode cJ5_ensureCapacityInternal 4 = .ok (.arraylength, 1) := dk_190 (dk_at dksJ5_ensureCapacityInternal_0 4 rfl rfl)
theorem dJ5_ensureCapacityInternal_5 : decode cJ5_ensureCapacityInternal 5 = .ok (.aload_n 0, 1) := dk_42 (dk_at dksJ5_ensureCapacityInternal_0 5 rfl rfl)
theorem dJ5_ensureCapacityInternal_6 : decode cJ5_ensureCapacityInternal 6 = .ok (.getfield 22, 3) := dk_180 0 22 (dk_at dksJ5_ensureCapacityInternal_0 6 rfl rfl)
theorem dJ5_ensureCapacityInternal_9 : decode cJ5_ensureCapacityInternal 9 = .ok (.ishr, 1) := dk_122 (dk_at dksJ5_ensureCapacityInternal_0 9 rfl rfl)
theorem dJ5_ensureCapacityInternal_10 : decode cJ5_ensureCapacityInternal 10 = .ok (.istore_n 2, 1) := dk_61 (dk_at dksJ5_ensureCapacityInternal_0 10 rfl rfl)
theorem dJ5_ensureCapacityInternal_11 : decode cJ5_ensureCapacityInternal 11 = .ok (.iload_n 1, 1) := dk_27 (dk_at dksJ5_ensureCapacityInternal_0 11 rfl rfl)
theorem dJ5_ensureCapacityInternal_12 : decode cJ5_ensureCapacityInternal 12 = .ok (.iload_n 2, 1) := dk_28 (dk_at dksJ5_ensureCapacityInternal_0 12 rfl rfl)
theorem dJ5_ensureCapacityInternal_13 : decode cJ5_ensureCapacityInternal 13 = .ok (.isub, 1) := dk_100 (dk_at dksJ5_ensureCapacityInternal_0 13 rfl rfl)
theorem dJ5_ensureCapacityInternal_14 : decode cJ5_ensureCapacityInternal 14 = .ok (.ifCond .le 24, 3) := dk_158 0 24 (dk_at dksJ5_ensureCapacityInternal_0 14 rfl rfl)
theorem dJ5_ensureCapacityInternal_17 : decode cJ5_ensureCapacityInternal 17 = .ok (.aload_n 0, 1) := dk_42 (dk_at dksJ5_ensureCapacityInternal_0 17 rfl rfl)
theorem dJ5_ensureCapacityInternal_18 : decode cJ5_ensureCapacityInternal 18 = .ok (.aload_n 0, 1) := dk_42 (dk_at dksJ5_ensureCapacityInternal_0 18 rfl rfl)
theorem dJ5_ensureCapacityInternal_19 : decode cJ5_ensureCapacityInternal 19 = .ok (.getfield 15, 3) := dk_180 0 15 (dk_at dksJ5_ensureCapacityInternal_0 19 rfl rfl)
theorem dJ5_ensureCapacityInternal_22 : decode cJ5_ensureCapacityInternal 22 = .ok (.aload_n 0, 1) := dk_42 (dk_at dksJ5_ensureCapacityInternal_0 22 rfl rfl)
theorem dJ5_ensureCapacityInternal_23 : decode cJ5_ensureCapacityInternal 23 = .ok (.iload_n 1, 1) := dk_27 (dk_at dksJ5_ensureCapacityInternal_0 23 rfl rfl)
theorem dJ5_ensureCapacityInternal_24 : decode cJ5_ensureCapacityInternal 24 = .ok (.invokevirtual 104, 3) := dk_182 0 104 (dk_at dksJ5_ensureCapacityInternal_1 0 rfl rfl)
theorem dJ5_ensureCapacityInternal_27 : decode cJ5_ensureCapacityInternal 27 = .ok (.aload_n 0, 1) := dk_42 (dk_at dksJ5_ensureCapacityInternal_1 3 rfl rfl)
theorem dJ5_ensureCapacityInternal_28 : decode cJ5_ensureCapacityInternal 28 = .ok (.getfield 22, 3) := dk_180 0 22 (dk_at dksJ5_ensureCapacityInternal_1 4 rfl rfl)
theorem dJ5_ensureCapacityInternal_31 : decode cJ5_ensureCapacityInternal 31 = .ok (.ishl, 1) := dk_120 (dk_at dksJ5_ensureCapacityInternal_1 7 rfl rfl)
theorem dJ5_ensureCapacityInternal_32 : decode cJ5_ensureCapacityInternal 32 = .ok (.invokestatic 108, 3) := dk_184 0 108 (dk_at dksJ5_ensureCapacityInternal_1 8 rfl rfl)
theorem dJ5_ensureCapacityInternal_35 : decode cJ5_ensureCapacityInternal 35 = .ok (.putfield 15, 3) := dk_181 0 15 (dk_at dksJ5_ensureCapacityInternal_1 11 rfl rfl)
theorem dJ5_ensureCapacityInternal_38 : decode cJ5_ensureCapacityInternal 38 = .ok (.return_, 1) := dk_177 (dk_at dksJ5_ensureCapacityInternal_1 14 rfl rfl)
abbrev cJ5_newCapacity : ByteArray := prog_9_method_10_code
def yJ5_newCapacity : MethodName := ⟨RJ5, "newCapacity", "(I)I"⟩
def dkwJ5_newCapacity_2 : List UInt8 := [183, 0, 124, 191, 21, 5, 42, 180, 0, 22, 122, 172]
abbrev dktJ5_newCapacity_2 : List UInt8 := dkwJ5_newCapacity_2 ++ []
def dkwJ5_newCapacity_1 : List UInt8 := [180, 0, 22, 120, 96, 184, 0, 114, 54, 5, 21, 5, 18, 39, 160, 0, 13, 187, 0, 120, 89, 18, 122]
abbrev dktJ5_newCapacity_1 : List UInt8 := dkwJ5_newCapacity_1 ++ dktJ5_newCapacity_2
def dkwJ5_newCapacity_0 : List UInt8 := [42, 180, 0, 15, 190, 61, 27, 42, 180, 0, 22, 120, 62, 29, 28, 100, 54, 4, 28, 21, 4, 28, 5, 42]
abbrev dktJ5_newCapacity_0 : List UInt8 := dkwJ5_newCapacity_0 ++ dktJ5_newCapacity_1
theorem dksJ5_newCapacity_0 : cJ5_newCapacity.data.toList.drop 0 = dktJ5_newCapacity_0 := by decide +kernel
theorem dksJ5_newCapacity_1 : cJ5_newCapacity.data.toList.drop 24 = dktJ5_newCapacity_1 := dk_seg dksJ5_newCapacity_0 24 rfl rfl
theorem dksJ5_newCapacity_2 : cJ5_newCapacity.data.toList.drop 47 = dktJ5_newCapacity_2 := dk_seg dksJ5_newCapacity_1 23 rfl rfl
theorem dJ5_newCapacity_0 : decode cJ5_newCapacity 0 = .ok (.aload_n 0, 1) := dk_42 (dk_at dksJ5_newCapacity_0 0 rfl rfl)
theorem dJ5_newCapacity_1 : decode cJ5_newCapacity 1 = .ok (.getfield 15, 3) := dk_180 0 15 (dk_at dksJ5_newCapacity_0 1 rfl rfl)
theorem dJ5_newCapacity_4 : decode cJ5_newCapacity 4 = .ok (.arraylength, 1) := dk_190 (dk_at dksJ5_newCapacity_0 4 rfl rfl)
theorem dJ5_newCapacity_5 : decode cJ5_newCapacity 5 = .ok (.istore_n 2, 1) := dk_61 (dk_at dksJ5_newCapacity_0 5 rfl rfl)
theorem dJ5_newCapacity_6 : decode cJ5_newCapacity 6 = .ok (.iload_n 1, 1) := dk_27 (dk_at dksJ5_newCapacity_0 6 rfl rfl)
theorem dJ5_newCapacity_7 : decode cJ5_newCapacity 7 = .ok (.aload_n 0, 1) := dk_42 (dk_at dksJ5_newCapacity_0 7 rfl rfl)
theorem dJ5_newCapacity_8 : decode cJ5_newCapacity 8 = .ok (.getfield 22, 3) := dk_180 0 22 (dk_at dksJ5_newCapacity_0 8 rfl rfl)
theorem dJ5_newCapacity_11 : decode cJ5_newCapacity 11 = .ok (.ishl, 1) := dk_120 (dk_at dksJ5_newCapacity_0 11 rfl rfl)
theorem dJ5_newCapacity_12 : decode cJ5_newCapacity 12 = .ok (.istore_n 3, 1) := dk_62 (dk_at dksJ5_newCapacity_0 12 rfl rfl)
theorem dJ5_newCapacity_13 : decode cJ5_newCapacity 13 = .ok (.iload_n 3, 1) := dk_29 (dk_at dksJ5_newCapacity_0 13 rfl rfl)
theorem dJ5_newCapacity_14 : decode cJ5_newCapacity 14 = .ok (.iload_n 2, 1) := dk_28 (dk_at dksJ5_newCapacity_0 14 rfl rfl)
theorem dJ5_newCapacity_15 : decode cJ5_newCapacity 15 = .ok (.isub, 1) := dk_100 (dk_at dksJ5_newCapacity_0 15 rfl rfl)
theorem dJ5_newCapacity_16 : decode cJ5_newCapacity 16 = .ok (.istore 4, 2) := dk_54 4 (dk_at dksJ5_newCapacity_0 16 rfl rfl)
theorem dJ5_newCapacity_18 : decode cJ5_newCapacity 18 = .ok (.iload_n 2, 1) := dk_28 (dk_at dksJ5_newCapacity_0 18 rfl rfl)
theorem dJ5_newCapacity_19 : decode cJ5_newCapacity 19 = .ok (.iload 4, 2) := dk_21 4 (dk_at dksJ5_newCapacity_0 19 rfl rfl)
theorem dJ5_newCapacity_21 : decode cJ5_newCapacity 21 = .ok (.iload_n 2, 1) := dk_28 (dk_at dksJ5_newCapacity_0 21 rfl rfl)
theorem dJ5_newCapacity_22 : decode cJ5_newCapacity 22 = .ok (.iconst 2, 1) := dk_5 (dk_at dksJ5_newCapacity_0 22 rfl rfl)
theorem dJ5_newCapacity_23 : decode cJ5_newCapacity 23 = .ok (.aload_n 0, 1) := dk_42 (dk_at dksJ5_newCapacity_0 23 rfl rfl)
theorem dJ5_newCapacity_24 : decode cJ5_newCapacity 24 = .ok (.getfield 22, 3) := dk_180 0 22 (dk_at dksJ5_newCapacity_1 0 rfl rfl)
theorem dJ5_newCapacity_27 : decode cJ5_newCapacity 27 = .ok (.ishl, 1) := dk_120 (dk_at dksJ5_newCapacity_1 3 rfl rfl)
theorem dJ5_newCapacity_28 : decode cJ5_newCapacity 28 = .ok (.iadd, 1) := dk_96 (dk_at dksJ5_newCapacity_1 4 rfl rfl)
theorem dJ5_newCapacity_29 : decode cJ5_newCapacity 29 = .ok (.invokestatic 114, 3) := dk_184 0 114 (dk_at dksJ5_newCapacity_1 5 rfl rfl)
theorem dJ5_newCapacity_32 : decode cJ5_newCapacity 32 = .ok (.istore 5, 2) := dk_54 5 (dk_at dksJ5_newCapacity_1 8 rfl rfl)
theorem dJ5_newCapacity_34 : decode cJ5_newCapacity 34 = .ok (.iload 5, 2) := dk_21 5 (dk_at dksJ5_newCapacity_1 10 rfl rfl)
theorem dJ5_newCapacity_36 : decode cJ5_newCapacity 36 = .ok (.ldc 39, 2) := dk_18 39 (dk_at dksJ5_newCapacity_1 12 rfl rfl)
theorem dJ5_newCapacity_38 : decode cJ5_newCapacity 38 = .ok (.if_icmp .ne 13, 3) := dk_160 0 13 (dk_at dksJ5_newCapacity_1 14 rfl rfl)
theorem dJ5_newCapacity_41 : decode cJ5_newCapacity 41 = .ok (.new 120, 3) := dk_187 0 120 (dk_at dksJ5_newCapacity_1 17 rfl rfl)
theorem dJ5_newCapacity_44 : decode cJ5_newCapacity 44 = .ok (.dup, 1) := dk_89 (dk_at dksJ5_newCapacity_1 20 rfl rfl)
theorem dJ5_newCapacity_45 : decode cJ5_newCapacity 45 = .ok (.ldc 122, 2) := dk_18 122 (dk_at dksJ5_newCapacity_1 21 rfl rfl)
theorem dJ5_newCapacity_47 : decode cJ5_newCapacity 47 = .ok (.invokespecial 124, 3) := dk_183 0 124 (dk_at dksJ5_newCapacity_2 0 rfl rfl)
theorem dJ5_newCapacity_50 : decode cJ5_newCapacity 50 = .ok (.athrow, 1) := dk_191 (dk_at dksJ5_newCapacity_2 3 rfl rfl)
theorem dJ5_newCapacity_51 : decode cJ5_newCapacity 51 = .ok (.iload 5, 2) := dk_21 5 (dk_at dksJ5_newCapacity_2 4 rfl rfl)
theorem dJ5_newCapacity_53 : decode cJ5_newCapacity 53 = .ok (.aload_n 0, 1) := dk_42 (dk_at dksJ5_newCapacity_2 6 rfl rfl)
theorem dJ5_newCapacity_54 : decode cJ5_newCapacity 54 = .ok (.getfield 22, 3) := dk_180 0 22 (dk_at dksJ5_newCapacity_2 7 rfl rfl)
theorem dJ5_newCapacity_57 : decode cJ5_newCapacity 57 = .ok (.ishr, 1) := dk_122 (dk_at dksJ5_newCapacity_2 10 rfl rfl)
theorem dJ5_newCapacity_58 : decode cJ5_newCapacity 58 = .ok (.ireturn, 1) := dk_172 (dk_at dksJ5_newCapacity_2 11 rfl rfl)
abbrev cJ5_isLatin1 : ByteArray := prog_9_method_68_code
def yJ5_isLatin1 : MethodName := ⟨RJ5, "isLatin1", "()Z"⟩
def dkwJ5_isLatin1_0 : List UInt8 := [178, 0, 18, 153, 0, 14, 42, 180, 0, 22, 154, 0, 7, 4, 167, 0, 4, 3, 172]
abbrev dktJ5_isLatin1_0 : List UInt8 := dkwJ5_isLatin1_0 ++ []
theorem dksJ5_isLatin1_0 : cJ5_isLatin1.data.toList.drop 0 = dktJ5_isLatin1_0 := by decide +kernel
theorem dJ5_isLatin1_0 : decode cJ5_isLatin1 0 = .ok (.getstatic 18, 3) := dk_178 0 18 (dk_at dksJ5_isLatin1_0 0 rfl rfl)
theorem dJ5_isLatin1_3 : decode cJ5_isLatin1 3 = .ok (.ifCond .eq 14, 3) := dk_153 0 14 (dk_at dksJ5_isLatin1_0 3 rfl rfl)
theorem dJ5_isLatin1_6 : decode cJ5_isLatin1 6 = .ok (.aload_n 0, 1) := dk_42 (dk_at dksJ5_isLatin1_0 6 rfl rfl)
theorem dJ5_isLatin1_7 : decode cJ5_isLatin1 7 = .ok (.getfield 22, 3) := dk_180 0 22 (dk_at dksJ5_isLatin1_0 7 rfl rfl)
theorem dJ5_isLatin1_10 : decode cJ5_isLatin1 10 = .ok (.ifCond .ne 7, 3) := dk_154 0 7 (dk_at dksJ5_isLatin1_0 10 rfl rfl)
theorem dJ5_isLatin1_13 : decode cJ5_isLatin1 13 = .ok (.iconst 1, 1) := dk_4 (dk_at dksJ5_isLatin1_0 13 rfl rfl)
theorem dJ5_isLatin1_14 : decode cJ5_isLatin1 14 = .ok (.goto 4, 3) := dk_167 0 4 (dk_at dksJ5_isLatin1_0 14 rfl rfl)
theorem dJ5_isLatin1_17 : decode cJ5_isLatin1 17 = .ok (.iconst 0, 1) := dk_3 (dk_at dksJ5_isLatin1_0 17 rfl rfl)
theorem dJ5_isLatin1_18 : decode cJ5_isLatin1 18 = .ok (.ireturn, 1) := dk_172 (dk_at dksJ5_isLatin1_0 18 rfl rfl)
abbrev cJ5_putStringAt : ByteArray := prog_9_method_73_code
def yJ5_putStringAt : MethodName := ⟨RJ5, "putStringAt", "(ILjava/lang/String;)V"⟩
def dkwJ5_putStringAt_0 : List UInt8 := [42, 44, 182, 1, 141, 44, 42, 180, 0, 15, 27, 42, 180, 0, 22, 182, 1, 143, 177]
abbrev dktJ5_putStringAt_0 : List UInt8 := dkwJ5_putStringAt_0 ++ []
theorem dksJ5_putStringAt_0 : cJ5_putStringAt.data.toList.drop 0 = dktJ5_putStringAt_0 := by decide +kernel
theorem dJ5_putStringAt_0 : decode cJ5_putStringAt 0 = .ok (.aload_n 0, 1) := dk_42 (dk_at dksJ5_putStringAt_0 0 rfl rfl)
theorem dJ5_putStringAt_1 : decode cJ5_putStringAt 1 = .ok (.aload_n 2, 1) := dk_44 (dk_at dksJ5_putStringAt_0 1 rfl rfl)
theorem dJ5_putStringAt_2 : decode cJ5_putStringAt 2 = .ok (.invokevirtual 397, 3) := dk_182 1 141 (dk_at dksJ5_putStringAt_0 2 rfl rfl)
theorem dJ5_putStringAt_5 : decode cJ5_putStringAt 5 = .ok (.aload_n 2, 1) := dk_44 (dk_at dksJ5_putStringAt_0 5 rfl rfl)
theorem dJ5_putStringAt_6 : decode cJ5_putStringAt 6 = .ok (.aload_n 0, 1) := dk_42 (dk_at dksJ5_putStringAt_0 6 rfl rfl)
theorem dJ5_putStringAt_7 : decode cJ5_putStringAt 7 = .ok (.getfield 15, 3) := dk_180 0 15 (dk_at dksJ5_putStringAt_0 7 rfl rfl)
theorem dJ5_putStringAt_10 : decode cJ5_putStringAt 10 = .ok (.iload_n 1, 1) := dk_27 (dk_at dksJ5_putStringAt_0 10 rfl rfl)
theorem dJ5_putStringAt_11 : decode cJ5_putStringAt 11 = .ok (.aload_n 0, 1) := dk_42 (dk_at dksJ5_putStringAt_0 11 rfl rfl)
theorem dJ5_putStringAt_12 : decode cJ5_putStringAt 12 = .ok (.getfield 22, 3) := dk_180 0 22 (dk_at dksJ5_putStringAt_0 12 rfl rfl)
theorem dJ5_putStringAt_15 : decode cJ5_putStringAt 15 = .ok (.invokevirtual 399, 3) := dk_182 1 143 (dk_at dksJ5_putStringAt_0 15 rfl rfl)
theorem dJ5_putStringAt_18 : decode cJ5_putStringAt 18 = .ok (.return_, 1) := dk_177 (dk_at dksJ5_putStringAt_0 18 rfl rfl)
abbrev cJ5_inflateIfNeededFor : ByteArray := prog_9_method_71_code
def yJ5_inflateIfNeededFor : MethodName := ⟨RJ5, "inflateIfNeededFor", "(Ljava/lang/String;)V"⟩
def dkwJ5_inflateIfNeededFor_0 : List UInt8 := [178, 0, 18, 153, 0, 18, 42, 180, 0, 22, 43, 182, 0, 40, 159, 0, 7, 42, 182, 0, 195, 177]
abbrev dktJ5_inflateIfNeededFor_0 : List UInt8 := dkwJ5_inflateIfNeededFor_0 ++ []
theorem dksJ5_inflateIfNeededFor_0 : cJ5_inflateIfNeededFor.data.toList.drop 0 = dktJ5_inflateIfNeededFor_0 := by decide +kernel
theorem dJ5_inflateIfNeededFor_0 : decode cJ5_inflateIfNeededFor 0 = .ok (.getstatic 18, 3) := dk_178 0 18 (dk_at dksJ5_inflateIfNeededFor_0 0 rfl rfl)
theorem dJ5_inflateIfNeededFor_3 : decode cJ5_inflateIfNeededFor 3 = .ok (.ifCond .eq 18, 3) := dk_153 0 18 (dk_at dksJ5_inflateIfNeededFor_0 3 rfl rfl)
theorem dJ5_inflateIfNeededFor_6 : decode cJ5_inflateIfNeededFor 6 = .ok (.aload_n 0, 1) := dk_42 (dk_at dksJ5_inflateIfNeededFor_0 6 rfl rfl)
theorem dJ5_inflateIfNeededFor_7 : decode cJ5_inflateIfNeededFor 7 = .ok (.getfield 22, 3) := dk_180 0 22 (dk_at dksJ5_inflateIfNeededFor_0 7 rfl rfl)
theorem dJ5_inflateIfNeededFor_10 : decode cJ5_inflateIfNeededFor 10 = .ok (.aload_n 1, 1) := dk_43 (dk_at dksJ5_inflateIfNeededFor_0 10 rfl rfl)
theorem dJ5_inflateIfNeededFor_11 : decode cJ5_inflateIfNeededFor 11 = .ok (.invokevirtual 40, 3) := dk_182 0 40 (dk_at dksJ5_inflateIfNeededFor_0 11 rfl rfl)
theorem dJ5_inflateIfNeededFor_14 : decode cJ5_inflateIfNeededFor 14 = .ok (.if_icmp .eq 7, 3) := dk_159 0 7 (dk_at dksJ5_inflateIfNeededFor_0 14 rfl rfl)
theorem dJ5_inflateIfNeededFor_17 : decode cJ5_inflateIfNeededFor 17 = .ok (.aload_n 0, 1) := dk_42 (dk_at dksJ5_inflateIfNeededFor_0 17 rfl rfl)
theorem dJ5_inflateIfNeededFor_18 : decode cJ5_inflateIfNeededFor 18 = .ok (.invokevirtual 195, 3) := dk_182 0 195 (dk_at dksJ5_inflateIfNeededFor_0 18 rfl rfl)
theorem dJ5_inflateIfNeededFor_21 : decode cJ5_inflateIfNeededFor 21 = .ok (.return_, 1) := dk_177 (dk_at dksJ5_inflateIfNeededFor_0 21 rfl rfl)
abbrev cJ5_inflate : ByteArray := prog_9_method_11_code
def yJ5_inflate : MethodName := ⟨RJ5, "inflate", "()V"⟩
def dkwJ5_inflate_1 : List UInt8 := [42, 180, 0, 79, 184, 0, 125, 42, 43, 181, 0, 15, 42, 4, 181, 0, 22, 177]
abbrev dktJ5_inflate_1 : List UInt8 := dkwJ5_inflate_1 ++ []
def dkwJ5_inflate_0 : List UInt8 := [42, 182, 0, 83, 154, 0, 4, 177, 42, 180, 0, 15, 190, 184, 0, 26, 76, 42, 180, 0, 15, 3, 43, 3]
abbrev dktJ5_inflate_0 : List UInt8 := dkwJ5_inflate_0 ++ dktJ5_inflate_1
theorem dksJ5_inflate_0 : cJ5_inflate.data.toList.drop 0 = dktJ5_inflate_0 := by decide +kernel
theorem dksJ5_inflate_1 : cJ5_inflate.data.toList.drop 24 = dktJ5_inflate_1 := dk_seg dksJ5_inflate_0 24 rfl rfl
theorem dJ5_inflate_0 : decode cJ5_inflate 0 = .ok (.aload_n 0, 1) := dk_42 (dk_at dksJ5_inflate_0 0 rfl rfl)
theorem dJ5_inflate_1 : decode cJ5_inflate 1 = .ok (.invokevirtual 83, 3) := dk_182 0 83 (dk_at dksJ5_inflate_0 1 rfl rfl)
theorem dJ5_inflate_4 : decode cJ5_inflate 4 = .ok (.ifCond .ne 4, 3) := dk_154 0 4 (dk_at dksJ5_inflate_0 4 rfl rfl)
theorem dJ5_inflate_7 : decode cJ5_inflate 7 = .ok (.return_, 1) := dk_177 (dk_at dksJ5_inflate_0 7 rfl rfl)
theorem dJ5_inflate_8 : decode cJ5_inflate 8 = .ok (.aload_n 0, 1) := dk_42 (dk_at dksJ5_inflate_0 8 rfl rfl)
theorem dJ5_inflate_9 : decode cJ5_inflate 9 = .ok (.getfield 15, 3) := dk_180 0 15 (dk_at dksJ5_inflate_0 9 rfl rfl)
theorem dJ5_inflate_12 : decode cJ5_inflate 12 = .ok (.arraylength, 1) := dk_190 (dk_at dksJ5_inflate_0 12 rfl rfl)
theorem dJ5_inflate_13 : decode cJ5_inflate 13 = .ok (.invokestatic 26, 3) := dk_184 0 26 (dk_at dksJ5_inflate_0 13 rfl rfl)
theorem dJ5_inflate_16 : decode cJ5_inflate 16 = .ok (.astore_n 1, 1) := dk_76 (dk_at dksJ5_inflate_0 16 rfl rfl)
theorem dJ5_inflate_17 : decode cJ5_inflate 17 = .ok (.aload_n 0, 1) := dk_42 (dk_at dksJ5_inflate_0 17 rfl rfl)
theorem dJ5_inflate_18 : decode cJ5_inflate 18 = .ok (.getfield 15, 3) := dk_180 0 15 (dk_at dksJ5_inflate_0 18 rfl rfl)
theorem dJ5_inflate_21 : decode cJ5_inflate 21 = .ok (.iconst 0, 1) := dk_3 (dk_at dksJ5_inflate_0 21 rfl rfl)
theorem dJ5_inflate_22 : decode cJ5_inflate 22 = .ok (.aload_n 1, 1) := dk_43 (dk_at dksJ5_inflate_0 22 rfl rfl)
theorem dJ5_inflate_23 : decode cJ5_inflate 23 = .ok (.iconst 0, 1) := dk_3 (dk_at dksJ5_inflate_0 23 rfl rfl)
theorem dJ5_inflate_24 : decode cJ5_inflate 24 = .ok (.aload_n 0, 1) := dk_42 (dk_at dksJ5_inflate_1 0 rfl rfl)
theorem dJ5_inflate_25 : decode cJ5_inflate 25 = .ok (.getfield 79, 3) := dk_180 0 79 (dk_at dksJ5_inflate_1 1 rfl rfl)
theorem dJ5_inflate_28 : decode cJ5_inflate 28 = .ok (.invokestatic 125, 3) := dk_184 0 125 (dk_at dksJ5_inflate_1 4 rfl rfl)
theorem dJ5_inflate_31 : decode cJ5_inflate 31 = .ok (.aload_n 0, 1) := dk_42 (dk_at dksJ5_inflate_1 7 rfl rfl)
theorem dJ5_inflate_32 : decode cJ5_inflate 32 = .ok (.aload_n 1, 1) := dk_43 (dk_at dksJ5_inflate_1 8 rfl rfl)
theorem dJ5_inflate_33 : decode cJ5_inflate 33 = .ok (.putfield 15, 3) := dk_181 0 15 (dk_at dksJ5_inflate_1 9 rfl rfl)
theorem dJ5_inflate_36 : decode cJ5_inflate 36 = .ok (.aload_n 0, 1) := dk_42 (dk_at dksJ5_inflate_1 12 rfl rfl)
theorem dJ5_inflate_37 : decode cJ5_inflate 37 = .ok (.iconst 1, 1) := dk_4 (dk_at dksJ5_inflate_1 13 rfl rfl)
theorem dJ5_inflate_38 : decode cJ5_inflate 38 = .ok (.putfield 22, 3) := dk_181 0 22 (dk_at dksJ5_inflate_1 14 rfl rfl)
theorem dJ5_inflate_41 : decode cJ5_inflate 41 = .ok (.return_, 1) := dk_177 (dk_at dksJ5_inflate_1 17 rfl rfl)
abbrev cJ5_getValue : ByteArray := prog_9_method_64_code
def yJ5_getValue : MethodName := ⟨RJ5, "getValue", "()[B"⟩
theorem dJ5_getValue_0 : decode cJ5_getValue 0 = .ok (.aload_n 0, 1) := by decide +kernel
theorem dJ5_getValue_1 : decode cJ5_getValue 1 = .ok (.getfield 15, 3) := by decide +kernel
theorem dJ5_getValue_4 : decode cJ5_getValue 4 = .ok (.areturn, 1) := by decide +kernel
abbrev cJ5_length : ByteArray := prog_9_method_6_code
def yJ5_length : MethodName := ⟨RJ5, "length", "()I"⟩
theorem dJ5_length_0 : decode cJ5_length 0 = .ok (.aload_n 0, 1) := by decide +kernel
theorem dJ5_length_1 : decode cJ5_length 1 = .ok (.getfield 79, 3) := by decide +kernel
theorem dJ5_length_4 : decode cJ5_length 4 = .ok (.ireturn, 1) := by decide +kernel
abbrev cJ5_append_2 : ByteArray := prog_9_method_31_code
def yJ5_append_2 : MethodName := ⟨RJ5, "append", "(C)Ljava/lang/AbstractStringBuilder;"⟩
def dkwJ5_append_2_3 : List UInt8 := [181, 0, 79, 27, 184, 0, 197, 42, 176]
abbrev dktJ5_append_2_3 : List UInt8 := dkwJ5_append_2_3 ++ []
def dkwJ5_append_2_2 : List UInt8 := [182, 0, 83, 153, 0, 7, 42, 182, 0, 195, 42, 180, 0, 15, 42, 89, 180, 0, 79, 90, 4, 96]
abbrev dktJ5_append_2_2 : List UInt8 := dkwJ5_append_2_2 ++ dktJ5_append_2_3
def dkwJ5_append_2_1 : List UInt8 := [42, 180, 0, 15, 42, 89, 180, 0, 79, 90, 4, 96, 181, 0, 79, 27, 145, 84, 167, 0, 33, 42]
abbrev dktJ5_append_2_1 : List UInt8 := dkwJ5_append_2_1 ++ dktJ5_append_2_2
def dkwJ5_append_2_0 : List UInt8 := [42, 42, 180, 0, 79, 4, 96, 182, 0, 100, 42, 182, 0, 83, 153, 0, 31, 27, 184, 0, 191, 153, 0, 24]
abbrev dktJ5_append_2_0 : List UInt8 := dkwJ5_append_2_0 ++ dktJ5_append_2_1
theorem dksJ5_append_2_0 : cJ5_append_2.data.toList.drop 0 = dktJ5_append_2_0 := by decide +kernel
theorem dksJ5_append_2_1 : cJ5_append_2.data.toList.drop 24 = dktJ5_append_2_1 := dk_seg dksJ5_append_2_0 24 rfl rfl
theorem dksJ5_append_2_2 : cJ5_append_2.data.toList.drop 46 = dktJ5_append_2_2 := dk_seg dksJ5_append_2_1 22 rfl rfl
theorem dksJ5_append_2_3 : cJ5_append_2.data.toList.drop 68 = dktJ5_append_2_3 := dk_seg dksJ5_append_2_2 22 rfl rfl
theorem dJ5_append_2_0 : decode cJ5_append_2 0 = .ok (.aload_n 0, 1) := dk_42 (dk_at dksJ5_append_2_0 0 rfl rfl)
theorem dJ5_append_2_1 : decode cJ5_append_2 1 = .ok (.aload_n 0, 1) := dk_42 (dk_at dksJ5_append_2_0 1 rfl rfl)
theorem dJ5_append_2_2 : decode cJ5_append_2 2 = .ok (.getfield 79, 3) := dk_180 0 79 (dk_at dksJ5_append_2_0 2 rfl rfl)
theorem dJ5_append_2_5 : decode cJ5_append_2 5 = .ok (.iconst 1, 1) := dk_4 (dk_at dksJ5_append_2_0 5 rfl rfl)
theorem dJ5_append_2_6 : decode cJ5_append_2 6 = .ok (.iadd, 1) := dk_96 (dk_at dksJ5_append_2_0 6 rfl rfl)
theorem dJ5_append_2_7 : decode cJ5_append_2 7 = .ok (.invokevirtual 100, 3) := dk_182 0 100 (dk_at dksJ5_append_2_0 7 rfl rfl)
theorem dJ5_append_2_10 : decode cJ5_append_2 10 = .ok (.aload_n 0, 1) := dk_42 (dk_at dksJ5_append_2_0 10 rfl rfl)
theorem dJ5_append_2_11 : decode cJ5_append_2 11 = .ok (.invokevirtual 83, 3) := dk_182 0 83 (dk_at dksJ5_append_2_0 11 rfl rfl)
theorem dJ5_append_2_14 : decode cJ5_append_2 14 = .ok (.ifCond .eq 31, 3) := dk_153 0 31 (dk_at dksJ5_append_2_0 14 rfl rfl)
theorem dJ5_append_2_17 : decode cJ5_append_2 17 = .ok (.iload_n 1, 1) := dk_27 (dk_at dksJ5_append_2_0 17 rfl rfl)
theorem dJ5_append_2_18 : decode cJ5_append_2 18 = .ok (.invokestatic 191, 3) := dk_184 0 191 (dk_at dksJ5_append_2_0 18 rfl rfl)
theorem dJ5_append_2_21 : decode cJ5_append_2 21 = .ok (.ifCond .eq 24, 3) := dk_153 0 24 (dk_at dksJ5_append_2_0 21 rfl rfl)
theorem dJ5_append_2_24 : decode cJ5_append_2 24 = .ok (.aload_n 0, 1) := dk_42 (dk_at dksJ5_append_2_1 0 rfl rfl)
theorem dJ5_append_2_25 : decode cJ5_append_2 25 = .ok (.getfield 15, 3) := dk_180 0 15 (dk_at dksJ5_append_2_1 1 rfl rfl)
theorem dJ5_append_2_28 : decode cJ5_append_2 28 = .ok (.aload_n 0, 1) := dk_42 (dk_at dksJ5_append_2_1 4 rfl rfl)
theorem dJ5_append_2_29 : decode cJ5_append_2 29 = .ok (.dup, 1) := dk_89 (dk_at dksJ5_append_2_1 5 rfl rfl)
theorem dJ5_append_2_30 : decode cJ5_append_2 30 = .ok (.getfield 79, 3) := dk_180 0 79 (dk_at dksJ5_append_2_1 6 rfl rfl)
theorem dJ5_append_2_33 : decode cJ5_append_2 33 = .ok (.dup_x1, 1) := dk_90 (dk_at dksJ5_append_2_1 9 rfl rfl)
theorem dJ5_append_2_34 : decode cJ5_append_2 34 = .ok (.iconst 1, 1) := dk_4 (dk_at dksJ5_append_2_1 10 rfl rfl)
theorem dJ5_append_2_35 : decode cJ5_append_2 35 = .ok (.iadd, 1) := dk_96 (dk_at dksJ5_append_2_1 11 rfl rfl)
theorem dJ5_append_2_36 : decode cJ5_append_2 36 = .ok (.putfield 79, 3) := dk_181 0 79 (dk_at dksJ5_append_2_1 12 rfl rfl)
theorem dJ5_append_2_39 : decode cJ5_append_2 39 = .ok (.iload_n 1, 1) := dk_27 (dk_at dksJ5_append_2_1 15 rfl rfl)
theorem dJ5_append_2_40 : decode cJ5_append_2 40 = .ok (.i2b, 1) := dk_145 (dk_at dksJ5_append_2_1 16 rfl rfl)
theorem dJ5_append_2_41 : decode cJ5_append_2 41 = .ok (.bastore, 1) := dk_84 (dk_at dksJ5_append_2_1 17 rfl rfl)
theorem dJ5_append_2_42 : decode cJ5_append_2 42 = .ok (.goto 33, 3) := dk_167 0 33 (dk_at dksJ5_append_2_1 18 rfl rfl)
theorem dJ5_append_2_45 : decode cJ5_append_2 45 = .ok (.aload_n 0, 1) := dk_42 (dk_at dksJ5_append_2_1 21 rfl rfl)
theorem dJ5_append_2_46 : decode cJ5_append_2 46 = .ok (.invokevirtual 83, 3) := dk_182 0 83 (dk_at dksJ5_append_2_2 0 rfl rfl)
theorem dJ5_append_2_49 : decode cJ5_append_2 49 = .ok (.ifCond .eq 7, 3) := dk_153 0 7 (dk_at dksJ5_append_2_2 3 rfl rfl)
theorem dJ5_append_2_52 : decode cJ5_append_2 52 = .ok (.aload_n 0, 1) := dk_42 (dk_at dksJ5_append_2_2 6 rfl rfl)
theorem dJ5_append_2_53 : decode cJ5_append_2 53 = .ok (.invokevirtual 195, 3) := dk_182 0 195 (dk_at dksJ5_append_2_2 7 rfl rfl)
theorem dJ5_append_2_56 : decode cJ5_append_2 56 = .ok (.aload_n 0, 1) := dk_42 (dk_at dksJ5_append_2_2 10 rfl rfl)
theorem dJ5_append_2_57 : decode cJ5_append_2 57 = .ok (.getfield 15, 3) := dk_180 0 15 (dk_at dksJ5_append_2_2 11 rfl rfl)
theorem dJ5_append_2_60 : decode cJ5_append_2 60 = .ok (.aload_n 0, 1) := dk_42 (dk_at dksJ5_append_2_2 14 rfl rfl)
theorem dJ5_append_2_61 : decode cJ5_append_2 61 = .ok (.dup, 1) := dk_89 (dk_at dksJ5_append_2_2 15 rfl rfl)
theorem dJ5_append_2_62 : decode cJ5_append_2 62 = .ok (.getfield 79, 3) := dk_180 0 79 (dk_at dksJ5_append_2_2 16 rfl rfl)
theorem dJ5_append_2_65 : decode cJ5_append_2 65 = .ok (.dup_x1, 1) := dk_90 (dk_at dksJ5_append_2_2 19 rfl rfl)
theorem dJ5_append_2_66 : decode cJ5_append_2 66 = .ok (.iconst 1, 1) := dk_4 (dk_at dksJ5_append_2_2 20 rfl rfl)
theorem dJ5_append_2_67 : decode cJ5_append_2 67 = .ok (.iadd, 1) := dk_96 (dk_at dksJ5_append_2_2 21 rfl rfl)
theorem dJ5_append_2_68 : decode cJ5_append_2 68 = .ok (.putfield 79, 3) := dk_181 0 79 (dk_at dksJ5_append_2_3 0 rfl rfl)
theorem dJ5_append_2_71 : decode cJ5_append_2 71 = .ok (.iload_n 1, 1) := dk_27 (dk_at dksJ5_append_2_3 3 rfl rfl)
theorem dJ5_append_2_72 : decode cJ5_append_2 72 = .ok (.invokestatic 197, 3) := dk_184 0 197 (dk_at dksJ5_append_2_3 4 rfl rfl)
theorem dJ5_append_2_75 : decode cJ5_append_2 75 = .ok (.aload_n 0, 1) := dk_42 (dk_at dksJ5_append_2_3 7 rfl rfl)
theorem dJ5_append_2_76 : decode cJ5_append_2 76 = .ok (.areturn, 1) := dk_176 (dk_at dksJ5_append_2_3 8 rfl rfl)
abbrev cJ5_setLength : ByteArray := prog_9_method_13_code
def yJ5_setLength : MethodName := ⟨RJ5, "setLength", "(I)V"⟩
def dkwJ5_setLength_3 : List UInt8 := [164, 0, 8, 42, 4, 181, 0, 73, 42, 27, 181, 0, 79, 177]
abbrev dktJ5_setLength_3 : List UInt8 := dkwJ5_setLength_3 ++ []
def dkwJ5_setLength_2 : List UInt8 := [167, 0, 31, 42, 180, 0, 15, 42, 180, 0, 79, 27, 184, 0, 137, 167, 0, 16, 42, 180, 0, 79, 27]
abbrev dktJ5_setLength_2 : List UInt8 := dkwJ5_setLength_2 ++ dktJ5_setLength_3
def dkwJ5_setLength_1 : List UInt8 := [162, 0, 40, 42, 182, 0, 83, 153, 0, 18, 42, 180, 0, 15, 42, 180, 0, 79, 27, 184, 0, 133]
abbrev dktJ5_setLength_1 : List UInt8 := dkwJ5_setLength_1 ++ dktJ5_setLength_2
def dkwJ5_setLength_0 : List UInt8 := [27, 156, 0, 12, 187, 0, 129, 89, 27, 183, 0, 131, 191, 42, 27, 182, 0, 100, 42, 180, 0, 79, 27]
abbrev dktJ5_setLength_0 : List UInt8 := dkwJ5_setLength_0 ++ dktJ5_setLength_1
theorem dksJ5_setLength_0 : cJ5_setLength.data.toList.drop 0 = dktJ5_setLength_0 := by decide +kernel
theorem dksJ5_setLength_1 : cJ5_setLength.data.toList.drop 23 = dktJ5_setLength_1 := dk_seg dksJ5_setLength_0 23 rfl rfl
theorem dksJ5_setLength_2 : cJ5_setLength.data.toList.drop 45 = dktJ5_setLength_2 := dk_seg dksJ5_setLength_1 22 rfl rfl
theorem dksJ5_setLength_3 : cJ5_setLength.data.toList.drop 68 = dktJ5_setLength_3 := dk_seg dksJ5_setLength_2 23 rfl rfl
theorem dJ5_setLength_0 : decode cJ5_setLength 0 = .ok (.iload_n 1, 1) := dk_27 (dk_at dksJ5_setLength_0 0 rfl rfl)
theorem dJ5_setLength_1 : decode cJ5_setLength 1 = .ok (.ifCond .ge 12, 3) := dk_156 0 12 (dk_at dksJ5_setLength_0 1 rfl rfl)
theorem dJ5_setLength_4 : decode cJ5_setLength 4 = .ok (.new 129, 3) := dk_187 0 129 (dk_at dksJ5_setLength_0 4 rfl rfl)
theorem dJ5_setLength_7 : decode cJ5_setLength 7 = .ok (.dup, 1) := dk_89 (dk_at dksJ5_setLength_0 7 rfl rfl)
theorem dJ5_setLength_8 : decode cJ5_setLength 8 = .ok (.iload_n 1, 1) := dk_27 (dk_at dksJ5_setLength_0 8 rfl rfl)
theorem dJ5_setLength_9 : decode cJ5_setLength 9 = .ok (.invokespecial 131, 3) := dk_183 0 131 (dk_at dksJ5_setLength_0 9 rfl rfl)
theorem dJ5_setLength_12 : decode cJ5_setLength 12 = .ok (.athrow, 1) := dk_191 (dk_at dksJ5_setLength_0 12 rfl rfl)
theorem dJ5_setLength_13 : decode cJ5_setLength 13 = .ok (.aload_n 0, 1) := dk_42 (dk_at dksJ5_setLength_0 13 rfl rfl)
theorem dJ5_setLength_14 : decode cJ5_setLength 14 = .ok (.iload_n 1, 1) := dk_27 (dk_at dksJ5_setLength_0 14 rfl rfl)
theorem dJ5_setLength_15 : decode cJ5_setLength 15 = .ok (.invokevirtual 100, 3) := dk_182 0 100 (dk_at dksJ5_setLength_0 15 rfl rfl)
theorem dJ5_setLength_18 : decode cJ5_setLength 18 = .ok (.aload_n 0, 1) := dk_42 (dk_at dksJ5_setLength_0 18 rfl rfl)
theorem dJ5_setLength_19 : decode cJ5_setLength 19 = .ok (.getfield 79, 3) := dk_180 0 79 (dk_at dksJ5_setLength_0 19 rfl rfl)
theorem dJ5_setLength_22 : decode cJ5_setLength 22 = .ok (.iload_n 1, 1) := dk_27 (dk_at dksJ5_setLength_0 22 rfl rfl)
theorem dJ5_setLength_23 : decode cJ5_setLength 23 = .ok (.if_icmp .ge 40, 3) := dk_162 0 40 (dk_at dksJ5_setLength_1 0 rfl rfl)
theorem dJ5_setLength_26 : decode cJ5_setLength 26 = .ok (.aload_n 0, 1) := dk_42 (dk_at dksJ5_setLength_1 3 rfl rfl)
theorem dJ5_setLength_27 : decode cJ5_setLength 27 = .ok (.invokevirtual 83, 3) := dk_182 0 83 (dk_at dksJ5_setLength_1 4 rfl rfl)
theorem dJ5_setLength_30 : decode cJ5_setLength 30 = .ok (.ifCond .eq 18, 3) := dk_153 0 18 (dk_at dksJ5_setLength_1 7 rfl rfl)
theorem dJ5_setLength_33 : decode cJ5_setLength 33 = .ok (.aload_n 0, 1) := dk_42 (dk_at dksJ5_setLength_1 10 rfl rfl)
theorem dJ5_setLength_34 : decode cJ5_setLength 34 = .ok (.getfield 15, 3) := dk_180 0 15 (dk_at dksJ5_setLength_1 11 rfl rfl)
theorem dJ5_setLength_37 : decode cJ5_setLength 37 = .ok (.aload_n 0, 1) := dk_42 (dk_at dksJ5_setLength_1 14 rfl rfl)
theorem dJ5_setLength_38 : decode cJ5_setLength 38 = .ok (.getfield 79, 3) := dk_180 0 79 (dk_at dksJ5_setLength_1 15 rfl rfl)
theorem dJ5_setLength_41 : decode cJ5_setLength 41 = .ok (.iload_n 1, 1) := dk_27 (dk_at dksJ5_setLength_1 18 rfl rfl)
theorem dJ5_setLength_42 : decode cJ5_setLength 42 = .ok (.invokestatic 133, 3) := dk_184 0 133 (dk_at dksJ5_setLength_1 19 rfl rfl)
theorem dJ5_setLength_45 : decode cJ5_setLength 45 = .ok (.goto 31, 3) := dk_167 0 31 (dk_at dksJ5_setLength_2 0 rfl rfl)
theorem dJ5_setLength_48 : decode cJ5_setLength 48 = .ok (.aload_n 0, 1) := dk_42 (dk_at dksJ5_setLength_2 3 rfl rfl)
theorem dJ5_setLength_49 : decode cJ5_setLength 49 = .ok (.getfield 15, 3) := dk_180 0 15 (dk_at dksJ5_setLength_2 4 rfl rfl)
theorem dJ5_setLength_52 : decode cJ5_setLength 52 = .ok (.aload_n 0, 1) := dk_42 (dk_at dksJ5_setLength_2 7 rfl rfl)
theorem dJ5_setLength_53 : decode cJ5_setLength 53 = .ok (.getfield 79, 3) := dk_180 0 79 (dk_at dksJ5_setLength_2 8 rfl rfl)
theorem dJ5_setLength_56 : decode cJ5_setLength 56 = .ok (.iload_n 1, 1) := dk_27 (dk_at dksJ5_setLength_2 11 rfl rfl)
theorem dJ5_setLength_57 : decode cJ5_setLength 57 = .ok (.invokestatic 137, 3) := dk_184 0 137 (dk_at dksJ5_setLength_2 12 rfl rfl)
theorem dJ5_setLength_60 : decode cJ5_setLength 60 = .ok (.goto 16, 3) := dk_167 0 16 (dk_at dksJ5_setLength_2 15 rfl rfl)
theorem dJ5_setLength_63 : decode cJ5_setLength 63 = .ok (.aload_n 0, 1) := dk_42 (dk_at dksJ5_setLength_2 18 rfl rfl)
theorem dJ5_setLength_64 : decode cJ5_setLength 64 = .ok (.getfield 79, 3) := dk_180 0 79 (dk_at dksJ5_setLength_2 19 rfl rfl)
theorem dJ5_setLength_67 : decode cJ5_setLength 67 = .ok (.iload_n 1, 1) := dk_27 (dk_at dksJ5_setLength_2 22 rfl rfl)
theorem dJ5_setLength_68 : decode cJ5_setLength 68 = .ok (.if_icmp .le 8, 3) := dk_164 0 8 (dk_at dksJ5_setLength_3 0 rfl rfl)
theorem dJ5_setLength_71 : decode cJ5_setLength 71 = .ok (.aload_n 0, 1) := dk_42 (dk_at dksJ5_setLength_3 3 rfl rfl)
theorem dJ5_setLength_72 : decode cJ5_setLength 72 = .ok (.iconst 1, 1) := dk_4 (dk_at dksJ5_setLength_3 4 rfl rfl)
theorem dJ5_setLength_73 : decode cJ5_setLength 73 = .ok (.putfield 73, 3) := dk_181 0 73 (dk_at dksJ5_setLength_3 5 rfl rfl)
theorem dJ5_setLength_76 : decode cJ5_setLength 76 = .ok (.aload_n 0, 1) := dk_42 (dk_at dksJ5_setLength_3 8 rfl rfl)
theorem dJ5_setLength_77 : decode cJ5_setLength 77 = .ok (.iload_n 1, 1) := dk_27 (dk_at dksJ5_setLength_3 9 rfl rfl)
theorem dJ5_setLength_78 : decode cJ5_setLength 78 = .ok (.putfield 79, 3) := dk_181 0 79 (dk_at dksJ5_setLength_3 10 rfl rfl)
theorem dJ5_setLength_81 : decode cJ5_setLength 81 = .ok (.return_, 1) := dk_177 (dk_at dksJ5_setLength_3 13 rfl rfl)
abbrev cJ5_charAt : ByteArray := prog_9_method_14_code
def yJ5_charAt : MethodName := ⟨RJ5, "charAt", "(I)C"⟩
def dkwJ5_charAt_1 : List UInt8 := [21, 4, 184, 0, 144, 28, 154, 0, 12, 45, 27, 51, 17, 0, 255, 126, 146, 172, 45, 27, 184, 0, 148, 172]
abbrev dktJ5_charAt_1 : List UInt8 := dkwJ5_charAt_1 ++ []
def dkwJ5_charAt_0 : List UInt8 := [42, 180, 0, 22, 61, 42, 180, 0, 15, 78, 42, 180, 0, 79, 45, 190, 28, 122, 184, 0, 138, 54, 4, 27]
abbrev dktJ5_charAt_0 : List UInt8 := dkwJ5_charAt_0 ++ dktJ5_charAt_1
theorem dksJ5_charAt_0 : cJ5_charAt.data.toList.drop 0 = dktJ5_charAt_0 := by decide +kernel
theorem dksJ5_charAt_1 : cJ5_charAt.data.toList.drop 24 = dktJ5_charAt_1 := dk_seg dksJ5_charAt_0 24 rfl rfl
theorem dJ5_charAt_0 : decode cJ5_charAt 0 = .ok (.aload_n 0, 1) := dk_42 (dk_at dksJ5_charAt_0 0 rfl rfl)
theorem dJ5_charAt_1 : decode cJ5_charAt 1 = .ok (.getfield 22, 3) := dk_180 0 22 (dk_at dksJ5_charAt_0 1 rfl rfl)
theorem dJ5_charAt_4 : decode cJ5_charAt 4 = .ok (.istore_n 2, 1) := dk_61 (dk_at dksJ5_charAt_0 4 rfl rfl)
theorem dJ5_charAt_5 : decode cJ5_charAt 5 = .ok (.aload_n 0, 1) := dk_42 (dk_at dksJ5_charAt_0 5 rfl rfl)
theorem dJ5_charAt_6 : decode cJ5_charAt 6 = .ok (.getfield 15, 3) := dk_180 0 15 (dk_at dksJ5_charAt_0 6 rfl rfl)
theorem dJ5_charAt_9 : decode cJ5_charAt 9 = .ok (.astore_n 3, 1) := dk_78 (dk_at dksJ5_charAt_0 9 rfl rfl)
theorem dJ5_charAt_10 : decode cJ5_charAt 10 = .ok (.aload_n 0, 1) := dk_42 (dk_at dksJ5_charAt_0 10 rfl rfl)
theorem dJ5_charAt_11 : decode cJ5_charAt 11 = .ok (.getfield 79, 3) := dk_180 0 79 (dk_at dksJ5_charAt_0 11 rfl rfl)
theorem dJ5_charAt_14 : decode cJ5_charAt 14 = .ok (.aload_n 3, 1) := dk_45 (dk_at dksJ5_charAt_0 14 rfl rfl)
theorem dJ5_charAt_15 : decode cJ5_charAt 15 = .ok (.arraylength, 1) := dk_190 (dk_at dksJ5_charAt_0 15 rfl rfl)
theorem dJ5_charAt_16 : decode cJ5_charAt 16 = .ok (.iload_n 2, 1) := dk_28 (dk_at dksJ5_charAt_0 16 rfl rfl)
theorem dJ5_charAt_17 : decode cJ5_charAt 17 = .ok (.ishr, 1) := dk_122 (dk_at dksJ5_charAt_0 17 rfl rfl)
theorem dJ5_charAt_18 : decode cJ5_charAt 18 = .ok (.invokestatic 138, 3) := dk_184 0 138 (dk_at dksJ5_charAt_0 18 rfl rfl)
theorem dJ5_charAt_21 : decode cJ5_charAt 21 = .ok (.istore 4, 2) := dk_54 4 (dk_at dksJ5_charAt_0 21 rfl rfl)
theorem dJ5_charAt_23 : decode cJ5_charAt 23 = .ok (.iload_n 1, 1) := dk_27 (dk_at dksJ5_charAt_0 23 rfl rfl)
theorem dJ5_charAt_24 : decode cJ5_charAt 24 = .ok (.iload 4, 2) := dk_21 4 (dk_at dksJ5_charAt_1 0 rfl rfl)
theorem dJ5_charAt_26 : decode cJ5_charAt 26 = .ok (.invokestatic 144, 3) := dk_184 0 144 (dk_at dksJ5_charAt_1 2 rfl rfl)
theorem dJ5_charAt_29 : decode cJ5_charAt 29 = .ok (.iload_n 2, 1) := dk_28 (dk_at dksJ5_charAt_1 5 rfl rfl)
theorem dJ5_charAt_30 : decode cJ5_charAt 30 = .ok (.ifCond .ne 12, 3) := dk_154 0 12 (dk_at dksJ5_charAt_1 6 rfl rfl)
theorem dJ5_charAt_33 : decode cJ5_charAt 33 = .ok (.aload_n 3, 1) := dk_45 (dk_at dksJ5_charAt_1 9 rfl rfl)
theorem dJ5_charAt_34 : decode cJ5_charAt 34 = .ok (.iload_n 1, 1) := dk_27 (dk_at dksJ5_charAt_1 10 rfl rfl)
theorem dJ5_charAt_35 : decode cJ5_charAt 35 = .ok (.baload, 1) := dk_51 (dk_at dksJ5_charAt_1 11 rfl rfl)
theorem dJ5_charAt_36 : decode cJ5_charAt 36 = .ok (.sipush 255, 3) := dk_17 0 255 (dk_at dksJ5_charAt_1 12 rfl rfl)
theorem dJ5_charAt_39 : decode cJ5_charAt 39 = .ok (.iand, 1) := dk_126 (dk_at dksJ5_charAt_1 15 rfl rfl)
theorem dJ5_charAt_40 : decode cJ5_charAt 40 = .ok (.i2c, 1) := dk_146 (dk_at dksJ5_charAt_1 16 rfl rfl)
theorem dJ5_charAt_41 : decode cJ5_charAt 41 = .ok (.ireturn, 1) := dk_172 (dk_at dksJ5_charAt_1 17 rfl rfl)
theorem dJ5_charAt_42 : decode cJ5_charAt 42 = .ok (.aload_n 3, 1) := dk_45 (dk_at dksJ5_charAt_1 18 rfl rfl)
theorem dJ5_charAt_43 : decode cJ5_charAt 43 = .ok (.iload_n 1, 1) := dk_27 (dk_at dksJ5_charAt_1 19 rfl rfl)
theorem dJ5_charAt_44 : decode cJ5_charAt 44 = .ok (.invokestatic 148, 3) := dk_184 0 148 (dk_at dksJ5_charAt_1 20 rfl rfl)
theorem dJ5_charAt_47 : decode cJ5_charAt 47 = .ok (.ireturn, 1) := dk_172 (dk_at dksJ5_charAt_1 23 rfl rfl)
abbrev cJ5_append_3 : ByteArray := prog_9_method_32_code
def yJ5_append_3 : MethodName := ⟨RJ5, "append", "(I)Ljava/lang/AbstractStringBuilder;"⟩
def dkwJ5_append_3_2 : List UInt8 := [42, 29, 181, 0, 79, 42, 176]
abbrev dktJ5_append_3_2 : List UInt8 := dkwJ5_append_3_2 ++ []
def dkwJ5_append_3_1 : List UInt8 := [27, 29, 42, 180, 0, 15, 184, 0, 248, 87, 167, 0, 14, 27, 28, 29, 42, 180, 0, 15, 184, 0, 251, 87]
abbrev dktJ5_append_3_1 : List UInt8 := dkwJ5_append_3_1 ++ dktJ5_append_3_2
def dkwJ5_append_3_0 : List UInt8 := [42, 180, 0, 79, 61, 28, 27, 184, 0, 245, 96, 62, 42, 29, 182, 0, 100, 42, 182, 0, 83, 153, 0, 16]
abbrev dktJ5_append_3_0 : List UInt8 := dkwJ5_append_3_0 ++ dktJ5_append_3_1
theorem dksJ5_append_3_0 : cJ5_append_3.data.toList.drop 0 = dktJ5_append_3_0 := by decide +kernel
theorem dksJ5_append_3_1 : cJ5_append_3.data.toList.drop 24 = dktJ5_append_3_1 := dk_seg dksJ5_append_3_0 24 rfl rfl
theorem dksJ5_append_3_2 : cJ5_append_3.data.toList.drop 48 = dktJ5_append_3_2 := dk_seg dksJ5_append_3_1 24 rfl rfl
theorem dJ5_append_3_0 : decode cJ5_append_3 0 = .ok (.aload_n 0, 1) := dk_42 (dk_at dksJ5_append_3_0 0 rfl rfl)
theorem dJ5_append_3_1 : decode cJ5_append_3 1 = .ok (.getfield 79, 3) := dk_180 0 79 (dk_at dksJ5_append_3_0 1 rfl rfl)
theorem dJ5_append_3_4 : decode cJ5_append_3 4 = .ok (.istore_n 2, 1) := dk_61 (dk_at dksJ5_append_3_0 4 rfl rfl)
theorem dJ5_append_3_5 : decode cJ5_append_3 5 = .ok (.iload_n 2, 1) := dk_28 (dk_at dksJ5_append_3_0 5 rfl rfl)
theorem dJ5_append_3_6 : decode cJ5_append_3 6 = .ok (.iload_n 1, 1) := dk_27 (dk_at dksJ5_append_3_0 6 rfl rfl)
theorem dJ5_append_3_7 : decode cJ5_append_3 7 = .ok (.invokestatic 245, 3) := dk_184 0 245 (dk_at dksJ5_append_3_0 7 rfl rfl)
theorem dJ5_append_3_10 : decode cJ5_append_3 10 = .ok (.iadd, 1) := dk_96 (dk_at dksJ5_append_3_0 10 rfl rfl)
theorem dJ5_append_3_11 : decode cJ5_append_3 11 = .ok (.istore_n 3, 1) := dk_62 (dk_at dksJ5_append_3_0 11 rfl rfl)
theorem dJ5_append_3_12 : decode cJ5_append_3 12 = .ok (.aload_n 0, 1) := dk_42 (dk_at dksJ5_append_3_0 12 rfl rfl)
theorem dJ5_append_3_13 : decode cJ5_append_3 13 = .ok (.iload_n 3, 1) := dk_29 (dk_at dksJ5_append_3_0 13 rfl rfl)
theorem dJ5_append_3_14 : decode cJ5_append_3 14 = .ok (.invokevirtual 100, 3) := dk_182 0 100 (dk_at dksJ5_append_3_0 14 rfl rfl)
theorem dJ5_append_3_17 : decode cJ5_append_3 17 = .ok (.aload_n 0, 1) := dk_42 (dk_at dksJ5_append_3_0 17 rfl rfl)
theorem dJ5_append_3_18 : decode cJ5_append_3 18 = .ok (.invokevirtual 83, 3) := dk_182 0 83 (dk_at dksJ5_append_3_0 18 rfl rfl)
theorem dJ5_append_3_21 : decode cJ5_append_3 21 = .ok (.ifCond .eq 16, 3) := dk_153 0 16 (dk_at dksJ5_append_3_0 21 rfl rfl)
theorem dJ5_append_3_24 : decode cJ5_append_3 24 = .ok (.iload_n 1, 1) := dk_27 (dk_at dksJ5_append_3_1 0 rfl rfl)
theorem dJ5_append_3_25 : decode cJ5_append_3 25 = .ok (.iload_n 3, 1) := dk_29 (dk_at dksJ5_append_3_1 1 rfl rfl)
theorem dJ5_append_3_26 : decode cJ5_append_3 26 = .ok (.aload_n 0, 1) := dk_42 (dk_at dksJ5_append_3_1 2 rfl rfl)
theorem dJ5_append_3_27 : decode cJ5_append_3 27 = .ok (.getfield 15, 3) := dk_180 0 15 (dk_at dksJ5_append_3_1 3 rfl rfl)
theorem dJ5_append_3_30 : decode cJ5_append_3 30 = .ok (.invokestatic 248, 3) := dk_184 0 248 (dk_at dksJ5_append_3_1 6 rfl rfl)
theorem dJ5_append_3_33 : decode cJ5_append_3 33 = .ok (.pop, 1) := dk_87 (dk_at dksJ5_append_3_1 9 rfl rfl)
theorem dJ5_append_3_34 : decode cJ5_append_3 34 = .ok (.goto 14, 3) := dk_167 0 14 (dk_at dksJ5_append_3_1 10 rfl rfl)
theorem dJ5_append_3_37 : decode cJ5_append_3 37 = .ok (.iload_n 1, 1) := dk_27 (dk_at dksJ5_append_3_1 13 rfl rfl)
theorem dJ5_append_3_38 : decode cJ5_append_3 38 = .ok (.iload_n 2, 1) := dk_28 (dk_at dksJ5_append_3_1 14 rfl rfl)
theorem dJ5_append_3_39 : decode cJ5_append_3 39 = .ok (.iload_n 3, 1) := dk_29 (dk_at dksJ5_append_3_1 15 rfl rfl)
theorem dJ5_append_3_40 : decode cJ5_append_3 40 = .ok (.aload_n 0, 1) := dk_42 (dk_at dksJ5_append_3_1 16 rfl rfl)
theorem dJ5_append_3_41 : decode cJ5_append_3 41 = .ok (.getfield 15, 3) := dk_180 0 15 (dk_at dksJ5_append_3_1 17 rfl rfl)
theorem dJ5_append_3_44 : decode cJ5_append_3 44 = .ok (.invokestatic 251, 3) := dk_184 0 251 (dk_at dksJ5_append_3_1 20 rfl rfl)
theorem dJ5_append_3_47 : decode cJ5_append_3 47 = .ok (.pop, 1) := dk_87 (dk_at dksJ5_append_3_1 23 rfl rfl)
theorem dJ5_append_3_48 : decode cJ5_append_3 48 = .ok (.aload_n 0, 1) := dk_42 (dk_at dksJ5_append_3_2 0 rfl rfl)
theorem dJ5_append_3_49 : decode cJ5_append_3 49 = .ok (.iload_n 3, 1) := dk_29 (dk_at dksJ5_append_3_2 1 rfl rfl)
theorem dJ5_append_3_50 : decode cJ5_append_3 50 = .ok (.putfield 79, 3) := dk_181 0 79 (dk_at dksJ5_append_3_2 2 rfl rfl)
theorem dJ5_append_3_53 : decode cJ5_append_3 53 = .ok (.aload_n 0, 1) := dk_42 (dk_at dksJ5_append_3_2 5 rfl rfl)
theorem dJ5_append_3_54 : decode cJ5_append_3 54 = .ok (.areturn, 1) := dk_176 (dk_at dksJ5_append_3_2 6 rfl rfl)
abbrev cJ5_compareTo : ByteArray := prog_9_method_5_code
def yJ5_compareTo : MethodName := ⟨RJ5, "compareTo", "(Ljava/lang/AbstractStringBuilder;)I"⟩
def dkwJ5_compareTo_4 : List UInt8 := [184, 0, 97, 172]
abbrev dktJ5_compareTo_4 : List UInt8 := dkwJ5_compareTo_4 ++ []
def dkwJ5_compareTo_3 : List UInt8 := [182, 0, 83, 153, 0, 15, 44, 45, 21, 4, 21, 5, 184, 0, 94, 167, 0, 12, 44, 45, 21, 4, 21, 5]
abbrev dktJ5_compareTo_3 : List UInt8 := dkwJ5_compareTo_3 ++ dktJ5_compareTo_4
def dkwJ5_compareTo_2 : List UInt8 := [45, 21, 4, 21, 5, 184, 0, 87, 167, 0, 12, 44, 45, 21, 4, 21, 5, 184, 0, 93, 172, 42]
abbrev dktJ5_compareTo_2 : List UInt8 := dkwJ5_compareTo_2 ++ dktJ5_compareTo_3
def dkwJ5_compareTo_1 : List UInt8 := [180, 0, 79, 54, 5, 42, 180, 0, 22, 43, 180, 0, 22, 160, 0, 32, 42, 182, 0, 83, 153, 0, 15, 44]
abbrev dktJ5_compareTo_1 : List UInt8 := dkwJ5_compareTo_1 ++ dktJ5_compareTo_2
def dkwJ5_compareTo_0 : List UInt8 := [42, 43, 166, 0, 5, 3, 172, 42, 180, 0, 15, 77, 43, 180, 0, 15, 78, 42, 180, 0, 79, 54, 4, 43]
abbrev dktJ5_compareTo_0 : List UInt8 := dkwJ5_compareTo_0 ++ dktJ5_compareTo_1
theorem dksJ5_compareTo_0 : cJ5_compareTo.data.toList.drop 0 = dktJ5_compareTo_0 := by decide +kernel
theorem dksJ5_compareTo_1 : cJ5_compareTo.data.toList.drop 24 = dktJ5_compareTo_1 := dk_seg dksJ5_compareTo_0 24 rfl rfl
theorem dksJ5_compareTo_2 : cJ5_compareTo.data.toList.drop 48 = dktJ5_compareTo_2 := dk_seg dksJ5_compareTo_1 24 rfl rfl
theorem dksJ5_compareTo_3 : cJ5_compareTo.data.toList.drop 70 = dktJ5_compareTo_3 := dk_seg dksJ5_compareTo_2 22 rfl rfl
theorem dksJ5_compareTo_4 : cJ5_compareTo.data.toList.drop 94 = dktJ5_compareTo_4 := dk_seg dksJ5_compareTo_3 24 rfl rfl
theorem dJ5_compareTo_0 : decode cJ5_compareTo 0 = .ok (.aload_n 0, 1) := dk_42 (dk_at dksJ5_compareTo_0 0 rfl rfl)
theorem dJ5_compareTo_1 : decode cJ5_compareTo 1 = .ok (.aload_n 1, 1) := dk_43 (dk_at dksJ5_compareTo_0 1 rfl rfl)
theorem dJ5_compareTo_2 : decode cJ5_compareTo 2 = .ok (.if_acmp .ne 5, 3) := dk_166 0 5 (dk_at dksJ5_compareTo_0 2 rfl rfl)
theorem dJ5_compareTo_5 : decode cJ5_compareTo 5 = .ok (.iconst 0, 1) := dk_3 (dk_at dksJ5_compareTo_0 5 rfl rfl)
theorem dJ5_compareTo_6 : decode cJ5_compareTo 6 = .ok (.ireturn, 1) := dk_172 (dk_at dksJ5_compareTo_0 6 rfl rfl)
theorem dJ5_compareTo_7 : decode cJ5_compareTo 7 = .ok (.aload_n 0, 1) := dk_42 (dk_at dksJ5_compareTo_0 7 rfl rfl)
theorem dJ5_compareTo_8 : decode cJ5_compareTo 8 = .ok (.getfield 15, 3) := dk_180 0 15 (dk_at dksJ5_compareTo_0 8 rfl rfl)
theorem dJ5_compareTo_11 : decode cJ5_compareTo 11 = .ok (.astore_n 2, 1) := dk_77 (dk_at dksJ5_compareTo_0 11 rfl rfl)
theorem dJ5_compareTo_12 : decode cJ5_compareTo 12 = .ok (.aload_n 1, 1) := dk_43 (dk_at dksJ5_compareTo_0 12 rfl rfl)
theorem dJ5_compareTo_13 : decode cJ5_compareTo 13 = .ok (.getfield 15, 3) := dk_180 0 15 (dk_at dksJ5_compareTo_0 13 rfl rfl)
theorem dJ5_compareTo_16 : decode cJ5_compareTo 16 = .ok (.astore_n 3, 1) := dk_78 (dk_at dksJ5_compareTo_0 16 rfl rfl)
theorem dJ5_compareTo_17 : decode cJ5_compareTo 17 = .ok (.aload_n 0, 1) := dk_42 (dk_at dksJ5_compareTo_0 17 rfl rfl)
theorem dJ5_compareTo_18 : decode cJ5_compareTo 18 = .ok (.getfield 79, 3) := dk_180 0 79 (dk_at dksJ5_compareTo_0 18 rfl rfl)
theorem dJ5_compareTo_21 : decode cJ5_compareTo 21 = .ok (.istore 4, 2) := dk_54 4 (dk_at dksJ5_compareTo_0 21 rfl rfl)
theorem dJ5_compareTo_23 : decode cJ5_compareTo 23 = .ok (.aload_n 1, 1) := dk_43 (dk_at dksJ5_compareTo_0 23 rfl rfl)
theorem dJ5_compareTo_24 : decode cJ5_compareTo 24 = .ok (.getfield 79, 3) := dk_180 0 79 (dk_at dksJ5_compareTo_1 0 rfl rfl)
theorem dJ5_compareTo_27 : decode cJ5_compareTo 27 = .ok (.istore 5, 2) := dk_54 5 (dk_at dksJ5_compareTo_1 3 rfl rfl)
theorem dJ5_compareTo_29 : decode cJ5_compareTo 29 = .ok (.aload_n 0, 1) := dk_42 (dk_at dksJ5_compareTo_1 5 rfl rfl)
theorem dJ5_compareTo_30 : decode cJ5_compareTo 30 = .ok (.getfield 22, 3) := dk_180 0 22 (dk_at dksJ5_compareTo_1 6 rfl rfl)
theorem dJ5_compareTo_33 : decode cJ5_compareTo 33 = .ok (.aload_n 1, 1) := dk_43 (dk_at dksJ5_compareTo_1 9 rfl rfl)
theorem dJ5_compareTo_34 : decode cJ5_compareTo 34 = .ok (.getfield 22, 3) := dk_180 0 22 (dk_at dksJ5_compareTo_1 10 rfl rfl)
theorem dJ5_compareTo_37 : decode cJ5_compareTo 37 = .ok (.if_icmp .ne 32, 3) := dk_160 0 32 (dk_at dksJ5_compareTo_1 13 rfl rfl)
theorem dJ5_compareTo_40 : decode cJ5_compareTo 40 = .ok (.aload_n 0, 1) := dk_42 (dk_at dksJ5_compareTo_1 16 rfl rfl)
theorem dJ5_compareTo_41 : decode cJ5_compareTo 41 = .ok (.invokevirtual 83, 3) := dk_182 0 83 (dk_at dksJ5_compareTo_1 17 rfl rfl)
theorem dJ5_compareTo_44 : decode cJ5_compareTo 44 = .ok (.ifCond .eq 15, 3) := dk_153 0 15 (dk_at dksJ5_compareTo_1 20 rfl rfl)
theorem dJ5_compareTo_47 : decode cJ5_compareTo 47 = .ok (.aload_n 2, 1) := dk_44 (dk_at dksJ5_compareTo_1 23 rfl rfl)
theorem dJ5_compareTo_48 : decode cJ5_compareTo 48 = .ok (.aload_n 3, 1) := dk_45 (dk_at dksJ5_compareTo_2 0 rfl rfl)
theorem dJ5_compareTo_49 : decode cJ5_compareTo 49 = .ok (.iload 4, 2) := dk_21 4 (dk_at dksJ5_compareTo_2 1 rfl rfl)
theorem dJ5_compareTo_51 : decode cJ5_compareTo 51 = .ok (.iload 5, 2) := dk_21 5 (dk_at dksJ5_compareTo_2 3 rfl rfl)
theorem dJ5_compareTo_53 : decode cJ5_compareTo 53 = .ok (.invokestatic 87, 3) := dk_184 0 87 (dk_at dksJ5_compareTo_2 5 rfl rfl)
theorem dJ5_compareTo_56 : decode cJ5_compareTo 56 = .ok (.goto 12, 3) := dk_167 0 12 (dk_at dksJ5_compareTo_2 8 rfl rfl)
theorem dJ5_compareTo_59 : decode cJ5_compareTo 59 = .ok (.aload_n 2, 1) := dk_44 (dk_at dksJ5_compareTo_2 11 rfl rfl)
theorem dJ5_compareTo_60 : decode cJ5_compareTo 60 = .ok (.aload_n 3, 1) := dk_45 (dk_at dksJ5_compareTo_2 12 rfl rfl)
theorem dJ5_compareTo_61 : decode cJ5_compareTo 61 = .ok (.iload 4, 2) := dk_21 4 (dk_at dksJ5_compareTo_2 13 rfl rfl)
theorem dJ5_compareTo_63 : decode cJ5_compareTo 63 = .ok (.iload 5, 2) := dk_21 5 (dk_at dksJ5_compareTo_2 15 rfl rfl)
theorem dJ5_compareTo_65 : decode cJ5_compareTo 65 = .ok (.invokestatic 93, 3) := dk_184 0 93 (dk_at dksJ5_compareTo_2 17 rfl rfl)
theorem dJ5_compareTo_68 : decode cJ5_compareTo 68 = .ok (.ireturn, 1) := dk_172 (dk_at dksJ5_compareTo_2 20 rfl rfl)
theorem dJ5_compareTo_69 : decode cJ5_compareTo 69 = .ok (.aload_n 0, 1) := dk_42 (dk_at dksJ5_compareTo_2 21 rfl rfl)
theorem dJ5_compareTo_70 : decode cJ5_compareTo 70 = .ok (.invokevirtual 83, 3) := dk_182 0 83 (dk_at dksJ5_compareTo_3 0 rfl rfl)
theorem dJ5_compareTo_73 : decode cJ5_compareTo 73 = .ok (.ifCond .eq 15, 3) := dk_153 0 15 (dk_at dksJ5_compareTo_3 3 rfl rfl)
theorem dJ5_compareTo_76 : decode cJ5_compareTo 76 = .ok (.aload_n 2, 1) := dk_44 (dk_at dksJ5_compareTo_3 6 rfl rfl)
theorem dJ5_compareTo_77 : decode cJ5_compareTo 77 = .ok (.aload_n 3, 1) := dk_45 (dk_at dksJ5_compareTo_3 7 rfl rfl)
theorem dJ5_compareTo_78 : decode cJ5_compareTo 78 = .ok (.iload 4, 2) := dk_21 4 (dk_at dksJ5_compareTo_3 8 rfl rfl)
theorem dJ5_compareTo_80 : decode cJ5_compareTo 80 = .ok (.iload 5, 2) := dk_21 5 (dk_at dksJ5_compareTo_3 10 rfl rfl)
theorem dJ5_compareTo_82 : decode cJ5_compareTo 82 = .ok (.invokestatic 94, 3) := dk_184 0 94 (dk_at dksJ5_compareTo_3 12 rfl rfl)
theorem dJ5_compareTo_85 : decode cJ5_compareTo 85 = .ok (.goto 12, 3) := dk_167 0 12 (dk_at dksJ5_compareTo_3 15 rfl rfl)
theorem dJ5_compareTo_88 : decode cJ5_compareTo 88 = .ok (.aload_n 2, 1) := dk_44 (dk_at dksJ5_compareTo_3 18 rfl rfl)
theorem dJ5_compareTo_89 : decode cJ5_compareTo 89 = .ok (.aload_n 3, 1) := dk_45 (dk_at dksJ5_compareTo_3 19 rfl rfl)
theorem dJ5_compareTo_90 : decode cJ5_compareTo 90 = .ok (.iload 4, 2) := dk_21 4 (dk_at dksJ5_compareTo_3 20 rfl rfl)
theorem dJ5_compareTo_92 : decode cJ5_compareTo 92 = .ok (.iload 5, 2) := dk_21 5 (dk_at dksJ5_compareTo_3 22 rfl rfl)
theorem dJ5_compareTo_94 : decode cJ5_compareTo 94 = .ok (.invokestatic 97, 3) := dk_184 0 97 (dk_at dksJ5_compareTo_4 0 rfl rfl)
theorem dJ5_compareTo_97 : decode cJ5_compareTo 97 = .ok (.ireturn, 1) := dk_172 (dk_at dksJ5_compareTo_4 3 rfl rfl)
theorem q85 : (Jvm.Cond.initialized "java/lang/AbstractStringBuilder") ∈ lw_all := lw_g (lw_at lw_m1 8 rfl) rfl
theorem q211 : (Jvm.Cond.instanceMethod ({ cls := "java/lang/AbstractStringBuilder", name := "<init>", desc := "(I)V" } : Jvm.MethodName)) ∈ lw_all := lw_g (lw_at lw_m1 134 rfl) rfl
theorem q212 : (Jvm.Cond.code ({ cls := "java/lang/AbstractStringBuilder", name := "<init>", desc := "(I)V" } : Jvm.MethodName) prog_9_method_2_code (2 : Nat) (Option.none : Option Jvm.ClassFile.FieldType)) ∈ lw_all := lw_g (lw_at lw_m1 135 rfl) rfl
theorem q213 : (Jvm.Cond.methodLink "java/lang/AbstractStringBuilder" (3 : Nat) ({ cls := "java/lang/Object", name := "<init>", desc := "()V" } : Jvm.MethodName)) ∈ lw_all := lw_g (lw_at lw_m1 136 rfl) rfl
theorem q214 : (Jvm.Cond.fieldLink "java/lang/AbstractStringBuilder" (18 : Nat) "java/lang/String" "COMPACT_STRINGS" "Z") ∈ lw_all := lw_g (lw_at lw_m1 137 rfl) rfl
theorem q216 : (Jvm.Cond.methodLink "java/lang/AbstractStringBuilder" (26 : Nat) ({ cls := "java/lang/StringUTF16", name := "newBytesFor", desc := "(I)[B" } : Jvm.MethodName)) ∈ lw_all := lw_g (lw_at lw_m1 139 rfl) rfl
theorem q223 : (Jvm.Cond.fieldLink "java/lang/AbstractStringBuilder" (15 : Nat) "java/lang/AbstractStringBuilder" "value" "[B") ∈ lw_all := lw_g (lw_at lw_m1 146 rfl) rfl
theorem q224 : (Jvm.Cond.fieldLink "java/lang/AbstractStringBuilder" (22 : Nat) "java/lang/AbstractStringBuilder" "coder" "B") ∈ lw_all := lw_g (lw_at lw_m1 147 rfl) rfl
theorem q225 : (Jvm.Cond.fieldLink "java/lang/AbstractStringBuilder" (73 : Nat) "java/lang/AbstractStringBuilder" "maybeLatin1" "Z") ∈ lw_all := lw_g (lw_at lw_m1 148 rfl) rfl
theorem q227 : (Jvm.Cond.fieldLink "java/lang/AbstractStringBuilder" (79 : Nat) "java/lang/AbstractStringBuilder" "count" "I") ∈ lw_all := lw_g (lw_at lw_m1 150 rfl) rfl
theorem q229 : (Jvm.Cond.soleField "java/lang/AbstractStringBuilder" "value") ∈ lw_all := lw_g (lw_at lw_m1 152 rfl) rfl
theorem q231 : (Jvm.Cond.soleField "java/lang/AbstractStringBuilder" "coder") ∈ lw_all := lw_g (lw_at lw_m1 154 rfl) rfl
theorem q233 : (Jvm.Cond.soleField "java/lang/AbstractStringBuilder" "maybeLatin1") ∈ lw_all := lw_g (lw_at lw_m1 156 rfl) rfl
theorem q235 : (Jvm.Cond.soleField "java/lang/AbstractStringBuilder" "count") ∈ lw_all := lw_g (lw_at lw_m1 158 rfl) rfl
theorem q505 : (Jvm.Cond.instanceMethod ({ cls := "java/lang/AbstractStringBuilder", name := "append", desc := "(Ljava/lang/String;)Ljava/lang/AbstractStringBuilder;" } : Jvm.MethodName)) ∈ lw_all := lw_g (lw_at lw_m2 188 rfl) rfl
theorem q506 : (Jvm.Cond.code ({ cls := "java/lang/AbstractStringBuilder", name := "append", desc := "(Ljava/lang/String;)Ljava/lang/AbstractStringBuilder;" } : Jvm.MethodName) prog_9_method_22_code (3 : Nat) (Option.some (Jvm.ClassFile.FieldType.object "java/lang/AbstractStringBuilder"))) ∈ lw_all := lw_g (lw_at lw_m2 189 rfl) rfl
theorem q507 : (Jvm.Cond.methodLink "java/lang/AbstractStringBuilder" (204 : Nat) ({ cls := "java/lang/AbstractStringBuilder", name := "appendNull", desc := "()Ljava/lang/AbstractStringBuilder;" } : Jvm.MethodName)) ∈ lw_all := lw_g (lw_at lw_m2 190 rfl) rfl
theorem q508 : (Jvm.Cond.privateMethod ({ cls := "java/lang/AbstractStringBuilder", name := "appendNull", desc := "()Ljava/lang/AbstractStringBuilder;" } : Jvm.MethodName)) ∈ lw_tbl := lw_at lw_m2 191 rfl
theorem q509 : (Jvm.Cond.instanceMethod ({ cls := "java/lang/AbstractStringBuilder", name := "appendNull", desc := "()Ljava/lang/AbstractStringBuilder;" } : Jvm.MethodName)) ∈ lw_all := lw_g (lw_at lw_m2 192 rfl) rfl
theorem q510 : (Jvm.Cond.code ({ cls := "java/lang/AbstractStringBuilder", name := "appendNull", desc := "()Ljava/lang/AbstractStringBuilder;" } : Jvm.MethodName) prog_9_method_26_code (3 : Nat) (Option.some (Jvm.ClassFile.FieldType.object "java/lang/AbstractStringBuilder"))) ∈ lw_all := lw_g (lw_at lw_m2 193 rfl) rfl
theorem q511 : (Jvm.Cond.methodLink "java/lang/AbstractStringBuilder" (100 : Nat) ({ cls := "java/lang/AbstractStringBuilder", name := "ensureCapacityInternal", desc := "(I)V" } : Jvm.MethodName)) ∈ lw_all := lw_g (lw_at lw_m2 194 rfl) rfl
theorem q512 : (Jvm.Cond.privateMethod ({ cls := "java/lang/AbstractStringBuilder", name := "ensureCapacityInternal", desc := "(I)V" } : Jvm.MethodName)) ∈ lw_tbl := lw_at lw_m2 195 rfl
theorem q513 : (Jvm.Cond.instanceMethod ({ cls := "java/lang/AbstractStringBuilder", name := "ensureCapacityInternal", desc := "(I)V" } : Jvm.MethodName)) ∈ lw_all := lw_g (lw_at lw_m2 196 rfl) rfl
theorem q514 : (Jvm.Cond.code ({ cls := "java/lang/AbstractStringBuilder", name := "ensureCapacityInternal", desc := "(I)V" } : Jvm.MethodName) prog_9_method_9_code (3 : Nat) (Option.none : Option Jvm.ClassFile.FieldType)) ∈ lw_all := lw_g (lw_at lw_m2 197 rfl) rfl
theorem q515 : (Jvm.Cond.methodLink "java/lang/AbstractStringBuilder" (104 : Nat) ({ cls := "java/lang/AbstractStringBuilder", name := "newCapacity", desc := "(I)I" } : Jvm.MethodName)) ∈ lw_all := lw_g (lw_at lw_m2 198 rfl) rfl
theorem q516 : (Jvm.Cond.privateMethod ({ cls := "java/lang/AbstractStringBuilder", name := "newCapacity", desc := "(I)I" } : Jvm.MethodName)) ∈ lw_tbl := lw_at lw_m2 199 rfl
theorem q517 : (Jvm.Cond.instanceMethod ({ cls := "java/lang/AbstractStringBuilder", name := "newCapacity", desc := "(I)I" } : Jvm.MethodName)) ∈ lw_all := lw_g (lw_at lw_m2 200 rfl) rfl
theorem q518 : (Jvm.Cond.code ({ cls := "java/lang/AbstractStringBuilder", name := "newCapacity", desc := "(I)I" } : Jvm.MethodName) prog_9_method_10_code (6 : Nat) (Option.some Jvm.ClassFile.FieldType.int)) ∈ lw_all := lw_g (lw_at lw_m2 201 rfl) rfl
theorem q519 : (Jvm.Cond.methodLink "java/lang/AbstractStringBuilder" (114 : Nat) ({ cls := "jdk/internal/util/ArraysSupport", name := "newLength", desc := "(III)I" } : Jvm.MethodName)) ∈ lw_all := lw_g (lw_at lw_m2 202 rfl) rfl
theorem q529 : (Jvm.Cond.constant "java/lang/AbstractStringBuilder" (39 : Nat) (2147483647 : Int32)) ∈ lw_all := lw_g (lw_at lw_m2 212 rfl) rfl
theorem q530 : (Jvm.Cond.methodLink "java/lang/AbstractStringBuilder" (108 : Nat) ({ cls := "java/util/Arrays", name := "copyOf", desc := "([BI)[B" } : Jvm.MethodName)) ∈ lw_all := lw_g (lw_at lw_m2 213 rfl) rfl
theorem q546 : (Jvm.Cond.methodLink "java/lang/AbstractStringBuilder" (83 : Nat) ({ cls := "java/lang/AbstractStringBuilder", name := "isLatin1", desc := "()Z" } : Jvm.MethodName)) ∈ lw_all := lw_g (lw_at lw_m2 229 rfl) rfl
theorem q547 : (Jvm.Cond.instanceMethod ({ cls := "java/lang/AbstractStringBuilder", name := "isLatin1", desc := "()Z" } : Jvm.MethodName)) ∈ lw_all := lw_g (lw_at lw_m2 230 rfl) rfl
theorem q548 : (Jvm.Cond.sameMethod "java/lang/AbstractStringBuilder" "java/lang/AbstractStringBuilder" "isLatin1" "()Z") ∈ lw_all := lw_g (lw_at lw_m2 231 rfl) rfl
theorem q550 : (Jvm.Cond.code ({ cls := "java/lang/AbstractStringBuilder", name := "isLatin1", desc := "()Z" } : Jvm.MethodName) prog_9_method_68_code (1 : Nat) (Option.some Jvm.ClassFile.FieldType.boolean)) ∈ lw_all := lw_g (lw_at lw_m2 233 rfl) rfl
theorem q551 : (Jvm.Cond.methodLink "java/lang/AbstractStringBuilder" (226 : Nat) ({ cls := "java/lang/StringUTF16", name := "putCharsAt", desc := "([BICCCC)I" } : Jvm.MethodName)) ∈ lw_all := lw_g (lw_at lw_m2 234 rfl) rfl
theorem q577 : (Jvm.Cond.methodLink "java/lang/AbstractStringBuilder" (32 : Nat) ({ cls := "java/lang/String", name := "length", desc := "()I" } : Jvm.MethodName)) ∈ lw_all := lw_g (lw_at lw_m3 20 rfl) rfl
theorem q586 : (Jvm.Cond.methodLink "java/lang/AbstractStringBuilder" (208 : Nat) ({ cls := "java/lang/AbstractStringBuilder", name := "putStringAt", desc := "(ILjava/lang/String;)V" } : Jvm.MethodName)) ∈ lw_all := lw_g (lw_at lw_m3 29 rfl) rfl
theorem q587 : (Jvm.Cond.privateMethod ({ cls := "java/lang/AbstractStringBuilder", name := "putStringAt", desc := "(ILjava/lang/String;)V" } : Jvm.MethodName)) ∈ lw_tbl := lw_at lw_m3 30 rfl
theorem q588 : (Jvm.Cond.instanceMethod ({ cls := "java/lang/AbstractStringBuilder", name := "putStringAt", desc := "(ILjava/lang/String;)V" } : Jvm.MethodName)) ∈ lw_all := lw_g (lw_at lw_m3 31 rfl) rfl
theorem q589 : (Jvm.Cond.code ({ cls := "java/lang/AbstractStringBuilder", name := "putStringAt", desc := "(ILjava/lang/String;)V" } : Jvm.MethodName) prog_9_method_73_code (3 : Nat) (Option.none : Option Jvm.ClassFile.FieldType)) ∈ lw_all := lw_g (lw_at lw_m3 32 rfl) rfl
theorem q590 : (Jvm.Cond.methodLink "java/lang/AbstractStringBuilder" (397 : Nat) ({ cls := "java/lang/AbstractStringBuilder", name := "inflateIfNeededFor", desc := "(Ljava/lang/String;)V" } : Jvm.MethodName)) ∈ lw_all := lw_g (lw_at lw_m3 33 rfl) rfl
theorem q591 : (Jvm.Cond.privateMethod ({ cls := "java/lang/AbstractStringBuilder", name := "inflateIfNeededFor", desc := "(Ljava/lang/String;)V" } : Jvm.MethodName)) ∈ lw_tbl := lw_at lw_m3 34 rfl
theorem q592 : (Jvm.Cond.instanceMethod ({ cls := "java/lang/AbstractStringBuilder", name := "inflateIfNeededFor", desc := "(Ljava/lang/String;)V" } : Jvm.MethodName)) ∈ lw_all := lw_g (lw_at lw_m3 35 rfl) rfl
theorem q593 : (Jvm.Cond.code ({ cls := "java/lang/AbstractStringBuilder", name := "inflateIfNeededFor", desc := "(Ljava/lang/String;)V" } : Jvm.MethodName) prog_9_method_71_code (2 : Nat) (Option.none : Option Jvm.ClassFile.FieldType)) ∈ lw_all := lw_g (lw_at lw_m3 36 rfl) rfl
theorem q594 : (Jvm.Cond.methodLink "java/lang/AbstractStringBuilder" (40 : Nat) ({ cls := "java/lang/String", name := "coder", desc := "()B" } : Jvm.MethodName)) ∈ lw_all := lw_g (lw_at lw_m3 37 rfl) rfl
theorem q595 : (Jvm.Cond.methodLink "java/lang/AbstractStringBuilder" (195 : Nat) ({ cls := "java/lang/AbstractStringBuilder", name := "inflate", desc := "()V" } : Jvm.MethodName)) ∈ lw_all := lw_g (lw_at lw_m3 38 rfl) rfl
theorem q596 : (Jvm.Cond.privateMethod ({ cls := "java/lang/AbstractStringBuilder", name := "inflate", desc := "()V" } : Jvm.MethodName)) ∈ lw_tbl := lw_at lw_m3 39 rfl
theorem q597 : (Jvm.Cond.instanceMethod ({ cls := "java/lang/AbstractStringBuilder", name := "inflate", desc := "()V" } : Jvm.MethodName)) ∈ lw_all := lw_g (lw_at lw_m3 40 rfl) rfl
theorem q598 : (Jvm.Cond.code ({ cls := "java/lang/AbstractStringBuilder", name := "inflate", desc := "()V" } : Jvm.MethodName) prog_9_method_11_code (2 : Nat) (Option.none : Option Jvm.ClassFile.FieldType)) ∈ lw_all := lw_g (lw_at lw_m3 41 rfl) rfl
theorem q599 : (Jvm.Cond.methodLink "java/lang/AbstractStringBuilder" (125 : Nat) ({ cls := "java/lang/StringLatin1", name := "inflate", desc := "([BI[BII)V" } : Jvm.MethodName)) ∈ lw_all := lw_g (lw_at lw_m3 42 rfl) rfl
theorem q614 : (Jvm.Cond.methodLink "java/lang/AbstractStringBuilder" (399 : Nat) ({ cls := "java/lang/String", name := "getBytes", desc := "([BIB)V" } : Jvm.MethodName)) ∈ lw_all := lw_g (lw_at lw_m3 57 rfl) rfl
theorem q635 : (Jvm.Cond.instanceMethod ({ cls := "java/lang/AbstractStringBuilder", name := "getValue", desc := "()[B" } : Jvm.MethodName)) ∈ lw_all := lw_g (lw_at lw_m3 78 rfl) rfl
theorem q636 : (Jvm.Cond.sameMethod "java/lang/AbstractStringBuilder" "java/lang/AbstractStringBuilder" "getValue" "()[B") ∈ lw_all := lw_g (lw_at lw_m3 79 rfl) rfl
theorem q638 : (Jvm.Cond.code ({ cls := "java/lang/AbstractStringBuilder", name := "getValue", desc := "()[B" } : Jvm.MethodName) prog_9_method_64_code (1 : Nat) (Option.some (Jvm.ClassFile.FieldType.array Jvm.ClassFile.FieldType.byte))) ∈ lw_all := lw_g (lw_at lw_m3 81 rfl) rfl
theorem q640 : (Jvm.Cond.instanceMethod ({ cls := "java/lang/AbstractStringBuilder", name := "length", desc := "()I" } : Jvm.MethodName)) ∈ lw_all := lw_g (lw_at lw_m3 83 rfl) rfl
theorem q641 : (Jvm.Cond.sameMethod "java/lang/AbstractStringBuilder" "java/lang/AbstractStringBuilder" "length" "()I") ∈ lw_all := lw_g (lw_at lw_m3 84 rfl) rfl
theorem q646 : (Jvm.Cond.code ({ cls := "java/lang/AbstractStringBuilder", name := "length", desc := "()I" } : Jvm.MethodName) prog_9_method_6_code (1 : Nat) (Option.some Jvm.ClassFile.FieldType.int)) ∈ lw_all := lw_g (lw_at lw_m3 89 rfl) rfl
theorem q1071 : (Jvm.Cond.instanceMethod ({ cls := "java/lang/AbstractStringBuilder", name := "append", desc := "(C)Ljava/lang/AbstractStringBuilder;" } : Jvm.MethodName)) ∈ lw_all := lw_g (lw_at lw_m5 34 rfl) rfl
theorem q1072 : (Jvm.Cond.code ({ cls := "java/lang/AbstractStringBuilder", name := "append", desc := "(C)Ljava/lang/AbstractStringBuilder;" } : Jvm.MethodName) prog_9_method_31_code (2 : Nat) (Option.some (Jvm.ClassFile.FieldType.object "java/lang/AbstractStringBuilder"))) ∈ lw_all := lw_g (lw_at lw_m5 35 rfl) rfl
theorem q1073 : (Jvm.Cond.methodLink "java/lang/AbstractStringBuilder" (191 : Nat) ({ cls := "java/lang/StringLatin1", name := "canEncode", desc := "(C)Z" } : Jvm.MethodName)) ∈ lw_all := lw_g (lw_at lw_m5 36 rfl) rfl
theorem q1076 : (Jvm.Cond.methodLink "java/lang/AbstractStringBuilder" (197 : Nat) ({ cls := "java/lang/StringUTF16", name := "putCharSB", desc := "([BII)V" } : Jvm.MethodName)) ∈ lw_all := lw_g (lw_at lw_m5 39 rfl) rfl
theorem q1095 : (Jvm.Cond.instanceMethod ({ cls := "java/lang/AbstractStringBuilder", name := "setLength", desc := "(I)V" } : Jvm.MethodName)) ∈ lw_all := lw_g (lw_at lw_m5 58 rfl) rfl
theorem q1096 : (Jvm.Cond.code ({ cls := "java/lang/AbstractStringBuilder", name := "setLength", desc := "(I)V" } : Jvm.MethodName) prog_9_method_13_code (2 : Nat) (Option.none : Option Jvm.ClassFile.FieldType)) ∈ lw_all := lw_g (lw_at lw_m5 59 rfl) rfl
theorem q1097 : (Jvm.Cond.methodLink "java/lang/AbstractStringBuilder" (133 : Nat) ({ cls := "java/lang/StringLatin1", name := "fillNull", desc := "([BII)V" } : Jvm.MethodName)) ∈ lw_all := lw_g (lw_at lw_m5 60 rfl) rfl
theorem q1106 : (Jvm.Cond.methodLink "java/lang/AbstractStringBuilder" (137 : Nat) ({ cls := "java/lang/StringUTF16", name := "fillNull", desc := "([BII)V" } : Jvm.MethodName)) ∈ lw_all := lw_g (lw_at lw_m5 69 rfl) rfl
theorem q1161 : (Jvm.Cond.instanceMethod ({ cls := "java/lang/AbstractStringBuilder", name := "charAt", desc := "(I)C" } : Jvm.MethodName)) ∈ lw_all := lw_g (lw_at lw_m5 124 rfl) rfl
theorem q1162 : (Jvm.Cond.code ({ cls := "java/lang/AbstractStringBuilder", name := "charAt", desc := "(I)C" } : Jvm.MethodName) prog_9_method_14_code (5 : Nat) (Option.some Jvm.ClassFile.FieldType.char)) ∈ lw_all := lw_g (lw_at lw_m5 125 rfl) rfl
theorem q1163 : (Jvm.Cond.methodLink "java/lang/AbstractStringBuilder" (138 : Nat) ({ cls := "java/lang/Math", name := "min", desc := "(II)I" } : Jvm.MethodName)) ∈ lw_all := lw_g (lw_at lw_m5 126 rfl) rfl
theorem q1164 : (Jvm.Cond.methodLink "java/lang/AbstractStringBuilder" (144 : Nat) ({ cls := "java/lang/String", name := "checkIndex", desc := "(II)V" } : Jvm.MethodName)) ∈ lw_all := lw_g (lw_at lw_m5 127 rfl) rfl
theorem q1165 : (Jvm.Cond.methodLink "java/lang/AbstractStringBuilder" (148 : Nat) ({ cls := "java/lang/StringUTF16", name := "getChar", desc := "([BI)C" } : Jvm.MethodName)) ∈ lw_all := lw_g (lw_at lw_m5 128 rfl) rfl
theorem q1211 : (Jvm.Cond.instanceMethod ({ cls := "java/lang/AbstractStringBuilder", name := "append", desc := "(I)Ljava/lang/AbstractStringBuilder;" } : Jvm.MethodName)) ∈ lw_all := lw_g (lw_at lw_m5 174 rfl) rfl
theorem q1212 : (Jvm.Cond.code ({ cls := "java/lang/AbstractStringBuilder", name := "append", desc := "(I)Ljava/lang/AbstractStringBuilder;" } : Jvm.MethodName) prog_9_method_32_code (4 : Nat) (Option.some (Jvm.ClassFile.FieldType.object "java/lang/AbstractStringBuilder"))) ∈ lw_all := lw_g (lw_at lw_m5 175 rfl) rfl
theorem q1213 : (Jvm.Cond.methodLink "java/lang/AbstractStringBuilder" (245 : Nat) ({ cls := "java/lang/Integer", name := "stringSize", desc := "(I)I" } : Jvm.MethodName)) ∈ lw_all := lw_g (lw_at lw_m5 176 rfl) rfl
theorem q1216 : (Jvm.Cond.methodLink "java/lang/AbstractStringBuilder" (248 : Nat) ({ cls := "java/lang/Integer", name := "getChars", desc := "(II[B)I" } : Jvm.MethodName)) ∈ lw_all := lw_g (lw_at lw_m5 179 rfl) rfl
theorem q1223 : (Jvm.Cond.methodLink "java/lang/AbstractStringBuilder" (251 : Nat) ({ cls := "java/lang/StringUTF16", name := "getChars", desc := "(III[B)I" } : Jvm.MethodName)) ∈ lw_all := lw_g (lw_at lw_m5 186 rfl) rfl
theorem q1616 : (Jvm.Cond.instanceMethod ({ cls := "java/lang/AbstractStringBuilder", name := "compareTo", desc := "(Ljava/lang/AbstractStringBuilder;)I" } : Jvm.MethodName)) ∈ lw_all := lw_g (lw_at lw_m7 99 rfl) rfl
theorem q1617 : (Jvm.Cond.code ({ cls := "java/lang/AbstractStringBuilder", name := "compareTo", desc := "(Ljava/lang/AbstractStringBuilder;)I" } : Jvm.MethodName) prog_9_method_5_code (6 : Nat) (Option.some Jvm.ClassFile.FieldType.int)) ∈ lw_all := lw_g (lw_at lw_m7 100 rfl) rfl
theorem q1618 : (Jvm.Cond.methodLink "java/lang/AbstractStringBuilder" (87 : Nat) ({ cls := "java/lang/StringLatin1", name := "compareTo", desc := "([B[BII)I" } : Jvm.MethodName)) ∈ lw_all := lw_g (lw_at lw_m7 101 rfl) rfl
theorem q1619 : (Jvm.Cond.methodLink "java/lang/AbstractStringBuilder" (93 : Nat) ({ cls := "java/lang/StringUTF16", name := "compareTo", desc := "([B[BII)I" } : Jvm.MethodName)) ∈ lw_all := lw_g (lw_at lw_m7 102 rfl) rfl
theorem q1628 : (Jvm.Cond.methodLink "java/lang/AbstractStringBuilder" (94 : Nat) ({ cls := "java/lang/StringLatin1", name := "compareToUTF16", desc := "([B[BII)I" } : Jvm.MethodName)) ∈ lw_all := lw_g (lw_at lw_m7 111 rfl) rfl
theorem q1632 : (Jvm.Cond.methodLink "java/lang/AbstractStringBuilder" (97 : Nat) ({ cls := "java/lang/StringUTF16", name := "compareToLatin1", desc := "([B[BII)I" } : Jvm.MethodName)) ∈ lw_all := lw_g (lw_at lw_m7 115 rfl) rfl
theorem q2496 : (Jvm.Cond.sameMethod "java/lang/AbstractStringBuilder" "java/lang/AbstractStringBuilder" "append" "(Ljava/lang/String;)Ljava/lang/AbstractStringBuilder;") ∈ lw_all := lw_g (lw_at lw_m11 19 rfl) rfl
theorem q2497 : (Jvm.Cond.sameMethod "java/lang/AbstractStringBuilder" "java/lang/AbstractStringBuilder" "appendNull" "()Ljava/lang/AbstractStringBuilder;") ∈ lw_all := lw_g (lw_at lw_m11 20 rfl) rfl
theorem q2498 : (Jvm.Cond.sameMethod "java/lang/AbstractStringBuilder" "java/lang/AbstractStringBuilder" "ensureCapacityInternal" "(I)V") ∈ lw_all := lw_g (lw_at lw_m11 21 rfl) rfl
theorem q2499 : (Jvm.Cond.sameMethod "java/lang/AbstractStringBuilder" "java/lang/AbstractStringBuilder" "newCapacity" "(I)I") ∈ lw_all := lw_g (lw_at lw_m11 22 rfl) rfl
theorem q2500 : (Jvm.Cond.sameMethod "java/lang/AbstractStringBuilder" "java/lang/AbstractStringBuilder" "putStringAt" "(ILjava/lang/String;)V") ∈ lw_all := lw_g (lw_at lw_m11 23 rfl) rfl
theorem q2501 : (Jvm.Cond.sameMethod "java/lang/AbstractStringBuilder" "java/lang/AbstractStringBuilder" "inflateIfNeededFor" "(Ljava/lang/String;)V") ∈ lw_all := lw_g (lw_at lw_m11 24 rfl) rfl
theorem q2502 : (Jvm.Cond.sameMethod "java/lang/AbstractStringBuilder" "java/lang/AbstractStringBuilder" "inflate" "()V") ∈ lw_all := lw_g (lw_at lw_m11 25 rfl) rfl
theorem q2506 : (Jvm.Cond.sameMethod "java/lang/AbstractStringBuilder" "java/lang/AbstractStringBuilder" "append" "(C)Ljava/lang/AbstractStringBuilder;") ∈ lw_all := lw_g (lw_at lw_m11 29 rfl) rfl
theorem q2507 : (Jvm.Cond.sameMethod "java/lang/AbstractStringBuilder" "java/lang/AbstractStringBuilder" "setLength" "(I)V") ∈ lw_all := lw_g (lw_at lw_m11 30 rfl) rfl
theorem q2508 : (Jvm.Cond.sameMethod "java/lang/AbstractStringBuilder" "java/lang/AbstractStringBuilder" "charAt" "(I)C") ∈ lw_all := lw_g (lw_at lw_m11 31 rfl) rfl
theorem q2509 : (Jvm.Cond.sameMethod "java/lang/AbstractStringBuilder" "java/lang/AbstractStringBuilder" "append" "(I)Ljava/lang/AbstractStringBuilder;") ∈ lw_all := lw_g (lw_at lw_m11 32 rfl) rfl
theorem q2510 : (Jvm.Cond.sameMethod "java/lang/AbstractStringBuilder" "java/lang/AbstractStringBuilder" "compareTo" "(Ljava/lang/AbstractStringBuilder;)I") ∈ lw_all := lw_g (lw_at lw_m11 33 rfl) rfl

/-! java/lang/StringBuilder -/
def RJ6 : String := "java/lang/StringBuilder"
def TJ6 : u_T := fun k => match k with
  | 0 => ("java/lang/AbstractStringBuilder", "value", "[B", false)
  | 1 => ("java/lang/AbstractStringBuilder", "coder", "B", false)
  | 2 => ("java/lang/AbstractStringBuilder", "maybeLatin1", "Z", false)
  | _ => ("java/lang/AbstractStringBuilder", "count", "I", false)
def tyJ6 : Nat → FieldType := fun k => match k with
  | 0 => .array .byte
  | 1 => .byte
  | 2 => .boolean
  | _ => .int
abbrev wsJ60 : List Cond := u_ws RJ6 TJ6 4
theorem nmJ6 : ∀ a, a < 4 → ∀ b, b < 4 → a ≠ b → (TJ6 a).2.1 ≠ (TJ6 b).2.1 := by decide +kernel
theorem tyJ6_ok : ∀ k, k < 4 → parseFieldDescriptor (TJ6 k).2.2.1 = some (tyJ6 k) := by decide +kernel
abbrev cJ6_init : ByteArray := prog_23_method_1_code
def yJ6_init : MethodName := ⟨RJ6, "<init>", "()V"⟩
def dkwJ6_init_0 : List UInt8 := [42, 16, 16, 183, 0, 1, 177]
abbrev dktJ6_init_0 : List UInt8 := dkwJ6_init_0 ++ []
theorem dksJ6_init_0 : cJ6_init.data.toList.drop 0 = dktJ6_init_0 := by decide +kernel
theorem dJ6_init_0 : decode cJ6_init 0 = .ok (.aload_n 0, 1) := dk_42 (dk_at dksJ6_init_0 0 rfl rfl)
theorem dJ6_init_1 : decode cJ6_init 1 = .ok (.bipush 16, 2) := dk_16 16 (dk_at dksJ6_init_0 1 rfl rfl)
theorem dJ6_init_3 : decode cJ6_init 3 = .ok (.invokespecial 1, 3) := dk_183 0 1 (dk_at dksJ6_init_0 3 rfl rfl)
theorem dJ6_init_6 : decode cJ6_init 6 = .ok (.return_, 1) := dk_177 (dk_at dksJ6_init_0 6 rfl rfl)
abbrev cJ6_append : ByteArray := prog_23_method_7_code
def yJ6_append : MethodName := ⟨RJ6, "append", "(Ljava/lang/String;)Ljava/lang/StringBuilder;"⟩
def dkwJ6_append_0 : List UInt8 := [42, 43, 183, 0, 29, 87, 42, 176]
abbrev dktJ6_append_0 : List UInt8 := dkwJ6_append_0 ++ []
theorem dksJ6_append_0 : cJ6_append.data.toList.drop 0 = dktJ6_append_0 := by decide +kernel
theorem dJ6_append_0 : decode cJ6_append 0 = .ok (.aload_n 0, 1) := dk_42 (dk_at dksJ6_append_0 0 rfl rfl)
theorem dJ6_append_1 : decode cJ6_append 1 = .ok (.aload_n 1, 1) := dk_43 (dk_at dksJ6_append_0 1 rfl rfl)
theorem dJ6_append_2 : decode cJ6_append 2 = .ok (.invokespecial 29, 3) := dk_183 0 29 (dk_at dksJ6_append_0 2 rfl rfl)
theorem dJ6_append_5 : decode cJ6_append 5 = .ok (.pop, 1) := dk_87 (dk_at dksJ6_append_0 5 rfl rfl)
theorem dJ6_append_6 : decode cJ6_append 6 = .ok (.aload_n 0, 1) := dk_42 (dk_at dksJ6_append_0 6 rfl rfl)
theorem dJ6_append_7 : decode cJ6_append 7 = .ok (.areturn, 1) := dk_176 (dk_at dksJ6_append_0 7 rfl rfl)
abbrev cJ6_toString : ByteArray := prog_23_method_42_code
def yJ6_toString : MethodName := ⟨RJ6, "toString", "()Ljava/lang/String;"⟩
def dkwJ6_toString_0 : List UInt8 := [187, 0, 18, 89, 42, 183, 0, 137, 176]
abbrev dktJ6_toString_0 : List UInt8 := dkwJ6_toString_0 ++ []
theorem dksJ6_toString_0 : cJ6_toString.data.toList.drop 0 = dktJ6_toString_0 := by decide +kernel
theorem dJ6_toString_0 : decode cJ6_toString 0 = .ok (.new 18, 3) := dk_187 0 18 (dk_at dksJ6_toString_0 0 rfl rfl)
theorem dJ6_toString_3 : decode cJ6_toString 3 = .ok (.dup, 1) := dk_89 (dk_at dksJ6_toString_0 3 rfl rfl)
theorem dJ6_toString_4 : decode cJ6_toString 4 = .ok (.aload_n 0, 1) := dk_42 (dk_at dksJ6_toString_0 4 rfl rfl)
theorem dJ6_toString_5 : decode cJ6_toString 5 = .ok (.invokespecial 137, 3) := dk_183 0 137 (dk_at dksJ6_toString_0 5 rfl rfl)
theorem dJ6_toString_8 : decode cJ6_toString 8 = .ok (.areturn, 1) := dk_176 (dk_at dksJ6_toString_0 8 rfl rfl)
abbrev cJ6_length : ByteArray := prog_23_method_93_code
def yJ6_length : MethodName := ⟨RJ6, "length", "()I"⟩
theorem dJ6_length_0 : decode cJ6_length 0 = .ok (.aload_n 0, 1) := by decide +kernel
theorem dJ6_length_1 : decode cJ6_length 1 = .ok (.invokespecial 343, 3) := by decide +kernel
theorem dJ6_length_4 : decode cJ6_length 4 = .ok (.ireturn, 1) := by decide +kernel
abbrev cJ6_append_2 : ByteArray := prog_23_method_14_code
def yJ6_append_2 : MethodName := ⟨RJ6, "append", "(C)Ljava/lang/StringBuilder;"⟩
def dkwJ6_append_2_0 : List UInt8 := [42, 27, 183, 0, 50, 87, 42, 176]
abbrev dktJ6_append_2_0 : List UInt8 := dkwJ6_append_2_0 ++ []
theorem dksJ6_append_2_0 : cJ6_append_2.data.toList.drop 0 = dktJ6_append_2_0 := by decide +kernel
theorem dJ6_append_2_0 : decode cJ6_append_2 0 = .ok (.aload_n 0, 1) := dk_42 (dk_at dksJ6_append_2_0 0 rfl rfl)
theorem dJ6_append_2_1 : decode cJ6_append_2 1 = .ok (.iload_n 1, 1) := dk_27 (dk_at dksJ6_append_2_0 1 rfl rfl)
theorem dJ6_append_2_2 : decode cJ6_append_2 2 = .ok (.invokespecial 50, 3) := dk_183 0 50 (dk_at dksJ6_append_2_0 2 rfl rfl)
theorem dJ6_append_2_5 : decode cJ6_append_2 5 = .ok (.pop, 1) := dk_87 (dk_at dksJ6_append_2_0 5 rfl rfl)
theorem dJ6_append_2_6 : decode cJ6_append_2 6 = .ok (.aload_n 0, 1) := dk_42 (dk_at dksJ6_append_2_0 6 rfl rfl)
theorem dJ6_append_2_7 : decode cJ6_append_2 7 = .ok (.areturn, 1) := dk_176 (dk_at dksJ6_append_2_0 7 rfl rfl)
abbrev cJ6_setLength : ByteArray := prog_23_method_89_code
def yJ6_setLength : MethodName := ⟨RJ6, "setLength", "(I)V"⟩
def dkwJ6_setLength_0 : List UInt8 := [42, 27, 183, 1, 77, 177]
abbrev dktJ6_setLength_0 : List UInt8 := dkwJ6_setLength_0 ++ []
theorem dksJ6_setLength_0 : cJ6_setLength.data.toList.drop 0 = dktJ6_setLength_0 := by decide +kernel
theorem dJ6_setLength_0 : decode cJ6_setLength 0 = .ok (.aload_n 0, 1) := dk_42 (dk_at dksJ6_setLength_0 0 rfl rfl)
theorem dJ6_setLength_1 : decode cJ6_setLength 1 = .ok (.iload_n 1, 1) := dk_27 (dk_at dksJ6_setLength_0 1 rfl rfl)
theorem dJ6_setLength_2 : decode cJ6_setLength 2 = .ok (.invokespecial 333, 3) := dk_183 1 77 (dk_at dksJ6_setLength_0 2 rfl rfl)
theorem dJ6_setLength_5 : decode cJ6_setLength 5 = .ok (.return_, 1) := dk_177 (dk_at dksJ6_setLength_0 5 rfl rfl)
abbrev cJ6_charAt : ByteArray := prog_23_method_88_code
def yJ6_charAt : MethodName := ⟨RJ6, "charAt", "(I)C"⟩
def dkwJ6_charAt_0 : List UInt8 := [42, 27, 183, 1, 73, 172]
abbrev dktJ6_charAt_0 : List UInt8 := dkwJ6_charAt_0 ++ []
theorem dksJ6_charAt_0 : cJ6_charAt.data.toList.drop 0 = dktJ6_charAt_0 := by decide +kernel
theorem dJ6_charAt_0 : decode cJ6_charAt 0 = .ok (.aload_n 0, 1) := dk_42 (dk_at dksJ6_charAt_0 0 rfl rfl)
theorem dJ6_charAt_1 : decode cJ6_charAt 1 = .ok (.iload_n 1, 1) := dk_27 (dk_at dksJ6_charAt_0 1 rfl rfl)
theorem dJ6_charAt_2 : decode cJ6_charAt 2 = .ok (.invokespecial 329, 3) := dk_183 1 73 (dk_at dksJ6_charAt_0 2 rfl rfl)
theorem dJ6_charAt_5 : decode cJ6_charAt 5 = .ok (.ireturn, 1) := dk_172 (dk_at dksJ6_charAt_0 5 rfl rfl)
abbrev cJ6_append_3 : ByteArray := prog_23_method_15_code
def yJ6_append_3 : MethodName := ⟨RJ6, "append", "(I)Ljava/lang/StringBuilder;"⟩
def dkwJ6_append_3_0 : List UInt8 := [42, 27, 183, 0, 53, 87, 42, 176]
abbrev dktJ6_append_3_0 : List UInt8 := dkwJ6_append_3_0 ++ []
theorem dksJ6_append_3_0 : cJ6_append_3.data.toList.drop 0 = dktJ6_append_3_0 := by decide +kernel
theorem dJ6_append_3_0 : decode cJ6_append_3 0 = .ok (.aload_n 0, 1) := dk_42 (dk_at dksJ6_append_3_0 0 rfl rfl)
theorem dJ6_append_3_1 : decode cJ6_append_3 1 = .ok (.iload_n 1, 1) := dk_27 (dk_at dksJ6_append_3_0 1 rfl rfl)
theorem dJ6_append_3_2 : decode cJ6_append_3 2 = .ok (.invokespecial 53, 3) := dk_183 0 53 (dk_at dksJ6_append_3_0 2 rfl rfl)
theorem dJ6_append_3_5 : decode cJ6_append_3 5 = .ok (.pop, 1) := dk_87 (dk_at dksJ6_append_3_0 5 rfl rfl)
theorem dJ6_append_3_6 : decode cJ6_append_3 6 = .ok (.aload_n 0, 1) := dk_42 (dk_at dksJ6_append_3_0 6 rfl rfl)
theorem dJ6_append_3_7 : decode cJ6_append_3 7 = .ok (.areturn, 1) := dk_176 (dk_at dksJ6_append_3_0 7 rfl rfl)
abbrev cJ6_compareTo : ByteArray := prog_23_method_97_code
def yJ6_compareTo : MethodName := ⟨RJ6, "compareTo", "(Ljava/lang/Object;)I"⟩
def dkwJ6_compareTo_0 : List UInt8 := [42, 43, 192, 0, 24, 182, 1, 90, 172]
abbrev dktJ6_compareTo_0 : List UInt8 := dkwJ6_compareTo_0 ++ []
theorem dksJ6_compareTo_0 : cJ6_compareTo.data.toList.drop 0 = dktJ6_compareTo_0 := by decide +kernel
theorem dJ6_compareTo_0 : decode cJ6_compareTo 0 = .ok (.aload_n 0, 1) := dk_42 (dk_at dksJ6_compareTo_0 0 rfl rfl)
theorem dJ6_compareTo_1 : decode cJ6_compareTo 1 = .ok (.aload_n 1, 1) := dk_43 (dk_at dksJ6_compareTo_0 1 rfl rfl)
theorem dJ6_compareTo_2 : decode cJ6_compareTo 2 = .ok (.checkcast 24, 3) := dk_192 0 24 (dk_at dksJ6_compareTo_0 2 rfl rfl)
theorem dJ6_compareTo_5 : decode cJ6_compareTo 5 = .ok (.invokevirtual 346, 3) := dk_182 1 90 (dk_at dksJ6_compareTo_0 5 rfl rfl)
theorem dJ6_compareTo_8 : decode cJ6_compareTo 8 = .ok (.ireturn, 1) := dk_172 (dk_at dksJ6_compareTo_0 8 rfl rfl)
abbrev cJ6_compareTo_2 : ByteArray := prog_23_method_5_code
def yJ6_compareTo_2 : MethodName := ⟨RJ6, "compareTo", "(Ljava/lang/StringBuilder;)I"⟩
def dkwJ6_compareTo_2_0 : List UInt8 := [42, 43, 183, 0, 13, 172]
abbrev dktJ6_compareTo_2_0 : List UInt8 := dkwJ6_compareTo_2_0 ++ []
theorem dksJ6_compareTo_2_0 : cJ6_compareTo_2.data.toList.drop 0 = dktJ6_compareTo_2_0 := by decide +kernel
theorem dJ6_compareTo_2_0 : decode cJ6_compareTo_2 0 = .ok (.aload_n 0, 1) := dk_42 (dk_at dksJ6_compareTo_2_0 0 rfl rfl)
theorem dJ6_compareTo_2_1 : decode cJ6_compareTo_2 1 = .ok (.aload_n 1, 1) := dk_43 (dk_at dksJ6_compareTo_2_0 1 rfl rfl)
theorem dJ6_compareTo_2_2 : decode cJ6_compareTo_2 2 = .ok (.invokespecial 13, 3) := dk_183 0 13 (dk_at dksJ6_compareTo_2_0 2 rfl rfl)
theorem dJ6_compareTo_2_5 : decode cJ6_compareTo_2 5 = .ok (.ireturn, 1) := dk_172 (dk_at dksJ6_compareTo_2_0 5 rfl rfl)
theorem q86 : (Jvm.Cond.initialized "java/lang/StringBuilder") ∈ lw_all := lw_g (lw_at lw_m1 9 rfl) rfl
theorem q206 : (Jvm.Cond.instantiable "java/lang/StringBuilder" (4 : Nat)) ∈ lw_all := lw_g (lw_at lw_m1 129 rfl) rfl
theorem q208 : (Jvm.Cond.instanceMethod ({ cls := "java/lang/StringBuilder", name := "<init>", desc := "()V" } : Jvm.MethodName)) ∈ lw_all := lw_g (lw_at lw_m1 131 rfl) rfl
theorem q209 : (Jvm.Cond.code ({ cls := "java/lang/StringBuilder", name := "<init>", desc := "()V" } : Jvm.MethodName) prog_23_method_1_code (1 : Nat) (Option.none : Option Jvm.ClassFile.FieldType)) ∈ lw_all := lw_g (lw_at lw_m1 132 rfl) rfl
theorem q210 : (Jvm.Cond.methodLink "java/lang/StringBuilder" (1 : Nat) ({ cls := "java/lang/AbstractStringBuilder", name := "<init>", desc := "(I)V" } : Jvm.MethodName)) ∈ lw_all := lw_g (lw_at lw_m1 133 rfl) rfl
theorem q228 : (Jvm.Cond.lays "java/lang/StringBuilder" "java/lang/AbstractStringBuilder" "value" "[B") ∈ lw_all := lw_g (lw_at lw_m1 151 rfl) rfl
theorem q230 : (Jvm.Cond.lays "java/lang/StringBuilder" "java/lang/AbstractStringBuilder" "coder" "B") ∈ lw_all := lw_g (lw_at lw_m1 153 rfl) rfl
theorem q232 : (Jvm.Cond.lays "java/lang/StringBuilder" "java/lang/AbstractStringBuilder" "maybeLatin1" "Z") ∈ lw_all := lw_g (lw_at lw_m1 155 rfl) rfl
theorem q234 : (Jvm.Cond.lays "java/lang/StringBuilder" "java/lang/AbstractStringBuilder" "count" "I") ∈ lw_all := lw_g (lw_at lw_m1 157 rfl) rfl
theorem q236 : (Jvm.Cond.superclass "java/lang/StringBuilder" "java/lang/AbstractStringBuilder") ∈ lw_all := lw_g (lw_at lw_m1 159 rfl) rfl
theorem q468 : (Jvm.Cond.selects "java/lang/StringBuilder" ({ cls := "java/lang/Object", name := "getClass", desc := "()Ljava/lang/Class;" } : Jvm.MethodName) ({ cls := "java/lang/Object", name := "getClass", desc := "()Ljava/lang/Class;" } : Jvm.MethodName)) ∈ lw_all := lw_g (lw_at lw_m2 151 rfl) rfl
theorem q501 : (Jvm.Cond.instanceMethod ({ cls := "java/lang/StringBuilder", name := "append", desc := "(Ljava/lang/String;)Ljava/lang/StringBuilder;" } : Jvm.MethodName)) ∈ lw_all := lw_g (lw_at lw_m2 184 rfl) rfl
theorem q502 : (Jvm.Cond.selects "java/lang/StringBuilder" ({ cls := "java/lang/StringBuilder", name := "append", desc := "(Ljava/lang/String;)Ljava/lang/StringBuilder;" } : Jvm.MethodName) ({ cls := "java/lang/StringBuilder", name := "append", desc := "(Ljava/lang/String;)Ljava/lang/StringBuilder;" } : Jvm.MethodName)) ∈ lw_all := lw_g (lw_at lw_m2 185 rfl) rfl
theorem q503 : (Jvm.Cond.code ({ cls := "java/lang/StringBuilder", name := "append", desc := "(Ljava/lang/String;)Ljava/lang/StringBuilder;" } : Jvm.MethodName) prog_23_method_7_code (2 : Nat) (Option.some (Jvm.ClassFile.FieldType.object "java/lang/StringBuilder"))) ∈ lw_all := lw_g (lw_at lw_m2 186 rfl) rfl
theorem q504 : (Jvm.Cond.methodLink "java/lang/StringBuilder" (29 : Nat) ({ cls := "java/lang/AbstractStringBuilder", name := "append", desc := "(Ljava/lang/String;)Ljava/lang/AbstractStringBuilder;" } : Jvm.MethodName)) ∈ lw_all := lw_g (lw_at lw_m2 187 rfl) rfl
theorem q549 : (Jvm.Cond.selects "java/lang/StringBuilder" ({ cls := "java/lang/AbstractStringBuilder", name := "isLatin1", desc := "()Z" } : Jvm.MethodName) ({ cls := "java/lang/AbstractStringBuilder", name := "isLatin1", desc := "()Z" } : Jvm.MethodName)) ∈ lw_all := lw_g (lw_at lw_m2 232 rfl) rfl
theorem q622 : (Jvm.Cond.instanceMethod ({ cls := "java/lang/StringBuilder", name := "toString", desc := "()Ljava/lang/String;" } : Jvm.MethodName)) ∈ lw_all := lw_g (lw_at lw_m3 65 rfl) rfl
theorem q623 : (Jvm.Cond.selects "java/lang/StringBuilder" ({ cls := "java/lang/StringBuilder", name := "toString", desc := "()Ljava/lang/String;" } : Jvm.MethodName) ({ cls := "java/lang/StringBuilder", name := "toString", desc := "()Ljava/lang/String;" } : Jvm.MethodName)) ∈ lw_all := lw_g (lw_at lw_m3 66 rfl) rfl
theorem q624 : (Jvm.Cond.code ({ cls := "java/lang/StringBuilder", name := "toString", desc := "()Ljava/lang/String;" } : Jvm.MethodName) prog_23_method_42_code (1 : Nat) (Option.some (Jvm.ClassFile.FieldType.object "java/lang/String"))) ∈ lw_all := lw_g (lw_at lw_m3 67 rfl) rfl
theorem q625 : (Jvm.Cond.classLink "java/lang/StringBuilder" (18 : Nat) "java/lang/String") ∈ lw_all := lw_g (lw_at lw_m3 68 rfl) rfl
theorem q627 : (Jvm.Cond.methodLink "java/lang/StringBuilder" (137 : Nat) ({ cls := "java/lang/String", name := "<init>", desc := "(Ljava/lang/StringBuilder;)V" } : Jvm.MethodName)) ∈ lw_all := lw_g (lw_at lw_m3 70 rfl) rfl
theorem q637 : (Jvm.Cond.selects "java/lang/StringBuilder" ({ cls := "java/lang/AbstractStringBuilder", name := "getValue", desc := "()[B" } : Jvm.MethodName) ({ cls := "java/lang/AbstractStringBuilder", name := "getValue", desc := "()[B" } : Jvm.MethodName)) ∈ lw_all := lw_g (lw_at lw_m3 80 rfl) rfl
theorem q642 : (Jvm.Cond.selects "java/lang/StringBuilder" ({ cls := "java/lang/AbstractStringBuilder", name := "length", desc := "()I" } : Jvm.MethodName) ({ cls := "java/lang/StringBuilder", name := "length", desc := "()I" } : Jvm.MethodName)) ∈ lw_all := lw_g (lw_at lw_m3 85 rfl) rfl
theorem q643 : (Jvm.Cond.instanceMethod ({ cls := "java/lang/StringBuilder", name := "length", desc := "()I" } : Jvm.MethodName)) ∈ lw_all := lw_g (lw_at lw_m3 86 rfl) rfl
theorem q644 : (Jvm.Cond.code ({ cls := "java/lang/StringBuilder", name := "length", desc := "()I" } : Jvm.MethodName) prog_23_method_93_code (1 : Nat) (Option.some Jvm.ClassFile.FieldType.int)) ∈ lw_all := lw_g (lw_at lw_m3 87 rfl) rfl
theorem q645 : (Jvm.Cond.methodLink "java/lang/StringBuilder" (343 : Nat) ({ cls := "java/lang/AbstractStringBuilder", name := "length", desc := "()I" } : Jvm.MethodName)) ∈ lw_all := lw_g (lw_at lw_m3 88 rfl) rfl
theorem q985 : (Jvm.Cond.selects "java/lang/StringBuilder" ({ cls := "java/lang/Object", name := "equals", desc := "(Ljava/lang/Object;)Z" } : Jvm.MethodName) ({ cls := "java/lang/Object", name := "equals", desc := "(Ljava/lang/Object;)Z" } : Jvm.MethodName)) ∈ lw_all := lw_g (lw_at lw_m4 188 rfl) rfl
theorem q1067 : (Jvm.Cond.instanceMethod ({ cls := "java/lang/StringBuilder", name := "append", desc := "(C)Ljava/lang/StringBuilder;" } : Jvm.MethodName)) ∈ lw_all := lw_g (lw_at lw_m5 30 rfl) rfl
theorem q1068 : (Jvm.Cond.selects "java/lang/StringBuilder" ({ cls := "java/lang/StringBuilder", name := "append", desc := "(C)Ljava/lang/StringBuilder;" } : Jvm.MethodName) ({ cls := "java/lang/StringBuilder", name := "append", desc := "(C)Ljava/lang/StringBuilder;" } : Jvm.MethodName)) ∈ lw_all := lw_g (lw_at lw_m5 31 rfl) rfl
theorem q1069 : (Jvm.Cond.code ({ cls := "java/lang/StringBuilder", name := "append", desc := "(C)Ljava/lang/StringBuilder;" } : Jvm.MethodName) prog_23_method_14_code (2 : Nat) (Option.some (Jvm.ClassFile.FieldType.object "java/lang/StringBuilder"))) ∈ lw_all := lw_g (lw_at lw_m5 32 rfl) rfl
theorem q1070 : (Jvm.Cond.methodLink "java/lang/StringBuilder" (50 : Nat) ({ cls := "java/lang/AbstractStringBuilder", name := "append", desc := "(C)Ljava/lang/AbstractStringBuilder;" } : Jvm.MethodName)) ∈ lw_all := lw_g (lw_at lw_m5 33 rfl) rfl
theorem q1091 : (Jvm.Cond.instanceMethod ({ cls := "java/lang/StringBuilder", name := "setLength", desc := "(I)V" } : Jvm.MethodName)) ∈ lw_all := lw_g (lw_at lw_m5 54 rfl) rfl
theorem q1092 : (Jvm.Cond.selects "java/lang/StringBuilder" ({ cls := "java/lang/StringBuilder", name := "setLength", desc := "(I)V" } : Jvm.MethodName) ({ cls := "java/lang/StringBuilder", name := "setLength", desc := "(I)V" } : Jvm.MethodName)) ∈ lw_all := lw_g (lw_at lw_m5 55 rfl) rfl
theorem q1093 : (Jvm.Cond.code ({ cls := "java/lang/StringBuilder", name := "setLength", desc := "(I)V" } : Jvm.MethodName) prog_23_method_89_code (2 : Nat) (Option.none : Option Jvm.ClassFile.FieldType)) ∈ lw_all := lw_g (lw_at lw_m5 56 rfl) rfl
theorem q1094 : (Jvm.Cond.methodLink "java/lang/StringBuilder" (333 : Nat) ({ cls := "java/lang/AbstractStringBuilder", name := "setLength", desc := "(I)V" } : Jvm.MethodName)) ∈ lw_all := lw_g (lw_at lw_m5 57 rfl) rfl
theorem q1157 : (Jvm.Cond.instanceMethod ({ cls := "java/lang/StringBuilder", name := "charAt", desc := "(I)C" } : Jvm.MethodName)) ∈ lw_all := lw_g (lw_at lw_m5 120 rfl) rfl
theorem q1158 : (Jvm.Cond.selects "java/lang/StringBuilder" ({ cls := "java/lang/StringBuilder", name := "charAt", desc := "(I)C" } : Jvm.MethodName) ({ cls := "java/lang/StringBuilder", name := "charAt", desc := "(I)C" } : Jvm.MethodName)) ∈ lw_all := lw_g (lw_at lw_m5 121 rfl) rfl
theorem q1159 : (Jvm.Cond.code ({ cls := "java/lang/StringBuilder", name := "charAt", desc := "(I)C" } : Jvm.MethodName) prog_23_method_88_code (2 : Nat) (Option.some Jvm.ClassFile.FieldType.char)) ∈ lw_all := lw_g (lw_at lw_m5 122 rfl) rfl
theorem q1160 : (Jvm.Cond.methodLink "java/lang/StringBuilder" (329 : Nat) ({ cls := "java/lang/AbstractStringBuilder", name := "charAt", desc := "(I)C" } : Jvm.MethodName)) ∈ lw_all := lw_g (lw_at lw_m5 123 rfl) rfl
theorem q1207 : (Jvm.Cond.instanceMethod ({ cls := "java/lang/StringBuilder", name := "append", desc := "(I)Ljava/lang/StringBuilder;" } : Jvm.MethodName)) ∈ lw_all := lw_g (lw_at lw_m5 170 rfl) rfl
theorem q1208 : (Jvm.Cond.selects "java/lang/StringBuilder" ({ cls := "java/lang/StringBuilder", name := "append", desc := "(I)Ljava/lang/StringBuilder;" } : Jvm.MethodName) ({ cls := "java/lang/StringBuilder", name := "append", desc := "(I)Ljava/lang/StringBuilder;" } : Jvm.MethodName)) ∈ lw_all := lw_g (lw_at lw_m5 171 rfl) rfl
theorem q1209 : (Jvm.Cond.code ({ cls := "java/lang/StringBuilder", name := "append", desc := "(I)Ljava/lang/StringBuilder;" } : Jvm.MethodName) prog_23_method_15_code (2 : Nat) (Option.some (Jvm.ClassFile.FieldType.object "java/lang/StringBuilder"))) ∈ lw_all := lw_g (lw_at lw_m5 172 rfl) rfl
theorem q1210 : (Jvm.Cond.methodLink "java/lang/StringBuilder" (53 : Nat) ({ cls := "java/lang/AbstractStringBuilder", name := "append", desc := "(I)Ljava/lang/AbstractStringBuilder;" } : Jvm.MethodName)) ∈ lw_all := lw_g (lw_at lw_m5 173 rfl) rfl
theorem q1413 : (Jvm.Cond.selects "java/lang/StringBuilder" ({ cls := "java/lang/Object", name := "hashCode", desc := "()I" } : Jvm.MethodName) ({ cls := "java/lang/Object", name := "hashCode", desc := "()I" } : Jvm.MethodName)) ∈ lw_all := lw_g (lw_at lw_m6 136 rfl) rfl
theorem q1604 : (Jvm.Cond.castable "java/lang/StringBuilder" "java/lang/Comparable") ∈ lw_tbl := lw_at lw_m7 87 rfl
theorem q1605 : (Jvm.Cond.selects "java/lang/StringBuilder" ({ cls := "java/lang/Comparable", name := "compareTo", desc := "(Ljava/lang/Object;)I" } : Jvm.MethodName) ({ cls := "java/lang/StringBuilder", name := "compareTo", desc := "(Ljava/lang/Object;)I" } : Jvm.MethodName)) ∈ lw_all := lw_g (lw_at lw_m7 88 rfl) rfl
theorem q1606 : (Jvm.Cond.unhidden "java/lang/StringBuilder" "compareTo" "(Ljava/lang/Object;)I") ∈ lw_tbl := lw_at lw_m7 89 rfl
theorem q1607 : (Jvm.Cond.instanceMethod ({ cls := "java/lang/StringBuilder", name := "compareTo", desc := "(Ljava/lang/Object;)I" } : Jvm.MethodName)) ∈ lw_all := lw_g (lw_at lw_m7 90 rfl) rfl
theorem q1608 : (Jvm.Cond.publicMethod ({ cls := "java/lang/StringBuilder", name := "compareTo", desc := "(Ljava/lang/Object;)I" } : Jvm.MethodName)) ∈ lw_tbl := lw_at lw_m7 91 rfl
theorem q1609 : (Jvm.Cond.code ({ cls := "java/lang/StringBuilder", name := "compareTo", desc := "(Ljava/lang/Object;)I" } : Jvm.MethodName) prog_23_method_97_code (2 : Nat) (Option.some Jvm.ClassFile.FieldType.int)) ∈ lw_all := lw_g (lw_at lw_m7 92 rfl) rfl
theorem q1610 : (Jvm.Cond.classLink "java/lang/StringBuilder" (24 : Nat) "java/lang/StringBuilder") ∈ lw_all := lw_g (lw_at lw_m7 93 rfl) rfl
theorem q1611 : (Jvm.Cond.methodLink "java/lang/StringBuilder" (346 : Nat) ({ cls := "java/lang/StringBuilder", name := "compareTo", desc := "(Ljava/lang/StringBuilder;)I" } : Jvm.MethodName)) ∈ lw_all := lw_g (lw_at lw_m7 94 rfl) rfl
theorem q1612 : (Jvm.Cond.instanceMethod ({ cls := "java/lang/StringBuilder", name := "compareTo", desc := "(Ljava/lang/StringBuilder;)I" } : Jvm.MethodName)) ∈ lw_all := lw_g (lw_at lw_m7 95 rfl) rfl
theorem q1613 : (Jvm.Cond.selects "java/lang/StringBuilder" ({ cls := "java/lang/StringBuilder", name := "compareTo", desc := "(Ljava/lang/StringBuilder;)I" } : Jvm.MethodName) ({ cls := "java/lang/StringBuilder", name := "compareTo", desc := "(Ljava/lang/StringBuilder;)I" } : Jvm.MethodName)) ∈ lw_all := lw_g (lw_at lw_m7 96 rfl) rfl
theorem q1614 : (Jvm.Cond.code ({ cls := "java/lang/StringBuilder", name := "compareTo", desc := "(Ljava/lang/StringBuilder;)I" } : Jvm.MethodName) prog_23_method_5_code (2 : Nat) (Option.some Jvm.ClassFile.FieldType.int)) ∈ lw_all := lw_g (lw_at lw_m7 97 rfl) rfl
theorem q1615 : (Jvm.Cond.methodLink "java/lang/StringBuilder" (13 : Nat) ({ cls := "java/lang/AbstractStringBuilder", name := "compareTo", desc := "(Ljava/lang/AbstractStringBuilder;)I" } : Jvm.MethodName)) ∈ lw_all := lw_g (lw_at lw_m7 98 rfl) rfl
theorem q2505 : (Jvm.Cond.selects "java/lang/StringBuilder" ({ cls := "java/lang/StringBuilder", name := "length", desc := "()I" } : Jvm.MethodName) ({ cls := "java/lang/StringBuilder", name := "length", desc := "()I" } : Jvm.MethodName)) ∈ lw_all := lw_g (lw_at lw_m11 28 rfl) rfl
theorem q2524 : (Jvm.Cond.castable "java/lang/StringBuilder" "java/lang/Object") ∈ lw_tbl := lw_at lw_m11 47 rfl
theorem in_J6 : ∀ w ∈ wsJ60, w ∈ lw_all := lw_in wsJ60 [228, 230, 232, 234] (by decide +kernel) (by decide +kernel)
