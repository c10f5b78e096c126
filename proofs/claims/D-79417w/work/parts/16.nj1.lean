/-! java/util/ArrayList -/
set_option maxRecDepth 100000
def RJ2 : String := "java/util/ArrayList"
def TJ2 : u_T := fun k => match k with
  | 0 => ("java/util/AbstractList", "modCount", "I", false)
  | 1 => ("java/util/ArrayList", "elementData", "[Ljava/lang/Object;", false)
  | _ => ("java/util/ArrayList", "size", "I", false)
def tyJ2 : Nat → FieldType := fun k => match k with
  | 0 => .int
  | 1 => .array (.object "java/lang/Object")
  | _ => .int
abbrev wsJ20 : List Cond := u_ws RJ2 TJ2 3
theorem nmJ2 : ∀ a, a < 3 → ∀ b, b < 3 → a ≠ b → (TJ2 a).2.1 ≠ (TJ2 b).2.1 := by decide +kernel
theorem tyJ2_ok : ∀ k, k < 3 → parseFieldDescriptor (TJ2 k).2.2.1 = some (tyJ2 k) := by decide +kernel
abbrev cJ2_init : ByteArray := prog_45_method_2_code
def yJ2_init : MethodName := ⟨RJ2, "<init>", "()V"⟩
def dkwJ2_init_0 : List UInt8 := [42, 183, 0, 1, 42, 178, 0, 39, 181, 0, 9, 177]
abbrev dktJ2_init_0 : List UInt8 := dkwJ2_init_0 ++ []
theorem dksJ2_init_0 : cJ2_init.data.toList.drop 0 = dktJ2_init_0 := by decide +kernel
theorem dJ2_init_0 : decode cJ2_init 0 = .ok (.aload_n 0, 1) := dk_42 (dk_at dksJ2_init_0 0 rfl rfl)
theorem dJ2_init_1 : decode cJ2_init 1 = .ok (.invokespecial 1, 3) := dk_183 0 1 (dk_at dksJ2_init_0 1 rfl rfl)
theorem dJ2_init_4 : decode cJ2_init 4 = .ok (.aload_n 0, 1) := dk_42 (dk_at dksJ2_init_0 4 rfl rfl)
theorem dJ2_init_5 : decode cJ2_init 5 = .ok (.getstatic 39, 3) := dk_178 0 39 (dk_at dksJ2_init_0 5 rfl rfl)
theorem dJ2_init_8 : decode cJ2_init 8 = .ok (.putfield 9, 3) := dk_181 0 9 (dk_at dksJ2_init_0 8 rfl rfl)
theorem dJ2_init_11 : decode cJ2_init 11 = .ok (.return_, 1) := dk_177 (dk_at dksJ2_init_0 11 rfl rfl)
abbrev cJ2_size : ByteArray := prog_45_method_8_code
def yJ2_size : MethodName := ⟨RJ2, "size", "()I"⟩
theorem dJ2_size_0 : decode cJ2_size 0 = .ok (.aload_n 0, 1) := by decide +kernel
theorem dJ2_size_1 : decode cJ2_size 1 = .ok (.getfield 48, 3) := by decide +kernel
theorem dJ2_size_4 : decode cJ2_size 4 = .ok (.ireturn, 1) := by decide +kernel
abbrev cJ2_get : ByteArray := prog_45_method_20_code
def yJ2_get : MethodName := ⟨RJ2, "get", "(I)Ljava/lang/Object;"⟩
def dkwJ2_get_0 : List UInt8 := [27, 42, 180, 0, 48, 184, 0, 118, 87, 42, 27, 182, 0, 123, 176]
abbrev dktJ2_get_0 : List UInt8 := dkwJ2_get_0 ++ []
theorem dksJ2_get_0 : cJ2_get.data.toList.drop 0 = dktJ2_get_0 := by decide +kernel
theorem dJ2_get_0 : decode cJ2_get 0 = .ok (.iload_n 1, 1) := dk_27 (dk_at dksJ2_get_0 0 rfl rfl)
theorem dJ2_get_1 : decode cJ2_get 1 = .ok (.aload_n 0, 1) := dk_42 (dk_at dksJ2_get_0 1 rfl rfl)
theorem dJ2_get_2 : decode cJ2_get 2 = .ok (.getfield 48, 3) := dk_180 0 48 (dk_at dksJ2_get_0 2 rfl rfl)
theorem dJ2_get_5 : decode cJ2_get 5 = .ok (.invokestatic 118, 3) := dk_184 0 118 (dk_at dksJ2_get_0 5 rfl rfl)
theorem dJ2_get_8 : decode cJ2_get 8 = .ok (.pop, 1) := dk_87 (dk_at dksJ2_get_0 8 rfl rfl)
theorem dJ2_get_9 : decode cJ2_get 9 = .ok (.aload_n 0, 1) := dk_42 (dk_at dksJ2_get_0 9 rfl rfl)
theorem dJ2_get_10 : decode cJ2_get 10 = .ok (.iload_n 1, 1) := dk_27 (dk_at dksJ2_get_0 10 rfl rfl)
theorem dJ2_get_11 : decode cJ2_get 11 = .ok (.invokevirtual 123, 3) := dk_182 0 123 (dk_at dksJ2_get_0 11 rfl rfl)
theorem dJ2_get_14 : decode cJ2_get 14 = .ok (.areturn, 1) := dk_176 (dk_at dksJ2_get_0 14 rfl rfl)
abbrev cJ2_elementData : ByteArray := prog_45_method_18_code
def yJ2_elementData : MethodName := ⟨RJ2, "elementData", "(I)Ljava/lang/Object;"⟩
def dkwJ2_elementData_0 : List UInt8 := [42, 180, 0, 9, 27, 50, 176]
abbrev dktJ2_elementData_0 : List UInt8 := dkwJ2_elementData_0 ++ []
theorem dksJ2_elementData_0 : cJ2_elementData.data.toList.drop 0 = dktJ2_elementData_0 := by decide +kernel
theorem dJ2_elementData_0 : decode cJ2_elementData 0 = .ok (.aload_n 0, 1) := dk_42 (dk_at dksJ2_elementData_0 0 rfl rfl)
theorem dJ2_elementData_1 : decode cJ2_elementData 1 = .ok (.getfield 9, 3) := dk_180 0 9 (dk_at dksJ2_elementData_0 1 rfl rfl)
theorem dJ2_elementData_4 : decode cJ2_elementData 4 = .ok (.iload_n 1, 1) := dk_27 (dk_at dksJ2_elementData_0 4 rfl rfl)
theorem dJ2_elementData_5 : decode cJ2_elementData 5 = .ok (.aaload, 1) := dk_50 (dk_at dksJ2_elementData_0 5 rfl rfl)
theorem dJ2_elementData_6 : decode cJ2_elementData 6 = .ok (.areturn, 1) := dk_176 (dk_at dksJ2_elementData_0 6 rfl rfl)
abbrev cJ2_add : ByteArray := prog_45_method_25_code
def yJ2_add : MethodName := ⟨RJ2, "add", "(Ljava/lang/Object;)Z"⟩
def dkwJ2_add_1 : List UInt8 := [172]
abbrev dktJ2_add_1 : List UInt8 := dkwJ2_add_1 ++ []
def dkwJ2_add_0 : List UInt8 := [42, 89, 180, 0, 63, 4, 96, 181, 0, 63, 42, 43, 42, 180, 0, 9, 42, 180, 0, 48, 182, 0, 131, 4]
abbrev dktJ2_add_0 : List UInt8 := dkwJ2_add_0 ++ dktJ2_add_1
theorem dksJ2_add_0 : cJ2_add.data.toList.drop 0 = dktJ2_add_0 := by decide +kernel
theorem dksJ2_add_1 : cJ2_add.data.toList.drop 24 = dktJ2_add_1 := dk_seg dksJ2_add_0 24 rfl rfl
theorem dJ2_add_0 : decode cJ2_add 0 = .ok (.aload_n 0, 1) := dk_42 (dk_at dksJ2_add_0 0 rfl rfl)
theorem dJ2_add_1 : decode cJ2_add 1 = .ok (.dup, 1) := dk_89 (dk_at dksJ2_add_0 1 rfl rfl)
theorem dJ2_add_2 : decode cJ2_add 2 = .ok (.getfield 63, 3) := dk_180 0 63 (dk_at dksJ2_add_0 2 rfl rfl)
theorem dJ2_add_5 : decode cJ2_add 5 = .ok (.iconst 1, 1) := dk_4 (dk_at dksJ2_add_0 5 rfl rfl)
theorem dJ2_add_6 : decode cJ2_add 6 = .ok (.iadd, 1) := dk_96 (dk_at dksJ2_add_0 6 rfl rfl)
theorem dJ2_add_7 : decode cJ2_add 7 = .ok (.putfield 63, 3) := dk_181 0 63 (dk_at dksJ2_add_0 7 rfl rfl)
theorem dJ2_add_10 : decode cJ2_add 10 = .ok (.aload_n 0, 1) := dk_42 (dk_at dksJ2_add_0 10 rfl rfl)
theorem dJ2_add_11 : decode cJ2_add 11 = .ok (.aload_n 1, 1) := dk_43 (dk_at dksJ2_add_0 11 rfl rfl)
theorem dJ2_add_12 : decode cJ2_add 12 = .ok (.aload_n 0, 1) := dk_42 (dk_at dksJ2_add_0 12 rfl rfl)
theorem dJ2_add_13 : decode cJ2_add 13 = .ok (.getfield 9, 3) := dk_180 0 9 (dk_at dksJ2_add_0 13 rfl rfl)
theorem dJ2_add_16 : decode cJ2_add 16 = .ok (.aload_n 0, 1) := dk_42 (dk_at dksJ2_add_0 16 rfl rfl)
theorem dJ2_add_17 : decode cJ2_add 17 = .ok (.getfield 48, 3) := dk_180 0 48 (dk_at dksJ2_add_0 17 rfl rfl)
theorem dJ2_add_20 : decode cJ2_add 20 = .ok (.invokevirtual 131, 3) := dk_182 0 131 (dk_at dksJ2_add_0 20 rfl rfl)
theorem dJ2_add_23 : decode cJ2_add 23 = .ok (.iconst 1, 1) := dk_4 (dk_at dksJ2_add_0 23 rfl rfl)
theorem dJ2_add_24 : decode cJ2_add 24 = .ok (.ireturn, 1) := dk_172 (dk_at dksJ2_add_1 0 rfl rfl)
abbrev cJ2_add_2 : ByteArray := prog_45_method_24_code
def yJ2_add_2 : MethodName := ⟨RJ2, "add", "(Ljava/lang/Object;[Ljava/lang/Object;I)V"⟩
def dkwJ2_add_2_0 : List UInt8 := [29, 44, 190, 160, 0, 8, 42, 182, 0, 129, 77, 44, 29, 43, 83, 42, 29, 4, 96, 181, 0, 48, 177]
abbrev dktJ2_add_2_0 : List UInt8 := dkwJ2_add_2_0 ++ []
theorem dksJ2_add_2_0 : cJ2_add_2.data.toList.drop 0 = dktJ2_add_2_0 := by decide +kernel
theorem dJ2_add_2_0 : decode cJ2_add_2 0 = .ok (.iload_n 3, 1) := dk_29 (dk_at dksJ2_add_2_0 0 rfl rfl)
theorem dJ2_add_2_1 : decode cJ2_add_2 1 = .ok (.aload_n 2, 1) := dk_44 (dk_at dksJ2_add_2_0 1 rfl rfl)
theorem dJ2_add_2_2 : decode cJ2_add_2 2 = .ok (.arraylength, 1) := dk_190 (dk_at dksJ2_add_2_0 2 rfl rfl)
theorem dJ2_add_2_3 : decode cJ2_add_2 3 = .ok (.if_icmp .ne 8, 3) := dk_160 0 8 (dk_at dksJ2_add_2_0 3 rfl rfl)
theorem dJ2_add_2_6 : decode cJ2_add_2 6 = .ok (.aload_n 0, 1) := dk_42 (dk_at dksJ2_add_2_0 6 rfl rfl)
theorem dJ2_add_2_7 : decode cJ2_add_2 7 = .ok (.invokevirtual 129, 3) := dk_182 0 129 (dk_at dksJ2_add_2_0 7 rfl rfl)
theorem dJ2_add_2_10 : decode cJ2_add_2 10 = .ok (.astore_n 2, 1) := dk_77 (dk_at dksJ2_add_2_0 10 rfl rfl)
theorem dJ2_add_2_11 : decode cJ2_add_2 11 = .ok (.aload_n 2, 1) := dk_44 (dk_at dksJ2_add_2_0 11 rfl rfl)
theorem dJ2_add_2_12 : decode cJ2_add_2 12 = .ok (.iload_n 3, 1) := dk_29 (dk_at dksJ2_add_2_0 12 rfl rfl)
theorem dJ2_add_2_13 : decode cJ2_add_2 13 = .ok (.aload_n 1, 1) := dk_43 (dk_at dksJ2_add_2_0 13 rfl rfl)
theorem dJ2_add_2_14 : decode cJ2_add_2 14 = .ok (.aastore, 1) := dk_83 (dk_at dksJ2_add_2_0 14 rfl rfl)
theorem dJ2_add_2_15 : decode cJ2_add_2 15 = .ok (.aload_n 0, 1) := dk_42 (dk_at dksJ2_add_2_0 15 rfl rfl)
theorem dJ2_add_2_16 : decode cJ2_add_2 16 = .ok (.iload_n 3, 1) := dk_29 (dk_at dksJ2_add_2_0 16 rfl rfl)
theorem dJ2_add_2_17 : decode cJ2_add_2 17 = .ok (.iconst 1, 1) := dk_4 (dk_at dksJ2_add_2_0 17 rfl rfl)
theorem dJ2_add_2_18 : decode cJ2_add_2 18 = .ok (.iadd, 1) := dk_96 (dk_at dksJ2_add_2_0 18 rfl rfl)
theorem dJ2_add_2_19 : decode cJ2_add_2 19 = .ok (.putfield 48, 3) := dk_181 0 48 (dk_at dksJ2_add_2_0 19 rfl rfl)
theorem dJ2_add_2_22 : decode cJ2_add_2 22 = .ok (.return_, 1) := dk_177 (dk_at dksJ2_add_2_0 22 rfl rfl)
abbrev cJ2_grow : ByteArray := prog_45_method_7_code
def yJ2_grow : MethodName := ⟨RJ2, "grow", "()[Ljava/lang/Object;"⟩
def dkwJ2_grow_0 : List UInt8 := [42, 42, 180, 0, 48, 4, 96, 182, 0, 69, 176]
abbrev dktJ2_grow_0 : List UInt8 := dkwJ2_grow_0 ++ []
theorem dksJ2_grow_0 : cJ2_grow.data.toList.drop 0 = dktJ2_grow_0 := by decide +kernel
theorem dJ2_grow_0 : decode cJ2_grow 0 = .ok (.aload_n 0, 1) := dk_42 (dk_at dksJ2_grow_0 0 rfl rfl)
theorem dJ2_grow_1 : decode cJ2_grow 1 = .ok (.aload_n 0, 1) := dk_42 (dk_at dksJ2_grow_0 1 rfl rfl)
theorem dJ2_grow_2 : decode cJ2_grow 2 = .ok (.getfield 48, 3) := dk_180 0 48 (dk_at dksJ2_grow_0 2 rfl rfl)
theorem dJ2_grow_5 : decode cJ2_grow 5 = .ok (.iconst 1, 1) := dk_4 (dk_at dksJ2_grow_0 5 rfl rfl)
theorem dJ2_grow_6 : decode cJ2_grow 6 = .ok (.iadd, 1) := dk_96 (dk_at dksJ2_grow_0 6 rfl rfl)
theorem dJ2_grow_7 : decode cJ2_grow 7 = .ok (.invokevirtual 69, 3) := dk_182 0 69 (dk_at dksJ2_grow_0 7 rfl rfl)
theorem dJ2_grow_10 : decode cJ2_grow 10 = .ok (.areturn, 1) := dk_176 (dk_at dksJ2_grow_0 10 rfl rfl)
abbrev cJ2_grow_2 : ByteArray := prog_45_method_6_code
def yJ2_grow_2 : MethodName := ⟨RJ2, "grow", "(I)[Ljava/lang/Object;"⟩
def dkwJ2_grow_2_2 : List UInt8 := [27, 184, 0, 79, 189, 0, 7, 90, 181, 0, 9, 176]
abbrev dktJ2_grow_2_2 : List UInt8 := dkwJ2_grow_2_2 ++ []
def dkwJ2_grow_2_1 : List UInt8 := [28, 4, 122, 184, 0, 73, 62, 42, 42, 180, 0, 9, 29, 184, 0, 66, 90, 181, 0, 9, 176, 42, 16, 10]
abbrev dktJ2_grow_2_1 : List UInt8 := dkwJ2_grow_2_1 ++ dktJ2_grow_2_2
def dkwJ2_grow_2_0 : List UInt8 := [42, 180, 0, 9, 190, 61, 28, 157, 0, 13, 42, 180, 0, 9, 178, 0, 39, 165, 0, 28, 28, 27, 28, 100]
abbrev dktJ2_grow_2_0 : List UInt8 := dkwJ2_grow_2_0 ++ dktJ2_grow_2_1
theorem dksJ2_grow_2_0 : cJ2_grow_2.data.toList.drop 0 = dktJ2_grow_2_0 := by decide +kernel
theorem dksJ2_grow_2_1 : cJ2_grow_2.data.toList.drop 24 = dktJ2_grow_2_1 := dk_seg dksJ2_grow_2_0 24 rfl rfl
theorem dksJ2_grow_2_2 : cJ2_grow_2.data.toList.drop 48 = dktJ2_grow_2_2 := dk_seg dksJ2_grow_2_1 24 rfl rfl
theorem dJ2_grow_2_0 : decode cJ2_grow_2 0 = .ok (.aload_n 0, 1) := dk_42 (dk_at dksJ2_grow_2_0 0 rfl rfl)
theorem dJ2_grow_2_1 : decode cJ2_grow_2 1 = .ok (.getfield 9, 3) := dk_180 0 9 (dk_at dksJ2_grow_2_0 1 rfl rfl)
theorem dJ2_grow_2_4 : decode cJ2_grow_2 4 = .ok (.arraylength, 1) := dk_190 (dk_at dksJ2_grow_2_0 4 rfl rfl)
theorem dJ2_grow_2_5 : decode cJ2_grow_2 5 = .ok (.istore_n 2, 1) := dk_61 (dk_at dksJ2_grow_2_0 5 rfl rfl)
theorem dJ2_grow_2_6 : decode cJ2_grow_2 6 = .ok (.iload_n 2, 1) := dk_28 (dk_at dksJ2_grow_2_0 6 rfl rfl)
theorem dJ2_grow_2_7 : decode cJ2_grow_2 7 = .ok (.ifCond .gt 13, 3) := dk_157 0 13 (dk_at dksJ2_grow_2_0 7 rfl rfl)
theorem dJ2_grow_2_10 : decode cJ2_grow_2 10 = .ok (.aload_n 0, 1) := dk_42 (dk_at dksJ2_grow_2_0 10 rfl rfl)
theorem dJ2_grow_2_11 : decode cJ2_grow_2 11 = .ok (.getfield 9, 3) := dk_180 0 9 (dk_at dksJ2_grow_2_0 11 rfl rfl)
theorem dJ2_grow_2_14 : decode cJ2_grow_2 14 = .ok (.getstatic 39, 3) := dk_178 0 39 (dk_at dksJ2_grow_2_0 14 rfl rfl)
theorem dJ2_grow_2_17 : decode cJ2_grow_2 17 = .ok (.if_acmp .eq 28, 3) := dk_165 0 28 (dk_at dksJ2_grow_2_0 17 rfl rfl)
theorem dJ2_grow_2_20 : decode cJ2_grow_2 20 = .ok (.iload_n 2, 1) := dk_28 (dk_at dksJ2_grow_2_0 20 rfl rfl)
theorem dJ2_grow_2_21 : decode cJ2_grow_2 21 = .ok (.iload_n 1, 1) := dk_27 (dk_at dksJ2_grow_2_0 21 rfl rfl)
theorem dJ2_grow_2_22 : decode cJ2_grow_2 22 = .ok (.iload_n 2, 1) := dk_28 (dk_at dksJ2_grow_2_0 22 rfl rfl)
theorem dJ2_grow_2_23 : decode cJ2_grow_2 23 = .ok (.isub, 1) := dk_100 (dk_at dksJ2_grow_2_0 23 rfl rfl)
theorem dJ2_grow_2_24 : decode cJ2_grow_2 24 = .ok (.iload_n 2, 1) := dk_28 (dk_at dksJ2_grow_2_1 0 rfl rfl)
theorem dJ2_grow_2_25 : decode cJ2_grow_2 25 = .ok (.iconst 1, 1) := dk_4 (dk_at dksJ2_grow_2_1 1 rfl rfl)
theorem dJ2_grow_2_26 : decode cJ2_grow_2 26 = .ok (.ishr, 1) := dk_122 (dk_at dksJ2_grow_2_1 2 rfl rfl)
theorem dJ2_grow_2_27 : decode cJ2_grow_2 27 = .ok (.invokestatic 73, 3) := dk_184 0 73 (dk_at dksJ2_grow_2_1 3 rfl rfl)
theorem dJ2_grow_2_30 : decode cJ2_grow_2 30 = .ok (.istore_n 3, 1) := dk_62 (dk_at dksJ2_grow_2_1 6 rfl rfl)
theorem dJ2_grow_2_31 : decode cJ2_grow_2 31 = .ok (.aload_n 0, 1) := dk_42 (dk_at dksJ2_grow_2_1 7 rfl rfl)
theorem dJ2_grow_2_32 : decode cJ2_grow_2 32 = .ok (.aload_n 0, 1) := dk_42 (dk_at dksJ2_grow_2_1 8 rfl rfl)
theorem dJ2_grow_2_33 : decode cJ2_grow_2 33 = .ok (.getfield 9, 3) := dk_180 0 9 (dk_at dksJ2_grow_2_1 9 rfl rfl)
theorem dJ2_grow_2_36 : decode cJ2_grow_2 36 = .ok (.iload_n 3, 1) := dk_29 (dk_at dksJ2_grow_2_1 12 rfl rfl)
theorem dJ2_grow_2_37 : decode cJ2_grow_2 37 = .ok (.invokestatic 66, 3) := dk_184 0 66 (dk_at dksJ2_grow_2_1 13 rfl rfl)
theorem dJ2_grow_2_40 : decode cJ2_grow_2 40 = .ok (.dup_x1, 1) := dk_90 (dk_at dksJ2_grow_2_1 16 rfl rfl)
theorem dJ2_grow_2_41 : decode cJ2_grow_2 41 = .ok (.putfield 9, 3) := dk_181 0 9 (dk_at dksJ2_grow_2_1 17 rfl rfl)
theorem dJ2_grow_2_44 : decode cJ2_grow_2 44 = .ok (.areturn, 1) := dk_176 (dk_at dksJ2_grow_2_1 20 rfl rfl)
theorem dJ2_grow_2_45 : decode cJ2_grow_2 45 = .ok (.aload_n 0, 1) := dk_42 (dk_at dksJ2_grow_2_1 21 rfl rfl)
theorem dJ2_grow_2_46 : decode cJ2_grow_2 46 = .ok (.bipush 10, 2) := dk_16 10 (dk_at dksJ2_grow_2_1 22 rfl rfl)
theorem dJ2_grow_2_48 : decode cJ2_grow_2 48 = .ok (.iload_n 1, 1) := dk_27 (dk_at dksJ2_grow_2_2 0 rfl rfl)
theorem dJ2_grow_2_49 : decode cJ2_grow_2 49 = .ok (.invokestatic 79, 3) := dk_184 0 79 (dk_at dksJ2_grow_2_2 1 rfl rfl)
theorem dJ2_grow_2_52 : decode cJ2_grow_2 52 = .ok (.anewarray 7, 3) := dk_189 0 7 (dk_at dksJ2_grow_2_2 4 rfl rfl)
theorem dJ2_grow_2_55 : decode cJ2_grow_2 55 = .ok (.dup_x1, 1) := dk_90 (dk_at dksJ2_grow_2_2 7 rfl rfl)
theorem dJ2_grow_2_56 : decode cJ2_grow_2 56 = .ok (.putfield 9, 3) := dk_181 0 9 (dk_at dksJ2_grow_2_2 8 rfl rfl)
theorem dJ2_grow_2_59 : decode cJ2_grow_2 59 = .ok (.areturn, 1) := dk_176 (dk_at dksJ2_grow_2_2 11 rfl rfl)
theorem q95 : (Jvm.Cond.initialized "java/util/ArrayList") ∈ lw_all := lw_g (lw_at lw_m1 5 rfl) rfl
theorem q156 : (Jvm.Cond.instantiable "java/util/ArrayList" (3 : Nat)) ∈ lw_all := lw_g (lw_at lw_m1 66 rfl) rfl
theorem q158 : (Jvm.Cond.instanceMethod ({ cls := "java/util/ArrayList", name := "<init>", desc := "()V" } : Jvm.MethodName)) ∈ lw_all := lw_g (lw_at lw_m1 68 rfl) rfl
theorem q159 : (Jvm.Cond.code ({ cls := "java/util/ArrayList", name := "<init>", desc := "()V" } : Jvm.MethodName) prog_45_method_2_code (1 : Nat) (Option.none : Option Jvm.ClassFile.FieldType)) ∈ lw_all := lw_g (lw_at lw_m1 69 rfl) rfl
theorem q160 : (Jvm.Cond.methodLink "java/util/ArrayList" (1 : Nat) ({ cls := "java/util/AbstractList", name := "<init>", desc := "()V" } : Jvm.MethodName)) ∈ lw_all := lw_g (lw_at lw_m1 70 rfl) rfl
theorem q167 : (Jvm.Cond.fieldLink "java/util/ArrayList" (39 : Nat) "java/util/ArrayList" "DEFAULTCAPACITY_EMPTY_ELEMENTDATA" "[Ljava/lang/Object;") ∈ lw_all := lw_g (lw_at lw_m1 77 rfl) rfl
theorem q168 : (Jvm.Cond.laysStatic "java/util/ArrayList" "DEFAULTCAPACITY_EMPTY_ELEMENTDATA" "[Ljava/lang/Object;") ∈ lw_tbl := lw_at lw_m1 78 rfl
theorem q169 : (Jvm.Cond.fieldLink "java/util/ArrayList" (9 : Nat) "java/util/ArrayList" "elementData" "[Ljava/lang/Object;") ∈ lw_all := lw_g (lw_at lw_m1 79 rfl) rfl
theorem q170 : (Jvm.Cond.fieldLink "java/util/ArrayList" (48 : Nat) "java/util/ArrayList" "size" "I") ∈ lw_all := lw_g (lw_at lw_m1 80 rfl) rfl
theorem q174 : (Jvm.Cond.fieldLink "java/util/ArrayList" (63 : Nat) "java/util/ArrayList" "modCount" "I") ∈ lw_all := lw_g (lw_at lw_m1 84 rfl) rfl
theorem q175 : (Jvm.Cond.sameField "java/util/ArrayList" "java/util/AbstractList" "modCount" "I") ∈ lw_all := lw_g (lw_at lw_m1 85 rfl) rfl
theorem q176 : (Jvm.Cond.lays "java/util/ArrayList" "java/util/ArrayList" "elementData" "[Ljava/lang/Object;") ∈ lw_all := lw_g (lw_at lw_m1 86 rfl) rfl
theorem q177 : (Jvm.Cond.soleField "java/util/ArrayList" "elementData") ∈ lw_all := lw_g (lw_at lw_m1 87 rfl) rfl
theorem q178 : (Jvm.Cond.lays "java/util/ArrayList" "java/util/ArrayList" "size" "I") ∈ lw_all := lw_g (lw_at lw_m1 88 rfl) rfl
theorem q179 : (Jvm.Cond.soleField "java/util/ArrayList" "size") ∈ lw_all := lw_g (lw_at lw_m1 89 rfl) rfl
theorem q180 : (Jvm.Cond.lays "java/util/ArrayList" "java/util/AbstractList" "modCount" "I") ∈ lw_all := lw_g (lw_at lw_m1 90 rfl) rfl
theorem q182 : (Jvm.Cond.superclass "java/util/ArrayList" "java/util/AbstractList") ∈ lw_all := lw_g (lw_at lw_m1 92 rfl) rfl
theorem q349 : (Jvm.Cond.castable "java/util/ArrayList" "java/util/List") ∈ lw_tbl := lw_at lw_m2 19 rfl
theorem q350 : (Jvm.Cond.selects "java/util/ArrayList" ({ cls := "java/util/List", name := "size", desc := "()I" } : Jvm.MethodName) ({ cls := "java/util/ArrayList", name := "size", desc := "()I" } : Jvm.MethodName)) ∈ lw_all := lw_g (lw_at lw_m2 20 rfl) rfl
theorem q351 : (Jvm.Cond.unhidden "java/util/ArrayList" "size" "()I") ∈ lw_tbl := lw_at lw_m2 21 rfl
theorem q352 : (Jvm.Cond.instanceMethod ({ cls := "java/util/ArrayList", name := "size", desc := "()I" } : Jvm.MethodName)) ∈ lw_all := lw_g (lw_at lw_m2 22 rfl) rfl
theorem q353 : (Jvm.Cond.publicMethod ({ cls := "java/util/ArrayList", name := "size", desc := "()I" } : Jvm.MethodName)) ∈ lw_tbl := lw_at lw_m2 23 rfl
theorem q354 : (Jvm.Cond.code ({ cls := "java/util/ArrayList", name := "size", desc := "()I" } : Jvm.MethodName) prog_45_method_8_code (1 : Nat) (Option.some Jvm.ClassFile.FieldType.int)) ∈ lw_all := lw_g (lw_at lw_m2 24 rfl) rfl
theorem q381 : (Jvm.Cond.selects "java/util/ArrayList" ({ cls := "java/util/List", name := "get", desc := "(I)Ljava/lang/Object;" } : Jvm.MethodName) ({ cls := "java/util/ArrayList", name := "get", desc := "(I)Ljava/lang/Object;" } : Jvm.MethodName)) ∈ lw_all := lw_g (lw_at lw_m2 51 rfl) rfl
theorem q382 : (Jvm.Cond.unhidden "java/util/ArrayList" "get" "(I)Ljava/lang/Object;") ∈ lw_tbl := lw_at lw_m2 52 rfl
theorem q383 : (Jvm.Cond.instanceMethod ({ cls := "java/util/ArrayList", name := "get", desc := "(I)Ljava/lang/Object;" } : Jvm.MethodName)) ∈ lw_all := lw_g (lw_at lw_m2 53 rfl) rfl
theorem q384 : (Jvm.Cond.publicMethod ({ cls := "java/util/ArrayList", name := "get", desc := "(I)Ljava/lang/Object;" } : Jvm.MethodName)) ∈ lw_tbl := lw_at lw_m2 54 rfl
theorem q385 : (Jvm.Cond.code ({ cls := "java/util/ArrayList", name := "get", desc := "(I)Ljava/lang/Object;" } : Jvm.MethodName) prog_45_method_20_code (2 : Nat) (Option.some (Jvm.ClassFile.FieldType.object "java/lang/Object"))) ∈ lw_all := lw_g (lw_at lw_m2 55 rfl) rfl
theorem q386 : (Jvm.Cond.methodLink "java/util/ArrayList" (118 : Nat) ({ cls := "java/util/Objects", name := "checkIndex", desc := "(II)I" } : Jvm.MethodName)) ∈ lw_all := lw_g (lw_at lw_m2 56 rfl) rfl
theorem q392 : (Jvm.Cond.methodLink "java/util/ArrayList" (123 : Nat) ({ cls := "java/util/ArrayList", name := "elementData", desc := "(I)Ljava/lang/Object;" } : Jvm.MethodName)) ∈ lw_all := lw_g (lw_at lw_m2 62 rfl) rfl
theorem q393 : (Jvm.Cond.instanceMethod ({ cls := "java/util/ArrayList", name := "elementData", desc := "(I)Ljava/lang/Object;" } : Jvm.MethodName)) ∈ lw_all := lw_g (lw_at lw_m2 63 rfl) rfl
theorem q394 : (Jvm.Cond.selects "java/util/ArrayList" ({ cls := "java/util/ArrayList", name := "elementData", desc := "(I)Ljava/lang/Object;" } : Jvm.MethodName) ({ cls := "java/util/ArrayList", name := "elementData", desc := "(I)Ljava/lang/Object;" } : Jvm.MethodName)) ∈ lw_all := lw_g (lw_at lw_m2 64 rfl) rfl
theorem q395 : (Jvm.Cond.code ({ cls := "java/util/ArrayList", name := "elementData", desc := "(I)Ljava/lang/Object;" } : Jvm.MethodName) prog_45_method_18_code (2 : Nat) (Option.some (Jvm.ClassFile.FieldType.object "java/lang/Object"))) ∈ lw_all := lw_g (lw_at lw_m2 65 rfl) rfl
theorem q810 : (Jvm.Cond.selects "java/util/ArrayList" ({ cls := "java/util/List", name := "add", desc := "(Ljava/lang/Object;)Z" } : Jvm.MethodName) ({ cls := "java/util/ArrayList", name := "add", desc := "(Ljava/lang/Object;)Z" } : Jvm.MethodName)) ∈ lw_all := lw_g (lw_at lw_m4 0 rfl) rfl
theorem q811 : (Jvm.Cond.unhidden "java/util/ArrayList" "add" "(Ljava/lang/Object;)Z") ∈ lw_tbl := lw_at lw_m4 1 rfl
theorem q812 : (Jvm.Cond.instanceMethod ({ cls := "java/util/ArrayList", name := "add", desc := "(Ljava/lang/Object;)Z" } : Jvm.MethodName)) ∈ lw_all := lw_g (lw_at lw_m4 2 rfl) rfl
theorem q813 : (Jvm.Cond.publicMethod ({ cls := "java/util/ArrayList", name := "add", desc := "(Ljava/lang/Object;)Z" } : Jvm.MethodName)) ∈ lw_tbl := lw_at lw_m4 3 rfl
theorem q814 : (Jvm.Cond.code ({ cls := "java/util/ArrayList", name := "add", desc := "(Ljava/lang/Object;)Z" } : Jvm.MethodName) prog_45_method_25_code (2 : Nat) (Option.some Jvm.ClassFile.FieldType.boolean)) ∈ lw_all := lw_g (lw_at lw_m4 4 rfl) rfl
theorem q815 : (Jvm.Cond.methodLink "java/util/ArrayList" (131 : Nat) ({ cls := "java/util/ArrayList", name := "add", desc := "(Ljava/lang/Object;[Ljava/lang/Object;I)V" } : Jvm.MethodName)) ∈ lw_all := lw_g (lw_at lw_m4 5 rfl) rfl
theorem q816 : (Jvm.Cond.privateMethod ({ cls := "java/util/ArrayList", name := "add", desc := "(Ljava/lang/Object;[Ljava/lang/Object;I)V" } : Jvm.MethodName)) ∈ lw_tbl := lw_at lw_m4 6 rfl
theorem q817 : (Jvm.Cond.instanceMethod ({ cls := "java/util/ArrayList", name := "add", desc := "(Ljava/lang/Object;[Ljava/lang/Object;I)V" } : Jvm.MethodName)) ∈ lw_all := lw_g (lw_at lw_m4 7 rfl) rfl
theorem q818 : (Jvm.Cond.code ({ cls := "java/util/ArrayList", name := "add", desc := "(Ljava/lang/Object;[Ljava/lang/Object;I)V" } : Jvm.MethodName) prog_45_method_24_code (4 : Nat) (Option.none : Option Jvm.ClassFile.FieldType)) ∈ lw_all := lw_g (lw_at lw_m4 8 rfl) rfl
theorem q819 : (Jvm.Cond.methodLink "java/util/ArrayList" (129 : Nat) ({ cls := "java/util/ArrayList", name := "grow", desc := "()[Ljava/lang/Object;" } : Jvm.MethodName)) ∈ lw_all := lw_g (lw_at lw_m4 9 rfl) rfl
theorem q820 : (Jvm.Cond.privateMethod ({ cls := "java/util/ArrayList", name := "grow", desc := "()[Ljava/lang/Object;" } : Jvm.MethodName)) ∈ lw_tbl := lw_at lw_m4 10 rfl
theorem q821 : (Jvm.Cond.instanceMethod ({ cls := "java/util/ArrayList", name := "grow", desc := "()[Ljava/lang/Object;" } : Jvm.MethodName)) ∈ lw_all := lw_g (lw_at lw_m4 11 rfl) rfl
theorem q822 : (Jvm.Cond.code ({ cls := "java/util/ArrayList", name := "grow", desc := "()[Ljava/lang/Object;" } : Jvm.MethodName) prog_45_method_7_code (1 : Nat) (Option.some (Jvm.ClassFile.FieldType.array (Jvm.ClassFile.FieldType.object "java/lang/Object")))) ∈ lw_all := lw_g (lw_at lw_m4 12 rfl) rfl
theorem q823 : (Jvm.Cond.methodLink "java/util/ArrayList" (69 : Nat) ({ cls := "java/util/ArrayList", name := "grow", desc := "(I)[Ljava/lang/Object;" } : Jvm.MethodName)) ∈ lw_all := lw_g (lw_at lw_m4 13 rfl) rfl
theorem q824 : (Jvm.Cond.privateMethod ({ cls := "java/util/ArrayList", name := "grow", desc := "(I)[Ljava/lang/Object;" } : Jvm.MethodName)) ∈ lw_tbl := lw_at lw_m4 14 rfl
theorem q825 : (Jvm.Cond.instanceMethod ({ cls := "java/util/ArrayList", name := "grow", desc := "(I)[Ljava/lang/Object;" } : Jvm.MethodName)) ∈ lw_all := lw_g (lw_at lw_m4 15 rfl) rfl
theorem q826 : (Jvm.Cond.code ({ cls := "java/util/ArrayList", name := "grow", desc := "(I)[Ljava/lang/Object;" } : Jvm.MethodName) prog_45_method_6_code (4 : Nat) (Option.some (Jvm.ClassFile.FieldType.array (Jvm.ClassFile.FieldType.object "java/lang/Object")))) ∈ lw_all := lw_g (lw_at lw_m4 16 rfl) rfl
theorem q827 : (Jvm.Cond.methodLink "java/util/ArrayList" (73 : Nat) ({ cls := "jdk/internal/util/ArraysSupport", name := "newLength", desc := "(III)I" } : Jvm.MethodName)) ∈ lw_all := lw_g (lw_at lw_m4 17 rfl) rfl
theorem q828 : (Jvm.Cond.methodLink "java/util/ArrayList" (66 : Nat) ({ cls := "java/util/Arrays", name := "copyOf", desc := "([Ljava/lang/Object;I)[Ljava/lang/Object;" } : Jvm.MethodName)) ∈ lw_all := lw_g (lw_at lw_m4 18 rfl) rfl
theorem q855 : (Jvm.Cond.selects "java/util/ArrayList" ({ cls := "java/lang/Object", name := "getClass", desc := "()Ljava/lang/Class;" } : Jvm.MethodName) ({ cls := "java/lang/Object", name := "getClass", desc := "()Ljava/lang/Class;" } : Jvm.MethodName)) ∈ lw_all := lw_g (lw_at lw_m4 45 rfl) rfl
theorem q868 : (Jvm.Cond.methodLink "java/util/ArrayList" (79 : Nat) ({ cls := "java/lang/Math", name := "max", desc := "(II)I" } : Jvm.MethodName)) ∈ lw_all := lw_g (lw_at lw_m4 58 rfl) rfl
theorem q869 : (Jvm.Cond.classLink "java/util/ArrayList" (7 : Nat) "java/lang/Object") ∈ lw_all := lw_g (lw_at lw_m4 59 rfl) rfl
theorem q2534 : (Jvm.Cond.selects "java/util/ArrayList" ({ cls := "java/util/AbstractCollection", name := "size", desc := "()I" } : Jvm.MethodName) ({ cls := "java/util/ArrayList", name := "size", desc := "()I" } : Jvm.MethodName)) ∈ lw_all := lw_g (lw_at lw_m11 44 rfl) rfl
theorem q2544 : (Jvm.Cond.castable "java/util/ArrayList" "java/lang/Object") ∈ lw_tbl := lw_at lw_m11 54 rfl
theorem in_J2 : ∀ w ∈ wsJ20, w ∈ lw_all := lw_in wsJ20 [180, 176, 178] (by decide +kernel) (by decide +kernel)
/-! java/util/BitSet -/
set_option maxRecDepth 100000
def RJ3 : String := "java/util/BitSet"
def TJ3 : u_T := fun k => match k with
  | 0 => ("java/util/BitSet", "words", "[J", false)
  | 1 => ("java/util/BitSet", "wordsInUse", "I", false)
  | _ => ("java/util/BitSet", "sizeIsSticky", "Z", false)
def tyJ3 : Nat → FieldType := fun k => match k with
  | 0 => .array .long
  | 1 => .int
  | _ => .boolean
abbrev wsJ30 : List Cond := u_ws RJ3 TJ3 3
theorem nmJ3 : ∀ a, a < 3 → ∀ b, b < 3 → a ≠ b → (TJ3 a).2.1 ≠ (TJ3 b).2.1 := by decide +kernel
theorem tyJ3_ok : ∀ k, k < 3 → parseFieldDescriptor (TJ3 k).2.2.1 = some (tyJ3 k) := by decide +kernel
abbrev cJ3_init : ByteArray := prog_47_method_4_code
def yJ3_init : MethodName := ⟨RJ3, "<init>", "()V"⟩
def dkwJ3_init_1 : List UInt8 := [181, 0, 24, 177]
abbrev dktJ3_init_1 : List UInt8 := dkwJ3_init_1 ++ []
def dkwJ3_init_0 : List UInt8 := [42, 183, 0, 21, 42, 3, 181, 0, 7, 42, 3, 181, 0, 24, 42, 16, 64, 182, 0, 27, 42, 3]
abbrev dktJ3_init_0 : List UInt8 := dkwJ3_init_0 ++ dktJ3_init_1
theorem dksJ3_init_0 : cJ3_init.data.toList.drop 0 = dktJ3_init_0 := by decide +kernel
theorem dksJ3_init_1 : cJ3_init.data.toList.drop 22 = dktJ3_init_1 := dk_seg dksJ3_init_0 22 rfl rfl
theorem dJ3_init_0 : decode cJ3_init 0 = .ok (.aload_n 0, 1) := dk_42 (dk_at dksJ3_init_0 0 rfl rfl)
theorem dJ3_init_1 : decode cJ3_init 1 = .ok (.invokespecial 21, 3) := dk_183 0 21 (dk_at dksJ3_init_0 1 rfl rfl)
theorem dJ3_init_4 : decode cJ3_init 4 = .ok (.aload_n 0, 1) := dk_42 (dk_at dksJ3_init_0 4 rfl rfl)
theorem dJ3_init_5 : decode cJ3_init 5 = .ok (.iconst 0, 1) := dk_3 (dk_at dksJ3_init_0 5 rfl rfl)
theorem dJ3_init_6 : decode cJ3_init 6 = .ok (.putfield 7, 3) := dk_181 0 7 (dk_at dksJ3_init_0 6 rfl rfl)
theorem dJ3_init_9 : decode cJ3_init 9 = .ok (.aload_n 0, 1) := dk_42 (dk_at dksJ3_init_0 9 rfl rfl)
theorem dJ3_init_10 : decode cJ3_init 10 = .ok (.iconst 0, 1) := dk_3 (dk_at dksJ3_init_0 10 rfl rfl)
theorem dJ3_init_11 : decode cJ3_init 11 = .ok (.putfield 24, 3) := dk_181 0 24 (dk_at dksJ3_init_0 11 rfl rfl)
theorem dJ3_init_14 : decode cJ3_init 14 = .ok (.aload_n 0, 1) := dk_42 (dk_at dksJ3_init_0 14 rfl rfl)
theorem dJ3_init_15 : decode cJ3_init 15 = .ok (.bipush 64, 2) := dk_16 64 (dk_at dksJ3_init_0 15 rfl rfl)
theorem dJ3_init_17 : decode cJ3_init 17 = .ok (.invokevirtual 27, 3) := dk_182 0 27 (dk_at dksJ3_init_0 17 rfl rfl)
theorem dJ3_init_20 : decode cJ3_init 20 = .ok (.aload_n 0, 1) := dk_42 (dk_at dksJ3_init_0 20 rfl rfl)
theorem dJ3_init_21 : decode cJ3_init 21 = .ok (.iconst 0, 1) := dk_3 (dk_at dksJ3_init_0 21 rfl rfl)
theorem dJ3_init_22 : decode cJ3_init 22 = .ok (.putfield 24, 3) := dk_181 0 24 (dk_at dksJ3_init_1 0 rfl rfl)
theorem dJ3_init_25 : decode cJ3_init 25 = .ok (.return_, 1) := dk_177 (dk_at dksJ3_init_1 3 rfl rfl)
abbrev cJ3_initWords : ByteArray := prog_47_method_6_code
def yJ3_initWords : MethodName := ⟨RJ3, "initWords", "(I)V"⟩
def dkwJ3_initWords_0 : List UInt8 := [42, 27, 4, 100, 184, 0, 52, 4, 96, 188, 11, 181, 0, 11, 177]
abbrev dktJ3_initWords_0 : List UInt8 := dkwJ3_initWords_0 ++ []
theorem dksJ3_initWords_0 : cJ3_initWords.data.toList.drop 0 = dktJ3_initWords_0 := by decide +kernel
theorem dJ3_initWords_0 : decode cJ3_initWords 0 = .ok (.aload_n 0, 1) := dk_42 (dk_at dksJ3_initWords_0 0 rfl rfl)
theorem dJ3_initWords_1 : decode cJ3_initWords 1 = .ok (.iload_n 1, 1) := dk_27 (dk_at dksJ3_initWords_0 1 rfl rfl)
theorem dJ3_initWords_2 : decode cJ3_initWords 2 = .ok (.iconst 1, 1) := dk_4 (dk_at dksJ3_initWords_0 2 rfl rfl)
theorem dJ3_initWords_3 : decode cJ3_initWords 3 = .ok (.isub, 1) := dk_100 (dk_at dksJ3_initWords_0 3 rfl rfl)
theorem dJ3_initWords_4 : decode cJ3_initWords 4 = .ok (.invokestatic 52, 3) := dk_184 0 52 (dk_at dksJ3_initWords_0 4 rfl rfl)
theorem dJ3_initWords_7 : decode cJ3_initWords 7 = .ok (.iconst 1, 1) := dk_4 (dk_at dksJ3_initWords_0 7 rfl rfl)
theorem dJ3_initWords_8 : decode cJ3_initWords 8 = .ok (.iadd, 1) := dk_96 (dk_at dksJ3_initWords_0 8 rfl rfl)
theorem dJ3_initWords_9 : decode cJ3_initWords 9 = .ok (.newarray .long, 2) := dk_188_11 (dk_at dksJ3_initWords_0 9 rfl rfl)
theorem dJ3_initWords_11 : decode cJ3_initWords 11 = .ok (.putfield 11, 3) := dk_181 0 11 (dk_at dksJ3_initWords_0 11 rfl rfl)
theorem dJ3_initWords_14 : decode cJ3_initWords 14 = .ok (.return_, 1) := dk_177 (dk_at dksJ3_initWords_0 14 rfl rfl)
abbrev cJ3_wordIndex : ByteArray := prog_47_method_1_code
def yJ3_wordIndex : MethodName := ⟨RJ3, "wordIndex", "(I)I"⟩
def dkwJ3_wordIndex_0 : List UInt8 := [26, 16, 6, 122, 172]
abbrev dktJ3_wordIndex_0 : List UInt8 := dkwJ3_wordIndex_0 ++ []
theorem dksJ3_wordIndex_0 : cJ3_wordIndex.data.toList.drop 0 = dktJ3_wordIndex_0 := by decide +kernel
theorem dJ3_wordIndex_0 : decode cJ3_wordIndex 0 = .ok (.iload_n 0, 1) := dk_26 (dk_at dksJ3_wordIndex_0 0 rfl rfl)
theorem dJ3_wordIndex_1 : decode cJ3_wordIndex 1 = .ok (.bipush 6, 2) := dk_16 6 (dk_at dksJ3_wordIndex_0 1 rfl rfl)
theorem dJ3_wordIndex_3 : decode cJ3_wordIndex 3 = .ok (.ishr, 1) := dk_122 (dk_at dksJ3_wordIndex_0 3 rfl rfl)
theorem dJ3_wordIndex_4 : decode cJ3_wordIndex 4 = .ok (.ireturn, 1) := dk_172 (dk_at dksJ3_wordIndex_0 4 rfl rfl)
abbrev cJ3_or : ByteArray := prog_47_method_37_code
def yJ3_or : MethodName := ⟨RJ3, "or", "(Ljava/util/BitSet;)V"⟩
def dkwJ3_or_4 : List UInt8 := [180, 0, 7, 28, 100, 184, 0, 199, 42, 182, 0, 56, 177]
abbrev dktJ3_or_4 : List UInt8 := dkwJ3_or_4 ++ []
def dkwJ3_or_3 : List UInt8 := [167, 255, 233, 28, 43, 180, 0, 7, 162, 0, 22, 43, 180, 0, 11, 28, 42, 180, 0, 11, 28, 42]
abbrev dktJ3_or_3 : List UInt8 := dkwJ3_or_3 ++ dktJ3_or_4
def dkwJ3_or_2 : List UInt8 := [29, 28, 162, 0, 24, 42, 180, 0, 11, 29, 92, 47, 43, 180, 0, 11, 29, 47, 129, 80, 132, 3, 1]
abbrev dktJ3_or_2 : List UInt8 := dkwJ3_or_2 ++ dktJ3_or_3
def dkwJ3_or_1 : List UInt8 := [180, 0, 7, 162, 0, 19, 42, 43, 180, 0, 7, 182, 0, 139, 42, 43, 180, 0, 7, 181, 0, 7, 3, 62]
abbrev dktJ3_or_1 : List UInt8 := dkwJ3_or_1 ++ dktJ3_or_2
def dkwJ3_or_0 : List UInt8 := [42, 43, 166, 0, 4, 177, 42, 180, 0, 7, 43, 180, 0, 7, 184, 0, 193, 61, 42, 180, 0, 7, 43]
abbrev dktJ3_or_0 : List UInt8 := dkwJ3_or_0 ++ dktJ3_or_1
theorem dksJ3_or_0 : cJ3_or.data.toList.drop 0 = dktJ3_or_0 := by decide +kernel
theorem dksJ3_or_1 : cJ3_or.data.toList.drop 23 = dktJ3_or_1 := dk_seg dksJ3_or_0 23 rfl rfl
theorem dksJ3_or_2 : cJ3_or.data.toList.drop 47 = dktJ3_or_2 := dk_seg dksJ3_or_1 24 rfl rfl
theorem dksJ3_or_3 : cJ3_or.data.toList.drop 70 = dktJ3_or_3 := dk_seg dksJ3_or_2 23 rfl rfl
theorem dksJ3_or_4 : cJ3_or.data.toList.drop 92 = dktJ3_or_4 := dk_seg dksJ3_or_3 22 rfl rfl
theorem dJ3_or_0 : decode cJ3_or 0 = .ok (.aload_n 0, 1) := dk_42 (dk_at dksJ3_or_0 0 rfl rfl)
theorem dJ3_or_1 : decode cJ3_or 1 = .ok (.aload_n 1, 1) := dk_43 (dk_at dksJ3_or_0 1 rfl rfl)
theorem dJ3_or_2 : decode cJ3_or 2 = .ok (.if_acmp .ne 4, 3) := dk_166 0 4 (dk_at dksJ3_or_0 2 rfl rfl)
theorem dJ3_or_5 : decode cJ3_or 5 = .ok (.return_, 1) := dk_177 (dk_at dksJ3_or_0 5 rfl rfl)
theorem dJ3_or_6 : decode cJ3_or 6 = .ok (.aload_n 0, 1) := dk_42 (dk_at dksJ3_or_0 6 rfl rfl)
theorem dJ3_or_7 : decode cJ3_or 7 = .ok (.getfield 7, 3) := dk_180 0 7 (dk_at dksJ3_or_0 7 rfl rfl)
theorem dJ3_or_10 : decode cJ3_or 10 = .ok (.aload_n 1, 1) := dk_43 (dk_at dksJ3_or_0 10 rfl rfl)
theorem dJ3_or_11 : decode cJ3_or 11 = .ok (.getfield 7, 3) := dk_180 0 7 (dk_at dksJ3_or_0 11 rfl rfl)
theorem dJ3_or_14 : decode cJ3_or 14 = .ok (.invokestatic 193, 3) := dk_184 0 193 (dk_at dksJ3_or_0 14 rfl rfl)
theorem dJ3_or_17 : decode cJ3_or 17 = .ok (.istore_n 2, 1) := dk_61 (dk_at dksJ3_or_0 17 rfl rfl)
theorem dJ3_or_18 : decode cJ3_or 18 = .ok (.aload_n 0, 1) := dk_42 (dk_at dksJ3_or_0 18 rfl rfl)
theorem dJ3_or_19 : decode cJ3_or 19 = .ok (.getfield 7, 3) := dk_180 0 7 (dk_at dksJ3_or_0 19 rfl rfl)
theorem dJ3_or_22 : decode cJ3_or 22 = .ok (.aload_n 1, 1) := dk_43 (dk_at dksJ3_or_0 22 rfl rfl)
theorem dJ3_or_23 : decode cJ3_or 23 = .ok (.getfield 7, 3) := dk_180 0 7 (dk_at dksJ3_or_1 0 rfl rfl)
theorem dJ3_or_26 : decode cJ3_or 26 = .ok (.if_icmp .ge 19, 3) := dk_162 0 19 (dk_at dksJ3_or_1 3 rfl rfl)
theorem dJ3_or_29 : decode cJ3_or 29 = .ok (.aload_n 0, 1) := dk_42 (dk_at dksJ3_or_1 6 rfl rfl)
theorem dJ3_or_30 : decode cJ3_or 30 = .ok (.aload_n 1, 1) := dk_43 (dk_at dksJ3_or_1 7 rfl rfl)
theorem dJ3_or_31 : decode cJ3_or 31 = .ok (.getfield 7, 3) := dk_180 0 7 (dk_at dksJ3_or_1 8 rfl rfl)
theorem dJ3_or_34 : decode cJ3_or 34 = .ok (.invokevirtual 139, 3) := dk_182 0 139 (dk_at dksJ3_or_1 11 rfl rfl)
theorem dJ3_or_37 : decode cJ3_or 37 = .ok (.aload_n 0, 1) := dk_42 (dk_at dksJ3_or_1 14 rfl rfl)
theorem dJ3_or_38 : decode cJ3_or 38 = .ok (.aload_n 1, 1) := dk_43 (dk_at dksJ3_or_1 15 rfl rfl)
theorem dJ3_or_39 : decode cJ3_or 39 = .ok (.getfield 7, 3) := dk_180 0 7 (dk_at dksJ3_or_1 16 rfl rfl)
theorem dJ3_or_42 : decode cJ3_or 42 = .ok (.putfield 7, 3) := dk_181 0 7 (dk_at dksJ3_or_1 19 rfl rfl)
theorem dJ3_or_45 : decode cJ3_or 45 = .ok (.iconst 0, 1) := dk_3 (dk_at dksJ3_or_1 22 rfl rfl)
theorem dJ3_or_46 : decode cJ3_or 46 = .ok (.istore_n 3, 1) := dk_62 (dk_at dksJ3_or_1 23 rfl rfl)
theorem dJ3_or_47 : decode cJ3_or 47 = .ok (.iload_n 3, 1) := dk_29 (dk_at dksJ3_or_2 0 rfl rfl)
theorem dJ3_or_48 : decode cJ3_or 48 = .ok (.iload_n 2, 1) := dk_28 (dk_at dksJ3_or_2 1 rfl rfl)
theorem dJ3_or_49 : decode cJ3_or 49 = .ok (.if_icmp .ge 24, 3) := dk_162 0 24 (dk_at dksJ3_or_2 2 rfl rfl)
theorem dJ3_or_52 : decode cJ3_or 52 = .ok (.aload_n 0, 1) := dk_42 (dk_at dksJ3_or_2 5 rfl rfl)
theorem dJ3_or_53 : decode cJ3_or 53 = .ok (.getfield 11, 3) := dk_180 0 11 (dk_at dksJ3_or_2 6 rfl rfl)
theorem dJ3_or_56 : decode cJ3_or 56 = .ok (.iload_n 3, 1) := dk_29 (dk_at dksJ3_or_2 9 rfl rfl)
theorem dJ3_or_57 : decode cJ3_or 57 = .ok (.dup2, 1) := dk_92 (dk_at dksJ3_or_2 10 rfl rfl)
theorem dJ3_or_58 : decode cJ3_or 58 = .ok (.laload, 1) := dk_47 (dk_at dksJ3_or_2 11 rfl rfl)
theorem dJ3_or_59 : decode cJ3_or 59 = .ok (.aload_n 1, 1) := dk_43 (dk_at dksJ3_or_2 12 rfl rfl)
theorem dJ3_or_60 : decode cJ3_or 60 = .ok (.getfield 11, 3) := dk_180 0 11 (dk_at dksJ3_or_2 13 rfl rfl)
theorem dJ3_or_63 : decode cJ3_or 63 = .ok (.iload_n 3, 1) := dk_29 (dk_at dksJ3_or_2 16 rfl rfl)
theorem dJ3_or_64 : decode cJ3_or 64 = .ok (.laload, 1) := dk_47 (dk_at dksJ3_or_2 17 rfl rfl)
theorem dJ3_or_65 : decode cJ3_or 65 = .ok (.lor, 1) := dk_129 (dk_at dksJ3_or_2 18 rfl rfl)
theorem dJ3_or_66 : decode cJ3_or 66 = .ok (.lastore, 1) := dk_80 (dk_at dksJ3_or_2 19 rfl rfl)
theorem dJ3_or_67 : decode cJ3_or 67 = .ok (.iinc 3 1, 3) := dk_132 3 1 (dk_at dksJ3_or_2 20 rfl rfl)
theorem dJ3_or_70 : decode cJ3_or 70 = .ok (.goto (-23), 3) := dk_167 255 233 (dk_at dksJ3_or_3 0 rfl rfl)
theorem dJ3_or_73 : decode cJ3_or 73 = .ok (.iload_n 2, 1) := dk_28 (dk_at dksJ3_or_3 3 rfl rfl)
theorem dJ3_or_74 : decode cJ3_or 74 = .ok (.aload_n 1, 1) := dk_43 (dk_at dksJ3_or_3 4 rfl rfl)
theorem dJ3_or_75 : decode cJ3_or 75 = .ok (.getfield 7, 3) := dk_180 0 7 (dk_at dksJ3_or_3 5 rfl rfl)
theorem dJ3_or_78 : decode cJ3_or 78 = .ok (.if_icmp .ge 22, 3) := dk_162 0 22 (dk_at dksJ3_or_3 8 rfl rfl)
theorem dJ3_or_81 : decode cJ3_or 81 = .ok (.aload_n 1, 1) := dk_43 (dk_at dksJ3_or_3 11 rfl rfl)
theorem dJ3_or_82 : decode cJ3_or 82 = .ok (.getfield 11, 3) := dk_180 0 11 (dk_at dksJ3_or_3 12 rfl rfl)
theorem dJ3_or_85 : decode cJ3_or 85 = .ok (.iload_n 2, 1) := dk_28 (dk_at dksJ3_or_3 15 rfl rfl)
theorem dJ3_or_86 : decode cJ3_or 86 = .ok (.aload_n 0, 1) := dk_42 (dk_at dksJ3_or_3 16 rfl rfl)
theorem dJ3_or_87 : decode cJ3_or 87 = .ok (.getfield 11, 3) := dk_180 0 11 (dk_at dksJ3_or_3 17 rfl rfl)
theorem dJ3_or_90 : decode cJ3_or 90 = .ok (.iload_n 2, 1) := dk_28 (dk_at dksJ3_or_3 20 rfl rfl)
theorem dJ3_or_91 : decode cJ3_or 91 = .ok (.aload_n 0, 1) := dk_42 (dk_at dksJ3_or_3 21 rfl rfl)
theorem dJ3_or_92 : decode cJ3_or 92 = .ok (.getfield 7, 3) := dk_180 0 7 (dk_at dksJ3_or_4 0 rfl rfl)
theorem dJ3_or_95 : decode cJ3_or 95 = .ok (.iload_n 2, 1) := dk_28 (dk_at dksJ3_or_4 3 rfl rfl)
theorem dJ3_or_96 : decode cJ3_or 96 = .ok (.isub, 1) := dk_100 (dk_at dksJ3_or_4 4 rfl rfl)
theorem dJ3_or_97 : decode cJ3_or 97 = .ok (.invokestatic 199, 3) := dk_184 0 199 (dk_at dksJ3_or_4 5 rfl rfl)
theorem dJ3_or_100 : decode cJ3_or 100 = .ok (.aload_n 0, 1) := dk_42 (dk_at dksJ3_or_4 8 rfl rfl)
theorem dJ3_or_101 : decode cJ3_or 101 = .ok (.invokevirtual 56, 3) := dk_182 0 56 (dk_at dksJ3_or_4 9 rfl rfl)
theorem dJ3_or_104 : decode cJ3_or 104 = .ok (.return_, 1) := dk_177 (dk_at dksJ3_or_4 12 rfl rfl)
abbrev cJ3_ensureCapacity : ByteArray := prog_47_method_14_code
def yJ3_ensureCapacity : MethodName := ⟨RJ3, "ensureCapacity", "(I)V"⟩
def dkwJ3_ensureCapacity_1 : List UInt8 := [180, 0, 11, 28, 184, 0, 59, 181, 0, 11, 42, 3, 181, 0, 24, 177]
abbrev dktJ3_ensureCapacity_1 : List UInt8 := dkwJ3_ensureCapacity_1 ++ []
def dkwJ3_ensureCapacity_0 : List UInt8 := [42, 180, 0, 11, 190, 27, 162, 0, 32, 5, 42, 180, 0, 11, 190, 104, 27, 184, 0, 133, 61, 42, 42]
abbrev dktJ3_ensureCapacity_0 : List UInt8 := dkwJ3_ensureCapacity_0 ++ dktJ3_ensureCapacity_1
theorem dksJ3_ensureCapacity_0 : cJ3_ensureCapacity.data.toList.drop 0 = dktJ3_ensureCapacity_0 := by decide +kernel
theorem dksJ3_ensureCapacity_1 : cJ3_ensureCapacity.data.toList.drop 23 = dktJ3_ensureCapacity_1 := dk_seg dksJ3_ensureCapacity_0 23 rfl rfl
theorem dJ3_ensureCapacity_0 : decode cJ3_ensureCapacity 0 = .ok (.aload_n 0, 1) := dk_42 (dk_at dksJ3_ensureCapacity_0 0 rfl rfl)
theorem dJ3_ensureCapacity_1 : decode cJ3_ensureCapacity 1 = .ok (.getfield 11, 3) := dk_180 0 11 (dk_at dksJ3_ensureCapacity_0 1 rfl rfl)
theorem dJ3_ensureCapacity_4 : decode cJ3_ensureCapacity 4 = .ok (.arraylength, 1) := dk_190 (dk_at dksJ3_ensureCapacity_0 4 rfl rfl)
theorem dJ3_ensureCapacity_5 : decode cJ3_ensureCapacity 5 = .ok (.iload_n 1, 1) := dk_27 (dk_at dksJ3_ensureCapacity_0 5 rfl rfl)
theorem dJ3_ensureCapacity_6 : decode cJ3_ensureCapacity 6 = .ok (.if_icmp .ge 32, 3) := dk_162 0 32 (dk_at dksJ3_ensureCapacity_0 6 rfl rfl)
theorem dJ3_ensureCapacity_9 : decode cJ3_ensureCapacity 9 = .ok (.iconst 2, 1) := dk_5 (dk_at dksJ3_ensureCapacity_0 9 rfl rfl)
theorem dJ3_ensureCapacity_10 : decode cJ3_ensureCapacity 10 = .ok (.aload_n 0, 1) := dk_42 (dk_at dksJ3_ensureCapacity_0 10 rfl rfl)
theorem dJ3_ensureCapacity_11 : decode cJ3_ensureCapacity 11 = .ok (.getfield 11, 3) := dk_180 0 11 (dk_at dksJ3_ensureCapacity_0 11 rfl rfl)
theorem dJ3_ensureCapacity_14 : decode cJ3_ensureCapacity 14 = .ok (.arraylength, 1) := dk_190 (dk_at dksJ3_ensureCapacity_0 14 rfl rfl)
theorem dJ3_ensureCapacity_15 : decode cJ3_ensureCapacity 15 = .ok (.imul, 1) := dk_104 (dk_at dksJ3_ensureCapacity_0 15 rfl rfl)
theorem dJ3_ensureCapacity_16 : decode cJ3_ensureCapacity 16 = .ok (.iload_n 1, 1) := dk_27 (dk_at dksJ3_ensureCapacity_0 16 rfl rfl)
theorem dJ3_ensureCapacity_17 : decode cJ3_ensureCapacity 17 = .ok (.invokestatic 133, 3) := dk_184 0 133 (dk_at dksJ3_ensureCapacity_0 17 rfl rfl)
theorem dJ3_ensureCapacity_20 : decode cJ3_ensureCapacity 20 = .ok (.istore_n 2, 1) := dk_61 (dk_at dksJ3_ensureCapacity_0 20 rfl rfl)
theorem dJ3_ensureCapacity_21 : decode cJ3_ensureCapacity 21 = .ok (.aload_n 0, 1) := dk_42 (dk_at dksJ3_ensureCapacity_0 21 rfl rfl)
theorem dJ3_ensureCapacity_22 : decode cJ3_ensureCapacity 22 = .ok (.aload_n 0, 1) := dk_42 (dk_at dksJ3_ensureCapacity_0 22 rfl rfl)
theorem dJ3_ensureCapacity_23 : decode cJ3_ensureCapacity 23 = .ok (.getfield 11, 3) := dk_180 0 11 (dk_at dksJ3_ensureCapacity_1 0 rfl rfl)
theorem dJ3_ensureCapacity_26 : decode cJ3_ensureCapacity 26 = .ok (.iload_n 2, 1) := dk_28 (dk_at dksJ3_ensureCapacity_1 3 rfl rfl)
theorem dJ3_ensureCapacity_27 : decode cJ3_ensureCapacity 27 = .ok (.invokestatic 59, 3) := dk_184 0 59 (dk_at dksJ3_ensureCapacity_1 4 rfl rfl)
theorem dJ3_ensureCapacity_30 : decode cJ3_ensureCapacity 30 = .ok (.putfield 11, 3) := dk_181 0 11 (dk_at dksJ3_ensureCapacity_1 7 rfl rfl)
theorem dJ3_ensureCapacity_33 : decode cJ3_ensureCapacity 33 = .ok (.aload_n 0, 1) := dk_42 (dk_at dksJ3_ensureCapacity_1 10 rfl rfl)
theorem dJ3_ensureCapacity_34 : decode cJ3_ensureCapacity 34 = .ok (.iconst 0, 1) := dk_3 (dk_at dksJ3_ensureCapacity_1 11 rfl rfl)
theorem dJ3_ensureCapacity_35 : decode cJ3_ensureCapacity 35 = .ok (.putfield 24, 3) := dk_181 0 24 (dk_at dksJ3_ensureCapacity_1 12 rfl rfl)
theorem dJ3_ensureCapacity_38 : decode cJ3_ensureCapacity 38 = .ok (.return_, 1) := dk_177 (dk_at dksJ3_ensureCapacity_1 15 rfl rfl)
abbrev cJ3_checkInvariants : ByteArray := prog_47_method_2_code
def yJ3_checkInvariants : MethodName := ⟨RJ3, "checkInvariants", "()V"⟩
def dkwJ3_checkInvariants_4 : List UInt8 := [180, 0, 7, 47, 9, 148, 153, 0, 11, 187, 0, 15, 89, 183, 0, 17, 191, 177]
abbrev dktJ3_checkInvariants_4 : List UInt8 := dkwJ3_checkInvariants_4 ++ []
def dkwJ3_checkInvariants_3 : List UInt8 := [178, 0, 3, 154, 0, 37, 42, 180, 0, 7, 42, 180, 0, 11, 190, 159, 0, 25, 42, 180, 0, 11, 42]
abbrev dktJ3_checkInvariants_3 : List UInt8 := dkwJ3_checkInvariants_3 ++ dktJ3_checkInvariants_4
def dkwJ3_checkInvariants_2 : List UInt8 := [155, 0, 15, 42, 180, 0, 7, 42, 180, 0, 11, 190, 164, 0, 11, 187, 0, 15, 89, 183, 0, 17, 191]
abbrev dktJ3_checkInvariants_2 : List UInt8 := dkwJ3_checkInvariants_2 ++ dktJ3_checkInvariants_3
def dkwJ3_checkInvariants_1 : List UInt8 := [9, 148, 154, 0, 11, 187, 0, 15, 89, 183, 0, 17, 191, 178, 0, 3, 154, 0, 30, 42, 180, 0, 7]
abbrev dktJ3_checkInvariants_1 : List UInt8 := dkwJ3_checkInvariants_1 ++ dktJ3_checkInvariants_2
def dkwJ3_checkInvariants_0 : List UInt8 := [178, 0, 3, 154, 0, 34, 42, 180, 0, 7, 153, 0, 27, 42, 180, 0, 11, 42, 180, 0, 7, 4, 100, 47]
abbrev dktJ3_checkInvariants_0 : List UInt8 := dkwJ3_checkInvariants_0 ++ dktJ3_checkInvariants_1
theorem dksJ3_checkInvariants_0 : cJ3_checkInvariants.data.toList.drop 0 = dktJ3_checkInvariants_0 := by decide +kernel
theorem dksJ3_checkInvariants_1 : cJ3_checkInvariants.data.toList.drop 24 = dktJ3_checkInvariants_1 := dk_seg dksJ3_checkInvariants_0 24 rfl rfl
theorem dksJ3_checkInvariants_2 : cJ3_checkInvariants.data.toList.drop 47 = dktJ3_checkInvariants_2 := dk_seg dksJ3_checkInvariants_1 23 rfl rfl
theorem dksJ3_checkInvariants_3 : cJ3_checkInvariants.data.toList.drop 70 = dktJ3_checkInvariants_3 := dk_seg dksJ3_checkInvariants_2 23 rfl rfl
theorem dksJ3_checkInvariants_4 : cJ3_checkInvariants.data.toList.drop 93 = dktJ3_checkInvariants_4 := dk_seg dksJ3_checkInvariants_3 23 rfl rfl
theorem dJ3_checkInvariants_0 : decode cJ3_checkInvariants 0 = .ok (.getstatic 3, 3) := dk_178 0 3 (dk_at dksJ3_checkInvariants_0 0 rfl rfl)
theorem dJ3_checkInvariants_3 : decode cJ3_checkInvariants 3 = .ok (.ifCond .ne 34, 3) := dk_154 0 34 (dk_at dksJ3_checkInvariants_0 3 rfl rfl)
theorem dJ3_checkInvariants_6 : decode cJ3_checkInvariants 6 = .ok (.aload_n 0, 1) := dk_42 (dk_at dksJ3_checkInvariants_0 6 rfl rfl)
theorem dJ3_checkInvariants_7 : decode cJ3_checkInvariants 7 = .ok (.getfield 7, 3) := dk_180 0 7 (dk_at dksJ3_checkInvariants_0 7 rfl rfl)
theorem dJ3_checkInvariants_10 : decode cJ3_checkInvariants 10 = .ok (.ifCond .eq 27, 3) := dk_153 0 27 (dk_at dksJ3_checkInvariants_0 10 rfl rfl)
theorem dJ3_checkInvariants_13 : decode cJ3_checkInvariants 13 = .ok (.aload_n 0, 1) := dk_42 (dk_at dksJ3_checkInvariants_0 13 rfl rfl)
theorem dJ3_checkInvariants_14 : decode cJ3_checkInvariants 14 = .ok (.getfield 11, 3) := dk_180 0 11 (dk_at dksJ3_checkInvariants_0 14 rfl rfl)
theorem dJ3_checkInvariants_17 : decode cJ3_checkInvariants 17 = .ok (.aload_n 0, 1) := dk_42 (dk_at dksJ3_checkInvariants_0 17 rfl rfl)
theorem dJ3_checkInvariants_18 : decode cJ3_checkInvariants 18 = .ok (.getfield 7, 3) := dk_180 0 7 (dk_at dksJ3_checkInvariants_0 18 rfl rfl)
theorem dJ3_checkInvariants_21 : decode cJ3_checkInvariants 21 = .ok (.iconst 1, 1) := dk_4 (dk_at dksJ3_checkInvariants_0 21 rfl rfl)
theorem dJ3_checkInvariants_22 : decode cJ3_checkInvariants 22 = .ok (.isub, 1) := dk_100 (dk_at dksJ3_checkInvariants_0 22 rfl rfl)
theorem dJ3_checkInvariants_23 : decode cJ3_checkInvariants 23 = .ok (.laload, 1) := dk_47 (dk_at dksJ3_checkInvariants_0 23 rfl rfl)
theorem dJ3_checkInvariants_24 : decode cJ3_checkInvariants 24 = .ok (.lconst 0, 1) := dk_9 (dk_at dksJ3_checkInvariants_1 0 rfl rfl)
theorem dJ3_checkInvariants_25 : decode cJ3_checkInvariants 25 = .ok (.lcmp, 1) := dk_148 (dk_at dksJ3_checkInvariants_1 1 rfl rfl)
theorem dJ3_checkInvariants_26 : decode cJ3_checkInvariants 26 = .ok (.ifCond .ne 11, 3) := dk_154 0 11 (dk_at dksJ3_checkInvariants_1 2 rfl rfl)
theorem dJ3_checkInvariants_29 : decode cJ3_checkInvariants 29 = .ok (.new 15, 3) := dk_187 0 15 (dk_at dksJ3_checkInvariants_1 5 rfl rfl)
theorem dJ3_checkInvariants_32 : decode cJ3_checkInvariants 32 = .ok (.dup, 1) := dk_89 (dk_at dksJ3_checkInvariants_1 8 rfl rfl)
theorem dJ3_checkInvariants_33 : decode cJ3_checkInvariants 33 = .ok (.invokespecial 17, 3) := dk_183 0 17 (dk_at dksJ3_checkInvariants_1 9 rfl rfl)
theorem dJ3_checkInvariants_36 : decode cJ3_checkInvariants 36 = .ok (.athrow, 1) := dk_191 (dk_at dksJ3_checkInvariants_1 12 rfl rfl)
theorem dJ3_checkInvariants_37 : decode cJ3_checkInvariants 37 = .ok (.getstatic 3, 3) := dk_178 0 3 (dk_at dksJ3_checkInvariants_1 13 rfl rfl)
theorem dJ3_checkInvariants_40 : decode cJ3_checkInvariants 40 = .ok (.ifCond .ne 30, 3) := dk_154 0 30 (dk_at dksJ3_checkInvariants_1 16 rfl rfl)
theorem dJ3_checkInvariants_43 : decode cJ3_checkInvariants 43 = .ok (.aload_n 0, 1) := dk_42 (dk_at dksJ3_checkInvariants_1 19 rfl rfl)
theorem dJ3_checkInvariants_44 : decode cJ3_checkInvariants 44 = .ok (.getfield 7, 3) := dk_180 0 7 (dk_at dksJ3_checkInvariants_1 20 rfl rfl)
theorem dJ3_checkInvariants_47 : decode cJ3_checkInvariants 47 = .ok (.ifCond .lt 15, 3) := dk_155 0 15 (dk_at dksJ3_checkInvariants_2 0 rfl rfl)
theorem dJ3_checkInvariants_50 : decode cJ3_checkInvariants 50 = .ok (.aload_n 0, 1) := dk_42 (dk_at dksJ3_checkInvariants_2 3 rfl rfl)
theorem dJ3_checkInvariants_51 : decode cJ3_checkInvariants 51 = .ok (.getfield 7, 3) := dk_180 0 7 (dk_at dksJ3_checkInvariants_2 4 rfl rfl)
theorem dJ3_checkInvariants_54 : decode cJ3_checkInvariants 54 = .ok (.aload_n 0, 1) := dk_42 (dk_at dksJ3_checkInvariants_2 7 rfl rfl)
theorem dJ3_checkInvariants_55 : decode cJ3_checkInvariants 55 = .ok (.getfield 11, 3) := dk_180 0 11 (dk_at dksJ3_checkInvariants_2 8 rfl rfl)
theorem dJ3_checkInvariants_58 : decode cJ3_checkInvariants 58 = .ok (.arraylength, 1) := dk_190 (dk_at dksJ3_checkInvariants_2 11 rfl rfl)
theorem dJ3_checkInvariants_59 : decode cJ3_checkInvariants 59 = .ok (.if_icmp .le 11, 3) := dk_164 0 11 (dk_at dksJ3_checkInvariants_2 12 rfl rfl)
theorem dJ3_checkInvariants_62 : decode cJ3_checkInvariants 62 = .ok (.new 15, 3) := dk_187 0 15 (dk_at dksJ3_checkInvariants_2 15 rfl rfl)
theorem dJ3_checkInvariants_65 : decode cJ3_checkInvariants 65 = .ok (.dup, 1) := dk_89 (dk_at dksJ3_checkInvariants_2 18 rfl rfl)
theorem dJ3_checkInvariants_66 : decode cJ3_checkInvariants 66 = .ok (.invokespecial 17, 3) := dk_183 0 17 (dk_at dksJ3_checkInvariants_2 19 rfl rfl)
theorem dJ3_checkInvariants_69 : decode cJ3_checkInvariants 69 = .ok (.athrow, 1) := dk_191 (dk_at dksJ3_checkInvariants_2 22 rfl rfl)
theorem dJ3_checkInvariants_70 : decode cJ3_checkInvariants 70 = .ok (.getstatic 3, 3) := dk_178 0 3 (dk_at dksJ3_checkInvariants_3 0 rfl rfl)
theorem dJ3_checkInvariants_73 : decode cJ3_checkInvariants 73 = .ok (.ifCond .ne 37, 3) := dk_154 0 37 (dk_at dksJ3_checkInvariants_3 3 rfl rfl)
theorem dJ3_checkInvariants_76 : decode cJ3_checkInvariants 76 = .ok (.aload_n 0, 1) := dk_42 (dk_at dksJ3_checkInvariants_3 6 rfl rfl)
theorem dJ3_checkInvariants_77 : decode cJ3_checkInvariants 77 = .ok (.getfield 7, 3) := dk_180 0 7 (dk_at dksJ3_checkInvariants_3 7 rfl rfl)
theorem dJ3_checkInvariants_80 : decode cJ3_checkInvariants 80 = .ok (.aload_n 0, 1) := dk_42 (dk_at dksJ3_checkInvariants_3 10 rfl rfl)
theorem dJ3_checkInvariants_81 : decode cJ3_checkInvariants 81 = .ok (.getfield 11, 3) := dk_180 0 11 (dk_at dksJ3_checkInvariants_3 11 rfl rfl)
theorem dJ3_checkInvariants_84 : decode cJ3_checkInvariants 84 = .ok (.arraylength, 1) := dk_190 (dk_at dksJ3_checkInvariants_3 14 rfl rfl)
theorem dJ3_checkInvariants_85 : decode cJ3_checkInvariants 85 = .ok (.if_icmp .eq 25, 3) := dk_159 0 25 (dk_at dksJ3_checkInvariants_3 15 rfl rfl)
theorem dJ3_checkInvariants_88 : decode cJ3_checkInvariants 88 = .ok (.aload_n 0, 1) := dk_42 (dk_at dksJ3_checkInvariants_3 18 rfl rfl)
theorem dJ3_checkInvariants_89 : decode cJ3_checkInvariants 89 = .ok (.getfield 11, 3) := dk_180 0 11 (dk_at dksJ3_checkInvariants_3 19 rfl rfl)
theorem dJ3_checkInvariants_92 : decode cJ3_checkInvariants 92 = .ok (.aload_n 0, 1) := dk_42 (dk_at dksJ3_checkInvariants_3 22 rfl rfl)
theorem dJ3_checkInvariants_93 : decode cJ3_checkInvariants 93 = .ok (.getfield 7, 3) := dk_180 0 7 (dk_at dksJ3_checkInvariants_4 0 rfl rfl)
theorem dJ3_checkInvariants_96 : decode cJ3_checkInvariants 96 = .ok (.laload, 1) := dk_47 (dk_at dksJ3_checkInvariants_4 3 rfl rfl)
theorem dJ3_checkInvariants_97 : decode cJ3_checkInvariants 97 = .ok (.lconst 0, 1) := dk_9 (dk_at dksJ3_checkInvariants_4 4 rfl rfl)
theorem dJ3_checkInvariants_98 : decode cJ3_checkInvariants 98 = .ok (.lcmp, 1) := dk_148 (dk_at dksJ3_checkInvariants_4 5 rfl rfl)
theorem dJ3_checkInvariants_99 : decode cJ3_checkInvariants 99 = .ok (.ifCond .eq 11, 3) := dk_153 0 11 (dk_at dksJ3_checkInvariants_4 6 rfl rfl)
theorem dJ3_checkInvariants_102 : decode cJ3_checkInvariants 102 = .ok (.new 15, 3) := dk_187 0 15 (dk_at dksJ3_checkInvariants_4 9 rfl rfl)
theorem dJ3_checkInvariants_105 : decode cJ3_checkInvariants 105 = .ok (.dup, 1) := dk_89 (dk_at dksJ3_checkInvariants_4 12 rfl rfl)
theorem dJ3_checkInvariants_106 : decode cJ3_checkInvariants 106 = .ok (.invokespecial 17, 3) := dk_183 0 17 (dk_at dksJ3_checkInvariants_4 13 rfl rfl)
theorem dJ3_checkInvariants_109 : decode cJ3_checkInvariants 109 = .ok (.athrow, 1) := dk_191 (dk_at dksJ3_checkInvariants_4 16 rfl rfl)
theorem dJ3_checkInvariants_110 : decode cJ3_checkInvariants 110 = .ok (.return_, 1) := dk_177 (dk_at dksJ3_checkInvariants_4 17 rfl rfl)
abbrev cJ3_get : ByteArray := prog_47_method_26_code
def yJ3_get : MethodName := ⟨RJ3, "get", "(I)Z"⟩
def dkwJ3_get_2 : List UInt8 := [42, 180, 0, 11, 28, 47, 10, 27, 121, 127, 9, 148, 153, 0, 7, 4, 167, 0, 4, 3, 172]
abbrev dktJ3_get_2 : List UInt8 := dkwJ3_get_2 ++ []
def dkwJ3_get_1 : List UInt8 := [182, 0, 45, 183, 0, 146, 191, 42, 182, 0, 56, 27, 184, 0, 52, 61, 28, 42, 180, 0, 7, 162, 0, 22]
abbrev dktJ3_get_1 : List UInt8 := dkwJ3_get_1 ++ dktJ3_get_2
def dkwJ3_get_0 : List UInt8 := [27, 156, 0, 30, 187, 0, 142, 89, 187, 0, 33, 89, 183, 0, 35, 18, 153, 182, 0, 38, 27, 182, 0, 42]
abbrev dktJ3_get_0 : List UInt8 := dkwJ3_get_0 ++ dktJ3_get_1
theorem dksJ3_get_0 : cJ3_get.data.toList.drop 0 = dktJ3_get_0 := by decide +kernel
theorem dksJ3_get_1 : cJ3_get.data.toList.drop 24 = dktJ3_get_1 := dk_seg dksJ3_get_0 24 rfl rfl
theorem dksJ3_get_2 : cJ3_get.data.toList.drop 48 = dktJ3_get_2 := dk_seg dksJ3_get_1 24 rfl rfl
theorem dJ3_get_0 : decode cJ3_get 0 = .ok (.iload_n 1, 1) := dk_27 (dk_at dksJ3_get_0 0 rfl rfl)
theorem dJ3_get_1 : decode cJ3_get 1 = .ok (.ifCond .ge 30, 3) := dk_156 0 30 (dk_at dksJ3_get_0 1 rfl rfl)
theorem dJ3_get_4 : decode cJ3_get 4 = .ok (.new 142, 3) := dk_187 0 142 (dk_at dksJ3_get_0 4 rfl rfl)
theorem dJ3_get_7 : decode cJ3_get 7 = .ok (.dup, 1) := dk_89 (dk_at dksJ3_get_0 7 rfl rfl)
theorem dJ3_get_8 : decode cJ3_get 8 = .ok (.new 33, 3) := dk_187 0 33 (dk_at dksJ3_get_0 8 rfl rfl)
theorem dJ3_get_11 : decode cJ3_get 11 = .ok (.dup, 1) := dk_89 (dk_at dksJ3_get_0 11 rfl rfl)
theorem dJ3_get_12 : decode cJ3_get 12 = .ok (.invokespecial 35, 3) := dk_183 0 35 (dk_at dksJ3_get_0 12 rfl rfl)
theorem dJ3_get_15 : decode cJ3_get 15 = .ok (.ldc 153, 2) := dk_18 153 (dk_at dksJ3_get_0 15 rfl rfl)
theorem dJ3_get_17 : decode cJ3_get 17 = .ok (.invokevirtual 38, 3) := dk_182 0 38 (dk_at dksJ3_get_0 17 rfl rfl)
theorem dJ3_get_20 : decode cJ3_get 20 = .ok (.iload_n 1, 1) := dk_27 (dk_at dksJ3_get_0 20 rfl rfl)
theorem dJ3_get_21 : decode cJ3_get 21 = .ok (.invokevirtual 42, 3) := dk_182 0 42 (dk_at dksJ3_get_0 21 rfl rfl)
theorem dJ3_get_24 : decode cJ3_get 24 = .ok (.invokevirtual 45, 3) := dk_182 0 45 (dk_at dksJ3_get_1 0 rfl rfl)
theorem dJ3_get_27 : decode cJ3_get 27 = .ok (.invokespecial 146, 3) := dk_183 0 146 (dk_at dksJ3_get_1 3 rfl rfl)
theorem dJ3_get_30 : decode cJ3_get 30 = .ok (.athrow, 1) := dk_191 (dk_at dksJ3_get_1 6 rfl rfl)
theorem dJ3_get_31 : decode cJ3_get 31 = .ok (.aload_n 0, 1) := dk_42 (dk_at dksJ3_get_1 7 rfl rfl)
theorem dJ3_get_32 : decode cJ3_get 32 = .ok (.invokevirtual 56, 3) := dk_182 0 56 (dk_at dksJ3_get_1 8 rfl rfl)
theorem dJ3_get_35 : decode cJ3_get 35 = .ok (.iload_n 1, 1) := dk_27 (dk_at dksJ3_get_1 11 rfl rfl)
theorem dJ3_get_36 : decode cJ3_get 36 = .ok (.invokestatic 52, 3) := dk_184 0 52 (dk_at dksJ3_get_1 12 rfl rfl)
theorem dJ3_get_39 : decode cJ3_get 39 = .ok (.istore_n 2, 1) := dk_61 (dk_at dksJ3_get_1 15 rfl rfl)
theorem dJ3_get_40 : decode cJ3_get 40 = .ok (.iload_n 2, 1) := dk_28 (dk_at dksJ3_get_1 16 rfl rfl)
theorem dJ3_get_41 : decode cJ3_get 41 = .ok (.aload_n 0, 1) := dk_42 (dk_at dksJ3_get_1 17 rfl rfl)
theorem dJ3_get_42 : decode cJ3_get 42 = .ok (.getfield 7, 3) := dk_180 0 7 (dk_at dksJ3_get_1 18 rfl rfl)
theorem dJ3_get_45 : decode cJ3_get 45 = .ok (.if_icmp .ge 22, 3) := dk_162 0 22 (dk_at dksJ3_get_1 21 rfl rfl)
theorem dJ3_get_48 : decode cJ3_get 48 = .ok (.aload_n 0, 1) := dk_42 (dk_at dksJ3_get_2 0 rfl rfl)
theorem dJ3_get_49 : decode cJ3_get 49 = .ok (.getfield 11, 3) := dk_180 0 11 (dk_at dksJ3_get_2 1 rfl rfl)
theorem dJ3_get_52 : decode cJ3_get 52 = .ok (.iload_n 2, 1) := dk_28 (dk_at dksJ3_get_2 4 rfl rfl)
theorem dJ3_get_53 : decode cJ3_get 53 = .ok (.laload, 1) := dk_47 (dk_at dksJ3_get_2 5 rfl rfl)
theorem dJ3_get_54 : decode cJ3_get 54 = .ok (.lconst 1, 1) := dk_10 (dk_at dksJ3_get_2 6 rfl rfl)
theorem dJ3_get_55 : decode cJ3_get 55 = .ok (.iload_n 1, 1) := dk_27 (dk_at dksJ3_get_2 7 rfl rfl)
theorem dJ3_get_56 : decode cJ3_get 56 = .ok (.lshl, 1) := dk_121 (dk_at dksJ3_get_2 8 rfl rfl)
theorem dJ3_get_57 : decode cJ3_get 57 = .ok (.land, 1) := dk_127 (dk_at dksJ3_get_2 9 rfl rfl)
theorem dJ3_get_58 : decode cJ3_get 58 = .ok (.lconst 0, 1) := dk_9 (dk_at dksJ3_get_2 10 rfl rfl)
theorem dJ3_get_59 : decode cJ3_get 59 = .ok (.lcmp, 1) := dk_148 (dk_at dksJ3_get_2 11 rfl rfl)
theorem dJ3_get_60 : decode cJ3_get 60 = .ok (.ifCond .eq 7, 3) := dk_153 0 7 (dk_at dksJ3_get_2 12 rfl rfl)
theorem dJ3_get_63 : decode cJ3_get 63 = .ok (.iconst 1, 1) := dk_4 (dk_at dksJ3_get_2 15 rfl rfl)
theorem dJ3_get_64 : decode cJ3_get 64 = .ok (.goto 4, 3) := dk_167 0 4 (dk_at dksJ3_get_2 16 rfl rfl)
theorem dJ3_get_67 : decode cJ3_get 67 = .ok (.iconst 0, 1) := dk_3 (dk_at dksJ3_get_2 19 rfl rfl)
theorem dJ3_get_68 : decode cJ3_get 68 = .ok (.ireturn, 1) := dk_172 (dk_at dksJ3_get_2 20 rfl rfl)
abbrev cJ3_set : ByteArray := prog_47_method_19_code
def yJ3_set : MethodName := ⟨RJ3, "set", "(I)V"⟩
def dkwJ3_set_2 : List UInt8 := [10, 27, 121, 129, 80, 42, 182, 0, 56, 177]
abbrev dktJ3_set_2 : List UInt8 := dkwJ3_set_2 ++ []
def dkwJ3_set_1 : List UInt8 := [182, 0, 45, 183, 0, 146, 191, 27, 184, 0, 52, 61, 42, 28, 182, 0, 155, 42, 180, 0, 11, 28, 92, 47]
abbrev dktJ3_set_1 : List UInt8 := dkwJ3_set_1 ++ dktJ3_set_2
def dkwJ3_set_0 : List UInt8 := [27, 156, 0, 30, 187, 0, 142, 89, 187, 0, 33, 89, 183, 0, 35, 18, 153, 182, 0, 38, 27, 182, 0, 42]
abbrev dktJ3_set_0 : List UInt8 := dkwJ3_set_0 ++ dktJ3_set_1
theorem dksJ3_set_0 : cJ3_set.data.toList.drop 0 = dktJ3_set_0 := by decide +kernel
theorem dksJ3_set_1 : cJ3_set.data.toList.drop 24 = dktJ3_set_1 := dk_seg dksJ3_set_0 24 rfl rfl
theorem dksJ3_set_2 : cJ3_set.data.toList.drop 48 = dktJ3_set_2 := dk_seg dksJ3_set_1 24 rfl rfl
theorem dJ3_set_0 : decode cJ3_set 0 = .ok (.iload_n 1, 1) := dk_27 (dk_at dksJ3_set_0 0 rfl rfl)
theorem dJ3_set_1 : decode cJ3_set 1 = .ok (.ifCond .ge 30, 3) := dk_156 0 30 (dk_at dksJ3_set_0 1 rfl rfl)
theorem dJ3_set_4 : decode cJ3_set 4 = .ok (.new 142, 3) := dk_187 0 142 (dk_at dksJ3_set_0 4 rfl rfl)
theorem dJ3_set_7 : decode cJ3_set 7 = .ok (.dup, 1) := dk_89 (dk_at dksJ3_set_0 7 rfl rfl)
theorem dJ3_set_8 : decode cJ3_set 8 = .ok (.new 33, 3) := dk_187 0 33 (dk_at dksJ3_set_0 8 rfl rfl)
theorem dJ3_set_11 : decode cJ3_set 11 = .ok (.dup, 1) := dk_89 (dk_at dksJ3_set_0 11 rfl rfl)
theorem dJ3_set_12 : decode cJ3_set 12 = .ok (.invokespecial 35, 3) := dk_183 0 35 (dk_at dksJ3_set_0 12 rfl rfl)
theorem dJ3_set_15 : decode cJ3_set 15 = .ok (.ldc 153, 2) := dk_18 153 (dk_at dksJ3_set_0 15 rfl rfl)
theorem dJ3_set_17 : decode cJ3_set 17 = .ok (.invokevirtual 38, 3) := dk_182 0 38 (dk_at dksJ3_set_0 17 rfl rfl)
theorem dJ3_set_20 : decode cJ3_set 20 = .ok (.iload_n 1, 1) := dk_27 (dk_at dksJ3_set_0 20 rfl rfl)
theorem dJ3_set_21 : decode cJ3_set 21 = .ok (.invokevirtual 42, 3) := dk_182 0 42 (dk_at dksJ3_set_0 21 rfl rfl)
theorem dJ3_set_24 : decode cJ3_set 24 = .ok (.invokevirtual 45, 3) := dk_182 0 45 (dk_at dksJ3_set_1 0 rfl rfl)
theorem dJ3_set_27 : decode cJ3_set 27 = .ok (.invokespecial 146, 3) := dk_183 0 146 (dk_at dksJ3_set_1 3 rfl rfl)
theorem dJ3_set_30 : decode cJ3_set 30 = .ok (.athrow, 1) := dk_191 (dk_at dksJ3_set_1 6 rfl rfl)
theorem dJ3_set_31 : decode cJ3_set 31 = .ok (.iload_n 1, 1) := dk_27 (dk_at dksJ3_set_1 7 rfl rfl)
theorem dJ3_set_32 : decode cJ3_set 32 = .ok (.invokestatic 52, 3) := dk_184 0 52 (dk_at dksJ3_set_1 8 rfl rfl)
theorem dJ3_set_35 : decode cJ3_set 35 = .ok (.istore_n 2, 1) := dk_61 (dk_at dksJ3_set_1 11 rfl rfl)
theorem dJ3_set_36 : decode cJ3_set 36 = .ok (.aload_n 0, 1) := dk_42 (dk_at dksJ3_set_1 12 rfl rfl)
theorem dJ3_set_37 : decode cJ3_set 37 = .ok (.iload_n 2, 1) := dk_28 (dk_at dksJ3_set_1 13 rfl rfl)
theorem dJ3_set_38 : decode cJ3_set 38 = .ok (.invokevirtual 155, 3) := dk_182 0 155 (dk_at dksJ3_set_1 14 rfl rfl)
theorem dJ3_set_41 : decode cJ3_set 41 = .ok (.aload_n 0, 1) := dk_42 (dk_at dksJ3_set_1 17 rfl rfl)
theorem dJ3_set_42 : decode cJ3_set 42 = .ok (.getfield 11, 3) := dk_180 0 11 (dk_at dksJ3_set_1 18 rfl rfl)
theorem dJ3_set_45 : decode cJ3_set 45 = .ok (.iload_n 2, 1) := dk_28 (dk_at dksJ3_set_1 21 rfl rfl)
theorem dJ3_set_46 : decode cJ3_set 46 = .ok (.dup2, 1) := dk_92 (dk_at dksJ3_set_1 22 rfl rfl)
theorem dJ3_set_47 : decode cJ3_set 47 = .ok (.laload, 1) := dk_47 (dk_at dksJ3_set_1 23 rfl rfl)
theorem dJ3_set_48 : decode cJ3_set 48 = .ok (.lconst 1, 1) := dk_10 (dk_at dksJ3_set_2 0 rfl rfl)
theorem dJ3_set_49 : decode cJ3_set 49 = .ok (.iload_n 1, 1) := dk_27 (dk_at dksJ3_set_2 1 rfl rfl)
theorem dJ3_set_50 : decode cJ3_set 50 = .ok (.lshl, 1) := dk_121 (dk_at dksJ3_set_2 2 rfl rfl)
theorem dJ3_set_51 : decode cJ3_set 51 = .ok (.lor, 1) := dk_129 (dk_at dksJ3_set_2 3 rfl rfl)
theorem dJ3_set_52 : decode cJ3_set 52 = .ok (.lastore, 1) := dk_80 (dk_at dksJ3_set_2 4 rfl rfl)
theorem dJ3_set_53 : decode cJ3_set 53 = .ok (.aload_n 0, 1) := dk_42 (dk_at dksJ3_set_2 5 rfl rfl)
theorem dJ3_set_54 : decode cJ3_set 54 = .ok (.invokevirtual 56, 3) := dk_182 0 56 (dk_at dksJ3_set_2 6 rfl rfl)
theorem dJ3_set_57 : decode cJ3_set 57 = .ok (.return_, 1) := dk_177 (dk_at dksJ3_set_2 9 rfl rfl)
abbrev cJ3_expandTo : ByteArray := prog_47_method_15_code
def yJ3_expandTo : MethodName := ⟨RJ3, "expandTo", "(I)V"⟩
def dkwJ3_expandTo_0 : List UInt8 := [27, 4, 96, 61, 42, 180, 0, 7, 28, 162, 0, 13, 42, 28, 182, 0, 139, 42, 28, 181, 0, 7, 177]
abbrev dktJ3_expandTo_0 : List UInt8 := dkwJ3_expandTo_0 ++ []
theorem dksJ3_expandTo_0 : cJ3_expandTo.data.toList.drop 0 = dktJ3_expandTo_0 := by decide +kernel
theorem dJ3_expandTo_0 : decode cJ3_expandTo 0 = .ok (.iload_n 1, 1) := dk_27 (dk_at dksJ3_expandTo_0 0 rfl rfl)
theorem dJ3_expandTo_1 : decode cJ3_expandTo 1 = .ok (.iconst 1, 1) := dk_4 (dk_at dksJ3_expandTo_0 1 rfl rfl)
theorem dJ3_expandTo_2 : decode cJ3_expandTo 2 = .ok (.iadd, 1) := dk_96 (dk_at dksJ3_expandTo_0 2 rfl rfl)
theorem dJ3_expandTo_3 : decode cJ3_expandTo 3 = .ok (.istore_n 2, 1) := dk_61 (dk_at dksJ3_expandTo_0 3 rfl rfl)
theorem dJ3_expandTo_4 : decode cJ3_expandTo 4 = .ok (.aload_n 0, 1) := dk_42 (dk_at dksJ3_expandTo_0 4 rfl rfl)
theorem dJ3_expandTo_5 : decode cJ3_expandTo 5 = .ok (.getfield 7, 3) := dk_180 0 7 (dk_at dksJ3_expandTo_0 5 rfl rfl)
theorem dJ3_expandTo_8 : decode cJ3_expandTo 8 = .ok (.iload_n 2, 1) := dk_28 (dk_at dksJ3_expandTo_0 8 rfl rfl)
theorem dJ3_expandTo_9 : decode cJ3_expandTo 9 = .ok (.if_icmp .ge 13, 3) := dk_162 0 13 (dk_at dksJ3_expandTo_0 9 rfl rfl)
theorem dJ3_expandTo_12 : decode cJ3_expandTo 12 = .ok (.aload_n 0, 1) := dk_42 (dk_at dksJ3_expandTo_0 12 rfl rfl)
theorem dJ3_expandTo_13 : decode cJ3_expandTo 13 = .ok (.iload_n 2, 1) := dk_28 (dk_at dksJ3_expandTo_0 13 rfl rfl)
theorem dJ3_expandTo_14 : decode cJ3_expandTo 14 = .ok (.invokevirtual 139, 3) := dk_182 0 139 (dk_at dksJ3_expandTo_0 14 rfl rfl)
theorem dJ3_expandTo_17 : decode cJ3_expandTo 17 = .ok (.aload_n 0, 1) := dk_42 (dk_at dksJ3_expandTo_0 17 rfl rfl)
theorem dJ3_expandTo_18 : decode cJ3_expandTo 18 = .ok (.iload_n 2, 1) := dk_28 (dk_at dksJ3_expandTo_0 18 rfl rfl)
theorem dJ3_expandTo_19 : decode cJ3_expandTo 19 = .ok (.putfield 7, 3) := dk_181 0 7 (dk_at dksJ3_expandTo_0 19 rfl rfl)
theorem dJ3_expandTo_22 : decode cJ3_expandTo 22 = .ok (.return_, 1) := dk_177 (dk_at dksJ3_expandTo_0 22 rfl rfl)
abbrev cJ3_clear : ByteArray := prog_47_method_25_code
def yJ3_clear : MethodName := ⟨RJ3, "clear", "()V"⟩
def dkwJ3_clear_1 : List UInt8 := [167, 255, 232, 177]
abbrev dktJ3_clear_1 : List UInt8 := dkwJ3_clear_1 ++ []
def dkwJ3_clear_0 : List UInt8 := [42, 180, 0, 7, 158, 0, 23, 42, 180, 0, 11, 42, 89, 180, 0, 7, 4, 100, 90, 181, 0, 7, 9, 80]
abbrev dktJ3_clear_0 : List UInt8 := dkwJ3_clear_0 ++ dktJ3_clear_1
theorem dksJ3_clear_0 : cJ3_clear.data.toList.drop 0 = dktJ3_clear_0 := by decide +kernel
theorem dksJ3_clear_1 : cJ3_clear.data.toList.drop 24 = dktJ3_clear_1 := dk_seg dksJ3_clear_0 24 rfl rfl
theorem dJ3_clear_0 : decode cJ3_clear 0 = .ok (.aload_n 0, 1) := dk_42 (dk_at dksJ3_clear_0 0 rfl rfl)
theorem dJ3_clear_1 : decode cJ3_clear 1 = .ok (.getfield 7, 3) := dk_180 0 7 (dk_at dksJ3_clear_0 1 rfl rfl)
theorem dJ3_clear_4 : decode cJ3_clear 4 = .ok (.ifCond .le 23, 3) := dk_158 0 23 (dk_at dksJ3_clear_0 4 rfl rfl)
theorem dJ3_clear_7 : decode cJ3_clear 7 = .ok (.aload_n 0, 1) := dk_42 (dk_at dksJ3_clear_0 7 rfl rfl)
theorem dJ3_clear_8 : decode cJ3_clear 8 = .ok (.getfield 11, 3) := dk_180 0 11 (dk_at dksJ3_clear_0 8 rfl rfl)
theorem dJ3_clear_11 : decode cJ3_clear 11 = .ok (.aload_n 0, 1) := dk_42 (dk_at dksJ3_clear_0 11 rfl rfl)
theorem dJ3_clear_12 : decode cJ3_clear 12 = .ok (.dup, 1) := dk_89 (dk_at dksJ3_clear_0 12 rfl rfl)
theorem dJ3_clear_13 : decode cJ3_clear 13 = .ok (.getfield 7, 3) := dk_180 0 7 (dk_at dksJ3_clear_0 13 rfl rfl)
theorem dJ3_clear_16 : decode cJ3_clear 16 = .ok (.iconst 1, 1) := dk_4 (dk_at dksJ3_clear_0 16 rfl rfl)
theorem dJ3_clear_17 : decode cJ3_clear 17 = .ok (.isub, 1) := dk_100 (dk_at dksJ3_clear_0 17 rfl rfl)
theorem dJ3_clear_18 : decode cJ3_clear 18 = .ok (.dup_x1, 1) := dk_90 (dk_at dksJ3_clear_0 18 rfl rfl)
theorem dJ3_clear_19 : decode cJ3_clear 19 = .ok (.putfield 7, 3) := dk_181 0 7 (dk_at dksJ3_clear_0 19 rfl rfl)
theorem dJ3_clear_22 : decode cJ3_clear 22 = .ok (.lconst 0, 1) := dk_9 (dk_at dksJ3_clear_0 22 rfl rfl)
theorem dJ3_clear_23 : decode cJ3_clear 23 = .ok (.lastore, 1) := dk_80 (dk_at dksJ3_clear_0 23 rfl rfl)
theorem dJ3_clear_24 : decode cJ3_clear 24 = .ok (.goto (-24), 3) := dk_167 255 232 (dk_at dksJ3_clear_1 0 rfl rfl)
theorem dJ3_clear_27 : decode cJ3_clear 27 = .ok (.return_, 1) := dk_177 (dk_at dksJ3_clear_1 3 rfl rfl)
abbrev cJ3_cardinality : ByteArray := prog_47_method_35_code
def yJ3_cardinality : MethodName := ⟨RJ3, "cardinality", "()I"⟩
def dkwJ3_cardinality_1 : List UInt8 := [132, 2, 1, 167, 255, 233, 27, 172]
abbrev dktJ3_cardinality_1 : List UInt8 := dkwJ3_cardinality_1 ++ []
def dkwJ3_cardinality_0 : List UInt8 := [3, 60, 3, 61, 28, 42, 180, 0, 7, 162, 0, 21, 27, 42, 180, 0, 11, 28, 47, 184, 0, 196, 96, 60]
abbrev dktJ3_cardinality_0 : List UInt8 := dkwJ3_cardinality_0 ++ dktJ3_cardinality_1
theorem dksJ3_cardinality_0 : cJ3_cardinality.data.toList.drop 0 = dktJ3_cardinality_0 := by decide +kernel
theorem dksJ3_cardinality_1 : cJ3_cardinality.data.toList.drop 24 = dktJ3_cardinality_1 := dk_seg dksJ3_cardinality_0 24 rfl rfl
theorem dJ3_cardinality_0 : decode cJ3_cardinality 0 = .ok (.iconst 0, 1) := dk_3 (dk_at dksJ3_cardinality_0 0 rfl rfl)
theorem dJ3_cardinality_1 : decode cJ3_cardinality 1 = .ok (.istore_n 1, 1) := dk_60 (dk_at dksJ3_cardinality_0 1 rfl rfl)
theorem dJ3_cardinality_2 : decode cJ3_cardinality 2 = .ok (.iconst 0, 1) := dk_3 (dk_at dksJ3_cardinality_0 2 rfl rfl)
theorem dJ3_cardinality_3 : decode cJ3_cardinality 3 = .ok (.istore_n 2, 1) := dk_61 (dk_at dksJ3_cardinality_0 3 rfl rfl)
theorem dJ3_cardinality_4 : decode cJ3_cardinality 4 = .ok (.iload_n 2, 1) := dk_28 (dk_at dksJ3_cardinality_0 4 rfl rfl)
theorem dJ3_cardinality_5 : decode cJ3_cardinality 5 = .ok (.aload_n 0, 1) := dk_42 (dk_at dksJ3_cardinality_0 5 rfl rfl)
theorem dJ3_cardinality_6 : decode cJ3_cardinality 6 = .ok (.getfield 7, 3) := dk_180 0 7 (dk_at dksJ3_cardinality_0 6 rfl rfl)
theorem dJ3_cardinality_9 : decode cJ3_cardinality 9 = .ok (.if_icmp .ge 21, 3) := dk_162 0 21 (dk_at dksJ3_cardinality_0 9 rfl rfl)
theorem dJ3_cardinality_12 : decode cJ3_cardinality 12 = .ok (.iload_n 1, 1) := dk_27 (dk_at dksJ3_cardinality_0 12 rfl rfl)
theorem dJ3_cardinality_13 : decode cJ3_cardinality 13 = .ok (.aload_n 0, 1) := dk_42 (dk_at dksJ3_cardinality_0 13 rfl rfl)
theorem dJ3_cardinality_14 : decode cJ3_cardinality 14 = .ok (.getfield 11, 3) := dk_180 0 11 (dk_at dksJ3_cardinality_0 14 rfl rfl)
theorem dJ3_cardinality_17 : decode cJ3_cardinality 17 = .ok (.iload_n 2, 1) := dk_28 (dk_at dksJ3_cardinality_0 17 rfl rfl)
theorem dJ3_cardinality_18 : decode cJ3_cardinality 18 = .ok (.laload, 1) := dk_47 (dk_at dksJ3_cardinality_0 18 rfl rfl)
theorem dJ3_cardinality_19 : decode cJ3_cardinality 19 = .ok (.invokestatic 196, 3) := dk_184 0 196 (dk_at dksJ3_cardinality_0 19 rfl rfl)
theorem dJ3_cardinality_22 : decode cJ3_cardinality 22 = .ok (.iadd, 1) := dk_96 (dk_at dksJ3_cardinality_0 22 rfl rfl)
theorem dJ3_cardinality_23 : decode cJ3_cardinality 23 = .ok (.istore_n 1, 1) := dk_60 (dk_at dksJ3_cardinality_0 23 rfl rfl)
theorem dJ3_cardinality_24 : decode cJ3_cardinality 24 = .ok (.iinc 2 1, 3) := dk_132 2 1 (dk_at dksJ3_cardinality_1 0 rfl rfl)
theorem dJ3_cardinality_27 : decode cJ3_cardinality 27 = .ok (.goto (-23), 3) := dk_167 255 233 (dk_at dksJ3_cardinality_1 3 rfl rfl)
theorem dJ3_cardinality_30 : decode cJ3_cardinality 30 = .ok (.iload_n 1, 1) := dk_27 (dk_at dksJ3_cardinality_1 6 rfl rfl)
theorem dJ3_cardinality_31 : decode cJ3_cardinality 31 = .ok (.ireturn, 1) := dk_172 (dk_at dksJ3_cardinality_1 7 rfl rfl)
theorem q96 : (Jvm.Cond.initialized "java/util/BitSet") ∈ lw_all := lw_g (lw_at lw_m1 6 rfl) rfl
theorem q184 : (Jvm.Cond.instantiable "java/util/BitSet" (3 : Nat)) ∈ lw_all := lw_g (lw_at lw_m1 94 rfl) rfl
theorem q186 : (Jvm.Cond.instanceMethod ({ cls := "java/util/BitSet", name := "<init>", desc := "()V" } : Jvm.MethodName)) ∈ lw_all := lw_g (lw_at lw_m1 96 rfl) rfl
theorem q187 : (Jvm.Cond.code ({ cls := "java/util/BitSet", name := "<init>", desc := "()V" } : Jvm.MethodName) prog_47_method_4_code (1 : Nat) (Option.none : Option Jvm.ClassFile.FieldType)) ∈ lw_all := lw_g (lw_at lw_m1 97 rfl) rfl
theorem q188 : (Jvm.Cond.methodLink "java/util/BitSet" (21 : Nat) ({ cls := "java/lang/Object", name := "<init>", desc := "()V" } : Jvm.MethodName)) ∈ lw_all := lw_g (lw_at lw_m1 98 rfl) rfl
theorem q189 : (Jvm.Cond.methodLink "java/util/BitSet" (27 : Nat) ({ cls := "java/util/BitSet", name := "initWords", desc := "(I)V" } : Jvm.MethodName)) ∈ lw_all := lw_g (lw_at lw_m1 99 rfl) rfl
theorem q190 : (Jvm.Cond.privateMethod ({ cls := "java/util/BitSet", name := "initWords", desc := "(I)V" } : Jvm.MethodName)) ∈ lw_tbl := lw_at lw_m1 100 rfl
theorem q191 : (Jvm.Cond.instanceMethod ({ cls := "java/util/BitSet", name := "initWords", desc := "(I)V" } : Jvm.MethodName)) ∈ lw_all := lw_g (lw_at lw_m1 101 rfl) rfl
theorem q192 : (Jvm.Cond.code ({ cls := "java/util/BitSet", name := "initWords", desc := "(I)V" } : Jvm.MethodName) prog_47_method_6_code (2 : Nat) (Option.none : Option Jvm.ClassFile.FieldType)) ∈ lw_all := lw_g (lw_at lw_m1 102 rfl) rfl
theorem q193 : (Jvm.Cond.methodLink "java/util/BitSet" (52 : Nat) ({ cls := "java/util/BitSet", name := "wordIndex", desc := "(I)I" } : Jvm.MethodName)) ∈ lw_all := lw_g (lw_at lw_m1 103 rfl) rfl
theorem q194 : (Jvm.Cond.static ({ cls := "java/util/BitSet", name := "wordIndex", desc := "(I)I" } : Jvm.MethodName)) ∈ lw_all := lw_g (lw_at lw_m1 104 rfl) rfl
theorem q195 : (Jvm.Cond.code ({ cls := "java/util/BitSet", name := "wordIndex", desc := "(I)I" } : Jvm.MethodName) prog_47_method_1_code (1 : Nat) (Option.some Jvm.ClassFile.FieldType.int)) ∈ lw_all := lw_g (lw_at lw_m1 105 rfl) rfl
theorem q196 : (Jvm.Cond.fieldLink "java/util/BitSet" (11 : Nat) "java/util/BitSet" "words" "[J") ∈ lw_all := lw_g (lw_at lw_m1 106 rfl) rfl
theorem q197 : (Jvm.Cond.fieldLink "java/util/BitSet" (7 : Nat) "java/util/BitSet" "wordsInUse" "I") ∈ lw_all := lw_g (lw_at lw_m1 107 rfl) rfl
theorem q198 : (Jvm.Cond.fieldLink "java/util/BitSet" (24 : Nat) "java/util/BitSet" "sizeIsSticky" "Z") ∈ lw_all := lw_g (lw_at lw_m1 108 rfl) rfl
theorem q199 : (Jvm.Cond.lays "java/util/BitSet" "java/util/BitSet" "words" "[J") ∈ lw_all := lw_g (lw_at lw_m1 109 rfl) rfl
theorem q200 : (Jvm.Cond.soleField "java/util/BitSet" "words") ∈ lw_all := lw_g (lw_at lw_m1 110 rfl) rfl
theorem q201 : (Jvm.Cond.lays "java/util/BitSet" "java/util/BitSet" "wordsInUse" "I") ∈ lw_all := lw_g (lw_at lw_m1 111 rfl) rfl
theorem q202 : (Jvm.Cond.soleField "java/util/BitSet" "wordsInUse") ∈ lw_all := lw_g (lw_at lw_m1 112 rfl) rfl
theorem q203 : (Jvm.Cond.lays "java/util/BitSet" "java/util/BitSet" "sizeIsSticky" "Z") ∈ lw_all := lw_g (lw_at lw_m1 113 rfl) rfl
theorem q204 : (Jvm.Cond.soleField "java/util/BitSet" "sizeIsSticky") ∈ lw_all := lw_g (lw_at lw_m1 114 rfl) rfl
theorem q205 : (Jvm.Cond.superclass "java/util/BitSet" "java/lang/Object") ∈ lw_all := lw_g (lw_at lw_m1 115 rfl) rfl
theorem q856 : (Jvm.Cond.selects "java/util/BitSet" ({ cls := "java/lang/Object", name := "getClass", desc := "()Ljava/lang/Class;" } : Jvm.MethodName) ({ cls := "java/lang/Object", name := "getClass", desc := "()Ljava/lang/Class;" } : Jvm.MethodName)) ∈ lw_all := lw_g (lw_at lw_m4 46 rfl) rfl
theorem q994 : (Jvm.Cond.instanceMethod ({ cls := "java/util/BitSet", name := "or", desc := "(Ljava/util/BitSet;)V" } : Jvm.MethodName)) ∈ lw_all := lw_g (lw_at lw_m4 184 rfl) rfl
theorem q995 : (Jvm.Cond.selects "java/util/BitSet" ({ cls := "java/util/BitSet", name := "or", desc := "(Ljava/util/BitSet;)V" } : Jvm.MethodName) ({ cls := "java/util/BitSet", name := "or", desc := "(Ljava/util/BitSet;)V" } : Jvm.MethodName)) ∈ lw_all := lw_g (lw_at lw_m4 185 rfl) rfl
theorem q996 : (Jvm.Cond.code ({ cls := "java/util/BitSet", name := "or", desc := "(Ljava/util/BitSet;)V" } : Jvm.MethodName) prog_47_method_37_code (4 : Nat) (Option.none : Option Jvm.ClassFile.FieldType)) ∈ lw_all := lw_g (lw_at lw_m4 186 rfl) rfl
theorem q997 : (Jvm.Cond.methodLink "java/util/BitSet" (193 : Nat) ({ cls := "java/lang/Math", name := "min", desc := "(II)I" } : Jvm.MethodName)) ∈ lw_all := lw_g (lw_at lw_m4 187 rfl) rfl
theorem q998 : (Jvm.Cond.methodLink "java/util/BitSet" (139 : Nat) ({ cls := "java/util/BitSet", name := "ensureCapacity", desc := "(I)V" } : Jvm.MethodName)) ∈ lw_all := lw_g (lw_at lw_m4 188 rfl) rfl
theorem q999 : (Jvm.Cond.privateMethod ({ cls := "java/util/BitSet", name := "ensureCapacity", desc := "(I)V" } : Jvm.MethodName)) ∈ lw_tbl := lw_at lw_m4 189 rfl
theorem q1000 : (Jvm.Cond.instanceMethod ({ cls := "java/util/BitSet", name := "ensureCapacity", desc := "(I)V" } : Jvm.MethodName)) ∈ lw_all := lw_g (lw_at lw_m4 190 rfl) rfl
theorem q1001 : (Jvm.Cond.code ({ cls := "java/util/BitSet", name := "ensureCapacity", desc := "(I)V" } : Jvm.MethodName) prog_47_method_14_code (3 : Nat) (Option.none : Option Jvm.ClassFile.FieldType)) ∈ lw_all := lw_g (lw_at lw_m4 191 rfl) rfl
theorem q1002 : (Jvm.Cond.methodLink "java/util/BitSet" (133 : Nat) ({ cls := "java/lang/Math", name := "max", desc := "(II)I" } : Jvm.MethodName)) ∈ lw_all := lw_g (lw_at lw_m4 192 rfl) rfl
theorem q1003 : (Jvm.Cond.methodLink "java/util/BitSet" (59 : Nat) ({ cls := "java/util/Arrays", name := "copyOf", desc := "([JI)[J" } : Jvm.MethodName)) ∈ lw_all := lw_g (lw_at lw_m4 193 rfl) rfl
theorem q1011 : (Jvm.Cond.methodLink "java/util/BitSet" (199 : Nat) ({ cls := "java/lang/System", name := "arraycopy", desc := "(Ljava/lang/Object;ILjava/lang/Object;II)V" } : Jvm.MethodName)) ∈ lw_all := lw_g (lw_at lw_m4 201 rfl) rfl
theorem q1012 : (Jvm.Cond.methodLink "java/util/BitSet" (56 : Nat) ({ cls := "java/util/BitSet", name := "checkInvariants", desc := "()V" } : Jvm.MethodName)) ∈ lw_all := lw_g (lw_at lw_m4 202 rfl) rfl
theorem q1013 : (Jvm.Cond.privateMethod ({ cls := "java/util/BitSet", name := "checkInvariants", desc := "()V" } : Jvm.MethodName)) ∈ lw_tbl := lw_at lw_m4 203 rfl
theorem q1014 : (Jvm.Cond.instanceMethod ({ cls := "java/util/BitSet", name := "checkInvariants", desc := "()V" } : Jvm.MethodName)) ∈ lw_all := lw_g (lw_at lw_m4 204 rfl) rfl
theorem q1015 : (Jvm.Cond.code ({ cls := "java/util/BitSet", name := "checkInvariants", desc := "()V" } : Jvm.MethodName) prog_47_method_2_code (1 : Nat) (Option.none : Option Jvm.ClassFile.FieldType)) ∈ lw_all := lw_g (lw_at lw_m4 205 rfl) rfl
theorem q1016 : (Jvm.Cond.fieldLink "java/util/BitSet" (3 : Nat) "java/util/BitSet" "$assertionsDisabled" "Z") ∈ lw_all := lw_g (lw_at lw_m4 206 rfl) rfl
theorem q1017 : (Jvm.Cond.laysStatic "java/util/BitSet" "$assertionsDisabled" "Z") ∈ lw_tbl := lw_at lw_m4 207 rfl
theorem q1076 : (Jvm.Cond.instanceMethod ({ cls := "java/util/BitSet", name := "get", desc := "(I)Z" } : Jvm.MethodName)) ∈ lw_all := lw_g (lw_at lw_m5 26 rfl) rfl
theorem q1077 : (Jvm.Cond.selects "java/util/BitSet" ({ cls := "java/util/BitSet", name := "get", desc := "(I)Z" } : Jvm.MethodName) ({ cls := "java/util/BitSet", name := "get", desc := "(I)Z" } : Jvm.MethodName)) ∈ lw_all := lw_g (lw_at lw_m5 27 rfl) rfl
theorem q1078 : (Jvm.Cond.code ({ cls := "java/util/BitSet", name := "get", desc := "(I)Z" } : Jvm.MethodName) prog_47_method_26_code (3 : Nat) (Option.some Jvm.ClassFile.FieldType.boolean)) ∈ lw_all := lw_g (lw_at lw_m5 28 rfl) rfl
theorem q1079 : (Jvm.Cond.classLink "java/util/BitSet" (142 : Nat) "java/lang/IndexOutOfBoundsException") ∈ lw_all := lw_g (lw_at lw_m5 29 rfl) rfl
theorem q1080 : (Jvm.Cond.classLink "java/util/BitSet" (33 : Nat) "java/lang/StringBuilder") ∈ lw_all := lw_g (lw_at lw_m5 30 rfl) rfl
theorem q1081 : (Jvm.Cond.methodLink "java/util/BitSet" (35 : Nat) ({ cls := "java/lang/StringBuilder", name := "<init>", desc := "()V" } : Jvm.MethodName)) ∈ lw_all := lw_g (lw_at lw_m5 31 rfl) rfl
theorem q1082 : (Jvm.Cond.stringRef "java/util/BitSet" (153 : Nat) "bitIndex < 0: ") ∈ lw_tbl := lw_at lw_m5 32 rfl
theorem q1083 : (Jvm.Cond.methodLink "java/util/BitSet" (38 : Nat) ({ cls := "java/lang/StringBuilder", name := "append", desc := "(Ljava/lang/String;)Ljava/lang/StringBuilder;" } : Jvm.MethodName)) ∈ lw_all := lw_g (lw_at lw_m5 33 rfl) rfl
theorem q1084 : (Jvm.Cond.methodLink "java/util/BitSet" (42 : Nat) ({ cls := "java/lang/StringBuilder", name := "append", desc := "(I)Ljava/lang/StringBuilder;" } : Jvm.MethodName)) ∈ lw_all := lw_g (lw_at lw_m5 34 rfl) rfl
theorem q1085 : (Jvm.Cond.methodLink "java/util/BitSet" (45 : Nat) ({ cls := "java/lang/StringBuilder", name := "toString", desc := "()Ljava/lang/String;" } : Jvm.MethodName)) ∈ lw_all := lw_g (lw_at lw_m5 35 rfl) rfl
theorem q1086 : (Jvm.Cond.methodLink "java/util/BitSet" (146 : Nat) ({ cls := "java/lang/IndexOutOfBoundsException", name := "<init>", desc := "(Ljava/lang/String;)V" } : Jvm.MethodName)) ∈ lw_all := lw_g (lw_at lw_m5 36 rfl) rfl
theorem q1088 : (Jvm.Cond.instanceMethod ({ cls := "java/util/BitSet", name := "set", desc := "(I)V" } : Jvm.MethodName)) ∈ lw_all := lw_g (lw_at lw_m5 38 rfl) rfl
theorem q1089 : (Jvm.Cond.selects "java/util/BitSet" ({ cls := "java/util/BitSet", name := "set", desc := "(I)V" } : Jvm.MethodName) ({ cls := "java/util/BitSet", name := "set", desc := "(I)V" } : Jvm.MethodName)) ∈ lw_all := lw_g (lw_at lw_m5 39 rfl) rfl
theorem q1090 : (Jvm.Cond.code ({ cls := "java/util/BitSet", name := "set", desc := "(I)V" } : Jvm.MethodName) prog_47_method_19_code (3 : Nat) (Option.none : Option Jvm.ClassFile.FieldType)) ∈ lw_all := lw_g (lw_at lw_m5 40 rfl) rfl
theorem q1091 : (Jvm.Cond.methodLink "java/util/BitSet" (155 : Nat) ({ cls := "java/util/BitSet", name := "expandTo", desc := "(I)V" } : Jvm.MethodName)) ∈ lw_all := lw_g (lw_at lw_m5 41 rfl) rfl
theorem q1092 : (Jvm.Cond.privateMethod ({ cls := "java/util/BitSet", name := "expandTo", desc := "(I)V" } : Jvm.MethodName)) ∈ lw_tbl := lw_at lw_m5 42 rfl
theorem q1093 : (Jvm.Cond.instanceMethod ({ cls := "java/util/BitSet", name := "expandTo", desc := "(I)V" } : Jvm.MethodName)) ∈ lw_all := lw_g (lw_at lw_m5 43 rfl) rfl
theorem q1094 : (Jvm.Cond.code ({ cls := "java/util/BitSet", name := "expandTo", desc := "(I)V" } : Jvm.MethodName) prog_47_method_15_code (3 : Nat) (Option.none : Option Jvm.ClassFile.FieldType)) ∈ lw_all := lw_g (lw_at lw_m5 44 rfl) rfl
theorem q1224 : (Jvm.Cond.instanceMethod ({ cls := "java/util/BitSet", name := "clear", desc := "()V" } : Jvm.MethodName)) ∈ lw_all := lw_g (lw_at lw_m5 174 rfl) rfl
theorem q1225 : (Jvm.Cond.selects "java/util/BitSet" ({ cls := "java/util/BitSet", name := "clear", desc := "()V" } : Jvm.MethodName) ({ cls := "java/util/BitSet", name := "clear", desc := "()V" } : Jvm.MethodName)) ∈ lw_all := lw_g (lw_at lw_m5 175 rfl) rfl
theorem q1226 : (Jvm.Cond.code ({ cls := "java/util/BitSet", name := "clear", desc := "()V" } : Jvm.MethodName) prog_47_method_25_code (1 : Nat) (Option.none : Option Jvm.ClassFile.FieldType)) ∈ lw_all := lw_g (lw_at lw_m5 176 rfl) rfl
theorem q1422 : (Jvm.Cond.instanceMethod ({ cls := "java/util/BitSet", name := "cardinality", desc := "()I" } : Jvm.MethodName)) ∈ lw_all := lw_g (lw_at lw_m6 132 rfl) rfl
theorem q1423 : (Jvm.Cond.selects "java/util/BitSet" ({ cls := "java/util/BitSet", name := "cardinality", desc := "()I" } : Jvm.MethodName) ({ cls := "java/util/BitSet", name := "cardinality", desc := "()I" } : Jvm.MethodName)) ∈ lw_all := lw_g (lw_at lw_m6 133 rfl) rfl
theorem q1424 : (Jvm.Cond.code ({ cls := "java/util/BitSet", name := "cardinality", desc := "()I" } : Jvm.MethodName) prog_47_method_35_code (3 : Nat) (Option.some Jvm.ClassFile.FieldType.int)) ∈ lw_all := lw_g (lw_at lw_m6 134 rfl) rfl
theorem q1425 : (Jvm.Cond.methodLink "java/util/BitSet" (196 : Nat) ({ cls := "java/lang/Long", name := "bitCount", desc := "(J)I" } : Jvm.MethodName)) ∈ lw_all := lw_g (lw_at lw_m6 135 rfl) rfl
theorem q2545 : (Jvm.Cond.castable "java/util/BitSet" "java/lang/Object") ∈ lw_tbl := lw_at lw_m11 55 rfl
theorem in_J3 : ∀ w ∈ wsJ30, w ∈ lw_all := lw_in wsJ30 [199, 201, 203] (by decide +kernel) (by decide +kernel)
/-! java/util/ArrayDeque -/
set_option maxRecDepth 100000
def RJ4 : String := "java/util/ArrayDeque"
def TJ4 : u_T := fun k => match k with
  | 0 => ("java/util/ArrayDeque", "elements", "[Ljava/lang/Object;", false)
  | 1 => ("java/util/ArrayDeque", "head", "I", false)
  | _ => ("java/util/ArrayDeque", "tail", "I", false)
def tyJ4 : Nat → FieldType := fun k => match k with
  | 0 => .array (.object "java/lang/Object")
  | 1 => .int
  | _ => .int
abbrev wsJ40 : List Cond := u_ws RJ4 TJ4 3
theorem nmJ4 : ∀ a, a < 3 → ∀ b, b < 3 → a ≠ b → (TJ4 a).2.1 ≠ (TJ4 b).2.1 := by decide +kernel
theorem tyJ4_ok : ∀ k, k < 3 → parseFieldDescriptor (TJ4 k).2.2.1 = some (tyJ4 k) := by decide +kernel
abbrev cJ4_init : ByteArray := prog_44_method_3_code
def yJ4_init : MethodName := ⟨RJ4, "<init>", "()V"⟩
def dkwJ4_init_0 : List UInt8 := [42, 183, 0, 42, 42, 16, 17, 189, 0, 47, 181, 0, 3, 177]
abbrev dktJ4_init_0 : List UInt8 := dkwJ4_init_0 ++ []
theorem dksJ4_init_0 : cJ4_init.data.toList.drop 0 = dktJ4_init_0 := by decide +kernel
theorem dJ4_init_0 : decode cJ4_init 0 = .ok (.aload_n 0, 1) := dk_42 (dk_at dksJ4_init_0 0 rfl rfl)
theorem dJ4_init_1 : decode cJ4_init 1 = .ok (.invokespecial 42, 3) := dk_183 0 42 (dk_at dksJ4_init_0 1 rfl rfl)
theorem dJ4_init_4 : decode cJ4_init 4 = .ok (.aload_n 0, 1) := dk_42 (dk_at dksJ4_init_0 4 rfl rfl)
theorem dJ4_init_5 : decode cJ4_init 5 = .ok (.bipush 17, 2) := dk_16 17 (dk_at dksJ4_init_0 5 rfl rfl)
theorem dJ4_init_7 : decode cJ4_init 7 = .ok (.anewarray 47, 3) := dk_189 0 47 (dk_at dksJ4_init_0 7 rfl rfl)
theorem dJ4_init_10 : decode cJ4_init 10 = .ok (.putfield 3, 3) := dk_181 0 3 (dk_at dksJ4_init_0 10 rfl rfl)
theorem dJ4_init_13 : decode cJ4_init 13 = .ok (.return_, 1) := dk_177 (dk_at dksJ4_init_0 13 rfl rfl)
abbrev cJ4_size : ByteArray := prog_44_method_37_code
def yJ4_size : MethodName := ⟨RJ4, "size", "()I"⟩
def dkwJ4_size_0 : List UInt8 := [42, 180, 0, 20, 42, 180, 0, 24, 42, 180, 0, 3, 190, 184, 0, 127, 172]
abbrev dktJ4_size_0 : List UInt8 := dkwJ4_size_0 ++ []
theorem dksJ4_size_0 : cJ4_size.data.toList.drop 0 = dktJ4_size_0 := by decide +kernel
theorem dJ4_size_0 : decode cJ4_size 0 = .ok (.aload_n 0, 1) := dk_42 (dk_at dksJ4_size_0 0 rfl rfl)
theorem dJ4_size_1 : decode cJ4_size 1 = .ok (.getfield 20, 3) := dk_180 0 20 (dk_at dksJ4_size_0 1 rfl rfl)
theorem dJ4_size_4 : decode cJ4_size 4 = .ok (.aload_n 0, 1) := dk_42 (dk_at dksJ4_size_0 4 rfl rfl)
theorem dJ4_size_5 : decode cJ4_size 5 = .ok (.getfield 24, 3) := dk_180 0 24 (dk_at dksJ4_size_0 5 rfl rfl)
theorem dJ4_size_8 : decode cJ4_size 8 = .ok (.aload_n 0, 1) := dk_42 (dk_at dksJ4_size_0 8 rfl rfl)
theorem dJ4_size_9 : decode cJ4_size 9 = .ok (.getfield 3, 3) := dk_180 0 3 (dk_at dksJ4_size_0 9 rfl rfl)
theorem dJ4_size_12 : decode cJ4_size 12 = .ok (.arraylength, 1) := dk_190 (dk_at dksJ4_size_0 12 rfl rfl)
theorem dJ4_size_13 : decode cJ4_size 13 = .ok (.invokestatic 127, 3) := dk_184 0 127 (dk_at dksJ4_size_0 13 rfl rfl)
theorem dJ4_size_16 : decode cJ4_size 16 = .ok (.ireturn, 1) := dk_172 (dk_at dksJ4_size_0 16 rfl rfl)
abbrev cJ4_sub : ByteArray := prog_44_method_9_code
def yJ4_sub : MethodName := ⟨RJ4, "sub", "(III)I"⟩
def dkwJ4_sub_0 : List UInt8 := [26, 27, 100, 89, 59, 156, 0, 7, 26, 28, 96, 59, 26, 172]
abbrev dktJ4_sub_0 : List UInt8 := dkwJ4_sub_0 ++ []
theorem dksJ4_sub_0 : cJ4_sub.data.toList.drop 0 = dktJ4_sub_0 := by decide +kernel
theorem dJ4_sub_0 : decode cJ4_sub 0 = .ok (.iload_n 0, 1) := dk_26 (dk_at dksJ4_sub_0 0 rfl rfl)
theorem dJ4_sub_1 : decode cJ4_sub 1 = .ok (.iload_n 1, 1) := dk_27 (dk_at dksJ4_sub_0 1 rfl rfl)
theorem dJ4_sub_2 : decode cJ4_sub 2 = .ok (.isub, 1) := dk_100 (dk_at dksJ4_sub_0 2 rfl rfl)
theorem dJ4_sub_3 : decode cJ4_sub 3 = .ok (.dup, 1) := dk_89 (dk_at dksJ4_sub_0 3 rfl rfl)
theorem dJ4_sub_4 : decode cJ4_sub 4 = .ok (.istore_n 0, 1) := dk_59 (dk_at dksJ4_sub_0 4 rfl rfl)
theorem dJ4_sub_5 : decode cJ4_sub 5 = .ok (.ifCond .ge 7, 3) := dk_156 0 7 (dk_at dksJ4_sub_0 5 rfl rfl)
theorem dJ4_sub_8 : decode cJ4_sub 8 = .ok (.iload_n 0, 1) := dk_26 (dk_at dksJ4_sub_0 8 rfl rfl)
theorem dJ4_sub_9 : decode cJ4_sub 9 = .ok (.iload_n 2, 1) := dk_28 (dk_at dksJ4_sub_0 9 rfl rfl)
theorem dJ4_sub_10 : decode cJ4_sub 10 = .ok (.iadd, 1) := dk_96 (dk_at dksJ4_sub_0 10 rfl rfl)
theorem dJ4_sub_11 : decode cJ4_sub 11 = .ok (.istore_n 0, 1) := dk_59 (dk_at dksJ4_sub_0 11 rfl rfl)
theorem dJ4_sub_12 : decode cJ4_sub 12 = .ok (.iload_n 0, 1) := dk_26 (dk_at dksJ4_sub_0 12 rfl rfl)
theorem dJ4_sub_13 : decode cJ4_sub 13 = .ok (.ireturn, 1) := dk_172 (dk_at dksJ4_sub_0 13 rfl rfl)
abbrev cJ4_removeFirst : ByteArray := prog_44_method_18_code
def yJ4_removeFirst : MethodName := ⟨RJ4, "removeFirst", "()Ljava/lang/Object;"⟩
def dkwJ4_removeFirst_0 : List UInt8 := [42, 182, 0, 93, 76, 43, 199, 0, 11, 187, 0, 97, 89, 183, 0, 99, 191, 43, 176]
abbrev dktJ4_removeFirst_0 : List UInt8 := dkwJ4_removeFirst_0 ++ []
theorem dksJ4_removeFirst_0 : cJ4_removeFirst.data.toList.drop 0 = dktJ4_removeFirst_0 := by decide +kernel
theorem dJ4_removeFirst_0 : decode cJ4_removeFirst 0 = .ok (.aload_n 0, 1) := dk_42 (dk_at dksJ4_removeFirst_0 0 rfl rfl)
theorem dJ4_removeFirst_1 : decode cJ4_removeFirst 1 = .ok (.invokevirtual 93, 3) := dk_182 0 93 (dk_at dksJ4_removeFirst_0 1 rfl rfl)
theorem dJ4_removeFirst_4 : decode cJ4_removeFirst 4 = .ok (.astore_n 1, 1) := dk_76 (dk_at dksJ4_removeFirst_0 4 rfl rfl)
theorem dJ4_removeFirst_5 : decode cJ4_removeFirst 5 = .ok (.aload_n 1, 1) := dk_43 (dk_at dksJ4_removeFirst_0 5 rfl rfl)
theorem dJ4_removeFirst_6 : decode cJ4_removeFirst 6 = .ok (.ifnonnull 11, 3) := dk_199 0 11 (dk_at dksJ4_removeFirst_0 6 rfl rfl)
theorem dJ4_removeFirst_9 : decode cJ4_removeFirst 9 = .ok (.new 97, 3) := dk_187 0 97 (dk_at dksJ4_removeFirst_0 9 rfl rfl)
theorem dJ4_removeFirst_12 : decode cJ4_removeFirst 12 = .ok (.dup, 1) := dk_89 (dk_at dksJ4_removeFirst_0 12 rfl rfl)
theorem dJ4_removeFirst_13 : decode cJ4_removeFirst 13 = .ok (.invokespecial 99, 3) := dk_183 0 99 (dk_at dksJ4_removeFirst_0 13 rfl rfl)
theorem dJ4_removeFirst_16 : decode cJ4_removeFirst 16 = .ok (.athrow, 1) := dk_191 (dk_at dksJ4_removeFirst_0 16 rfl rfl)
theorem dJ4_removeFirst_17 : decode cJ4_removeFirst 17 = .ok (.aload_n 1, 1) := dk_43 (dk_at dksJ4_removeFirst_0 17 rfl rfl)
theorem dJ4_removeFirst_18 : decode cJ4_removeFirst 18 = .ok (.areturn, 1) := dk_176 (dk_at dksJ4_removeFirst_0 18 rfl rfl)
abbrev cJ4_pollFirst : ByteArray := prog_44_method_20_code
def yJ4_pollFirst : MethodName := ⟨RJ4, "pollFirst", "()Ljava/lang/Object;"⟩
def dkwJ4_pollFirst_1 : List UInt8 := [42, 28, 43, 190, 184, 0, 74, 181, 0, 24, 45, 176]
abbrev dktJ4_pollFirst_1 : List UInt8 := dkwJ4_pollFirst_1 ++ []
def dkwJ4_pollFirst_0 : List UInt8 := [42, 180, 0, 3, 89, 76, 42, 180, 0, 24, 89, 61, 184, 0, 103, 78, 45, 198, 0, 17, 43, 28, 1, 83]
abbrev dktJ4_pollFirst_0 : List UInt8 := dkwJ4_pollFirst_0 ++ dktJ4_pollFirst_1
theorem dksJ4_pollFirst_0 : cJ4_pollFirst.data.toList.drop 0 = dktJ4_pollFirst_0 := by decide +kernel
theorem dksJ4_pollFirst_1 : cJ4_pollFirst.data.toList.drop 24 = dktJ4_pollFirst_1 := dk_seg dksJ4_pollFirst_0 24 rfl rfl
theorem dJ4_pollFirst_0 : decode cJ4_pollFirst 0 = .ok (.aload_n 0, 1) := dk_42 (dk_at dksJ4_pollFirst_0 0 rfl rfl)
theorem dJ4_pollFirst_1 : decode cJ4_pollFirst 1 = .ok (.getfield 3, 3) := dk_180 0 3 (dk_at dksJ4_pollFirst_0 1 rfl rfl)
theorem dJ4_pollFirst_4 : decode cJ4_pollFirst 4 = .ok (.dup, 1) := dk_89 (dk_at dksJ4_pollFirst_0 4 rfl rfl)
theorem dJ4_pollFirst_5 : decode cJ4_pollFirst 5 = .ok (.astore_n 1, 1) := dk_76 (dk_at dksJ4_pollFirst_0 5 rfl rfl)
theorem dJ4_pollFirst_6 : decode cJ4_pollFirst 6 = .ok (.aload_n 0, 1) := dk_42 (dk_at dksJ4_pollFirst_0 6 rfl rfl)
theorem dJ4_pollFirst_7 : decode cJ4_pollFirst 7 = .ok (.getfield 24, 3) := dk_180 0 24 (dk_at dksJ4_pollFirst_0 7 rfl rfl)
theorem dJ4_pollFirst_10 : decode cJ4_pollFirst 10 = .ok (.dup, 1) := dk_89 (dk_at dksJ4_pollFirst_0 10 rfl rfl)
theorem dJ4_pollFirst_11 : decode cJ4_pollFirst 11 = .ok (.istore_n 2, 1) := dk_61 (dk_at dksJ4_pollFirst_0 11 rfl rfl)
theorem dJ4_pollFirst_12 : decode cJ4_pollFirst 12 = .ok (.invokestatic 103, 3) := dk_184 0 103 (dk_at dksJ4_pollFirst_0 12 rfl rfl)
theorem dJ4_pollFirst_15 : decode cJ4_pollFirst 15 = .ok (.astore_n 3, 1) := dk_78 (dk_at dksJ4_pollFirst_0 15 rfl rfl)
theorem dJ4_pollFirst_16 : decode cJ4_pollFirst 16 = .ok (.aload_n 3, 1) := dk_45 (dk_at dksJ4_pollFirst_0 16 rfl rfl)
theorem dJ4_pollFirst_17 : decode cJ4_pollFirst 17 = .ok (.ifnull 17, 3) := dk_198 0 17 (dk_at dksJ4_pollFirst_0 17 rfl rfl)
theorem dJ4_pollFirst_20 : decode cJ4_pollFirst 20 = .ok (.aload_n 1, 1) := dk_43 (dk_at dksJ4_pollFirst_0 20 rfl rfl)
theorem dJ4_pollFirst_21 : decode cJ4_pollFirst 21 = .ok (.iload_n 2, 1) := dk_28 (dk_at dksJ4_pollFirst_0 21 rfl rfl)
theorem dJ4_pollFirst_22 : decode cJ4_pollFirst 22 = .ok (.aconst_null, 1) := dk_1 (dk_at dksJ4_pollFirst_0 22 rfl rfl)
theorem dJ4_pollFirst_23 : decode cJ4_pollFirst 23 = .ok (.aastore, 1) := dk_83 (dk_at dksJ4_pollFirst_0 23 rfl rfl)
theorem dJ4_pollFirst_24 : decode cJ4_pollFirst 24 = .ok (.aload_n 0, 1) := dk_42 (dk_at dksJ4_pollFirst_1 0 rfl rfl)
theorem dJ4_pollFirst_25 : decode cJ4_pollFirst 25 = .ok (.iload_n 2, 1) := dk_28 (dk_at dksJ4_pollFirst_1 1 rfl rfl)
theorem dJ4_pollFirst_26 : decode cJ4_pollFirst 26 = .ok (.aload_n 1, 1) := dk_43 (dk_at dksJ4_pollFirst_1 2 rfl rfl)
theorem dJ4_pollFirst_27 : decode cJ4_pollFirst 27 = .ok (.arraylength, 1) := dk_190 (dk_at dksJ4_pollFirst_1 3 rfl rfl)
theorem dJ4_pollFirst_28 : decode cJ4_pollFirst 28 = .ok (.invokestatic 74, 3) := dk_184 0 74 (dk_at dksJ4_pollFirst_1 4 rfl rfl)
theorem dJ4_pollFirst_31 : decode cJ4_pollFirst 31 = .ok (.putfield 24, 3) := dk_181 0 24 (dk_at dksJ4_pollFirst_1 7 rfl rfl)
theorem dJ4_pollFirst_34 : decode cJ4_pollFirst 34 = .ok (.aload_n 3, 1) := dk_45 (dk_at dksJ4_pollFirst_1 10 rfl rfl)
theorem dJ4_pollFirst_35 : decode cJ4_pollFirst 35 = .ok (.areturn, 1) := dk_176 (dk_at dksJ4_pollFirst_1 11 rfl rfl)
abbrev cJ4_elementAt : ByteArray := prog_44_method_10_code
def yJ4_elementAt : MethodName := ⟨RJ4, "elementAt", "([Ljava/lang/Object;I)Ljava/lang/Object;"⟩
def dkwJ4_elementAt_0 : List UInt8 := [42, 27, 50, 176]
abbrev dktJ4_elementAt_0 : List UInt8 := dkwJ4_elementAt_0 ++ []
theorem dksJ4_elementAt_0 : cJ4_elementAt.data.toList.drop 0 = dktJ4_elementAt_0 := by decide +kernel
theorem dJ4_elementAt_0 : decode cJ4_elementAt 0 = .ok (.aload_n 0, 1) := dk_42 (dk_at dksJ4_elementAt_0 0 rfl rfl)
theorem dJ4_elementAt_1 : decode cJ4_elementAt 1 = .ok (.iload_n 1, 1) := dk_27 (dk_at dksJ4_elementAt_0 1 rfl rfl)
theorem dJ4_elementAt_2 : decode cJ4_elementAt 2 = .ok (.aaload, 1) := dk_50 (dk_at dksJ4_elementAt_0 2 rfl rfl)
theorem dJ4_elementAt_3 : decode cJ4_elementAt 3 = .ok (.areturn, 1) := dk_176 (dk_at dksJ4_elementAt_0 3 rfl rfl)
abbrev cJ4_inc : ByteArray := prog_44_method_6_code
def yJ4_inc : MethodName := ⟨RJ4, "inc", "(II)I"⟩
def dkwJ4_inc_0 : List UInt8 := [132, 0, 1, 26, 27, 161, 0, 5, 3, 59, 26, 172]
abbrev dktJ4_inc_0 : List UInt8 := dkwJ4_inc_0 ++ []
theorem dksJ4_inc_0 : cJ4_inc.data.toList.drop 0 = dktJ4_inc_0 := by decide +kernel
theorem dJ4_inc_0 : decode cJ4_inc 0 = .ok (.iinc 0 1, 3) := dk_132 0 1 (dk_at dksJ4_inc_0 0 rfl rfl)
theorem dJ4_inc_3 : decode cJ4_inc 3 = .ok (.iload_n 0, 1) := dk_26 (dk_at dksJ4_inc_0 3 rfl rfl)
theorem dJ4_inc_4 : decode cJ4_inc 4 = .ok (.iload_n 1, 1) := dk_27 (dk_at dksJ4_inc_0 4 rfl rfl)
theorem dJ4_inc_5 : decode cJ4_inc 5 = .ok (.if_icmp .lt 5, 3) := dk_161 0 5 (dk_at dksJ4_inc_0 5 rfl rfl)
theorem dJ4_inc_8 : decode cJ4_inc 8 = .ok (.iconst 0, 1) := dk_3 (dk_at dksJ4_inc_0 8 rfl rfl)
theorem dJ4_inc_9 : decode cJ4_inc 9 = .ok (.istore_n 0, 1) := dk_59 (dk_at dksJ4_inc_0 9 rfl rfl)
theorem dJ4_inc_10 : decode cJ4_inc 10 = .ok (.iload_n 0, 1) := dk_26 (dk_at dksJ4_inc_0 10 rfl rfl)
theorem dJ4_inc_11 : decode cJ4_inc 11 = .ok (.ireturn, 1) := dk_172 (dk_at dksJ4_inc_0 11 rfl rfl)
abbrev cJ4_addLast : ByteArray := prog_44_method_13_code
def yJ4_addLast : MethodName := ⟨RJ4, "addLast", "(Ljava/lang/Object;)V"⟩
def dkwJ4_addLast_2 : List UInt8 := [182, 0, 71, 177]
abbrev dktJ4_addLast_2 : List UInt8 := dkwJ4_addLast_2 ++ []
def dkwJ4_addLast_1 : List UInt8 := [42, 180, 0, 24, 42, 42, 180, 0, 20, 44, 190, 184, 0, 74, 90, 181, 0, 20, 160, 0, 8, 42, 4]
abbrev dktJ4_addLast_1 : List UInt8 := dkwJ4_addLast_1 ++ dktJ4_addLast_2
def dkwJ4_addLast_0 : List UInt8 := [43, 199, 0, 11, 187, 0, 65, 89, 183, 0, 67, 191, 42, 180, 0, 3, 77, 44, 42, 180, 0, 20, 43, 83]
abbrev dktJ4_addLast_0 : List UInt8 := dkwJ4_addLast_0 ++ dktJ4_addLast_1
theorem dksJ4_addLast_0 : cJ4_addLast.data.toList.drop 0 = dktJ4_addLast_0 := by decide +kernel
theorem dksJ4_addLast_1 : cJ4_addLast.data.toList.drop 24 = dktJ4_addLast_1 := dk_seg dksJ4_addLast_0 24 rfl rfl
theorem dksJ4_addLast_2 : cJ4_addLast.data.toList.drop 47 = dktJ4_addLast_2 := dk_seg dksJ4_addLast_1 23 rfl rfl
theorem dJ4_addLast_0 : decode cJ4_addLast 0 = .ok (.aload_n 1, 1) := dk_43 (dk_at dksJ4_addLast_0 0 rfl rfl)
theorem dJ4_addLast_1 : decode cJ4_addLast 1 = .ok (.ifnonnull 11, 3) := dk_199 0 11 (dk_at dksJ4_addLast_0 1 rfl rfl)
theorem dJ4_addLast_4 : decode cJ4_addLast 4 = .ok (.new 65, 3) := dk_187 0 65 (dk_at dksJ4_addLast_0 4 rfl rfl)
theorem dJ4_addLast_7 : decode cJ4_addLast 7 = .ok (.dup, 1) := dk_89 (dk_at dksJ4_addLast_0 7 rfl rfl)
theorem dJ4_addLast_8 : decode cJ4_addLast 8 = .ok (.invokespecial 67, 3) := dk_183 0 67 (dk_at dksJ4_addLast_0 8 rfl rfl)
theorem dJ4_addLast_11 : decode cJ4_addLast 11 = .ok (.athrow, 1) := dk_191 (dk_at dksJ4_addLast_0 11 rfl rfl)
theorem dJ4_addLast_12 : decode cJ4_addLast 12 = .ok (.aload_n 0, 1) := dk_42 (dk_at dksJ4_addLast_0 12 rfl rfl)
theorem dJ4_addLast_13 : decode cJ4_addLast 13 = .ok (.getfield 3, 3) := dk_180 0 3 (dk_at dksJ4_addLast_0 13 rfl rfl)
theorem dJ4_addLast_16 : decode cJ4_addLast 16 = .ok (.astore_n 2, 1) := dk_77 (dk_at dksJ4_addLast_0 16 rfl rfl)
theorem dJ4_addLast_17 : decode cJ4_addLast 17 = .ok (.aload_n 2, 1) := dk_44 (dk_at dksJ4_addLast_0 17 rfl rfl)
theorem dJ4_addLast_18 : decode cJ4_addLast 18 = .ok (.aload_n 0, 1) := dk_42 (dk_at dksJ4_addLast_0 18 rfl rfl)
theorem dJ4_addLast_19 : decode cJ4_addLast 19 = .ok (.getfield 20, 3) := dk_180 0 20 (dk_at dksJ4_addLast_0 19 rfl rfl)
theorem dJ4_addLast_22 : decode cJ4_addLast 22 = .ok (.aload_n 1, 1) := dk_43 (dk_at dksJ4_addLast_0 22 rfl rfl)
theorem dJ4_addLast_23 : decode cJ4_addLast 23 = .ok (.aastore, 1) := dk_83 (dk_at dksJ4_addLast_0 23 rfl rfl)
theorem dJ4_addLast_24 : decode cJ4_addLast 24 = .ok (.aload_n 0, 1) := dk_42 (dk_at dksJ4_addLast_1 0 rfl rfl)
theorem dJ4_addLast_25 : decode cJ4_addLast 25 = .ok (.getfield 24, 3) := dk_180 0 24 (dk_at dksJ4_addLast_1 1 rfl rfl)
theorem dJ4_addLast_28 : decode cJ4_addLast 28 = .ok (.aload_n 0, 1) := dk_42 (dk_at dksJ4_addLast_1 4 rfl rfl)
theorem dJ4_addLast_29 : decode cJ4_addLast 29 = .ok (.aload_n 0, 1) := dk_42 (dk_at dksJ4_addLast_1 5 rfl rfl)
theorem dJ4_addLast_30 : decode cJ4_addLast 30 = .ok (.getfield 20, 3) := dk_180 0 20 (dk_at dksJ4_addLast_1 6 rfl rfl)
theorem dJ4_addLast_33 : decode cJ4_addLast 33 = .ok (.aload_n 2, 1) := dk_44 (dk_at dksJ4_addLast_1 9 rfl rfl)
theorem dJ4_addLast_34 : decode cJ4_addLast 34 = .ok (.arraylength, 1) := dk_190 (dk_at dksJ4_addLast_1 10 rfl rfl)
theorem dJ4_addLast_35 : decode cJ4_addLast 35 = .ok (.invokestatic 74, 3) := dk_184 0 74 (dk_at dksJ4_addLast_1 11 rfl rfl)
theorem dJ4_addLast_38 : decode cJ4_addLast 38 = .ok (.dup_x1, 1) := dk_90 (dk_at dksJ4_addLast_1 14 rfl rfl)
theorem dJ4_addLast_39 : decode cJ4_addLast 39 = .ok (.putfield 20, 3) := dk_181 0 20 (dk_at dksJ4_addLast_1 15 rfl rfl)
theorem dJ4_addLast_42 : decode cJ4_addLast 42 = .ok (.if_icmp .ne 8, 3) := dk_160 0 8 (dk_at dksJ4_addLast_1 18 rfl rfl)
theorem dJ4_addLast_45 : decode cJ4_addLast 45 = .ok (.aload_n 0, 1) := dk_42 (dk_at dksJ4_addLast_1 21 rfl rfl)
theorem dJ4_addLast_46 : decode cJ4_addLast 46 = .ok (.iconst 1, 1) := dk_4 (dk_at dksJ4_addLast_1 22 rfl rfl)
theorem dJ4_addLast_47 : decode cJ4_addLast 47 = .ok (.invokevirtual 71, 3) := dk_182 0 71 (dk_at dksJ4_addLast_2 0 rfl rfl)
theorem dJ4_addLast_50 : decode cJ4_addLast 50 = .ok (.return_, 1) := dk_177 (dk_at dksJ4_addLast_2 3 rfl rfl)
abbrev cJ4_grow : ByteArray := prog_44_method_1_code
def yJ4_grow : MethodName := ⟨RJ4, "grow", "(I)V"⟩
def dkwJ4_grow_7 : List UInt8 := [177]
abbrev dktJ4_grow_7 : List UInt8 := dkwJ4_grow_7 ++ []
def dkwJ4_grow_6 : List UInt8 := [181, 0, 24, 54, 8, 21, 7, 21, 8, 162, 0, 15, 25, 5, 21, 7, 1, 83, 132, 7, 1, 167, 255, 240]
abbrev dktJ4_grow_6 : List UInt8 := dkwJ4_grow_6 ++ dktJ4_grow_7
def dkwJ4_grow_5 : List UInt8 := [42, 180, 0, 24, 100, 184, 0, 27, 42, 180, 0, 24, 54, 7, 42, 89, 180, 0, 24, 21, 6, 96, 90]
abbrev dktJ4_grow_5 : List UInt8 := dkwJ4_grow_5 ++ dktJ4_grow_6
def dkwJ4_grow_4 : List UInt8 := [198, 0, 71, 29, 28, 100, 54, 6, 25, 5, 42, 180, 0, 24, 25, 5, 42, 180, 0, 24, 21, 6, 96, 28]
abbrev dktJ4_grow_4 : List UInt8 := dkwJ4_grow_4 ++ dktJ4_grow_5
def dkwJ4_grow_3 : List UInt8 := [180, 0, 24, 161, 0, 24, 42, 180, 0, 20, 42, 180, 0, 24, 160, 0, 81, 25, 5, 42, 180, 0, 24, 50]
abbrev dktJ4_grow_3 : List UInt8 := dkwJ4_grow_3 ++ dktJ4_grow_4
def dkwJ4_grow_2 : List UInt8 := [182, 0, 10, 62, 42, 42, 180, 0, 3, 29, 184, 0, 14, 90, 181, 0, 3, 58, 5, 42, 180, 0, 20, 42]
abbrev dktJ4_grow_2 : List UInt8 := dkwJ4_grow_2 ++ dktJ4_grow_3
def dkwJ4_grow_1 : List UInt8 := [21, 4, 27, 161, 0, 15, 28, 21, 4, 96, 89, 62, 18, 9, 100, 158, 0, 11, 42, 27, 21, 4]
abbrev dktJ4_grow_1 : List UInt8 := dkwJ4_grow_1 ++ dktJ4_grow_2
def dkwJ4_grow_0 : List UInt8 := [42, 180, 0, 3, 190, 61, 28, 16, 64, 162, 0, 9, 28, 5, 96, 167, 0, 6, 28, 4, 122, 54, 4]
abbrev dktJ4_grow_0 : List UInt8 := dkwJ4_grow_0 ++ dktJ4_grow_1
theorem dksJ4_grow_0 : cJ4_grow.data.toList.drop 0 = dktJ4_grow_0 := by decide +kernel
theorem dksJ4_grow_1 : cJ4_grow.data.toList.drop 23 = dktJ4_grow_1 := dk_seg dksJ4_grow_0 23 rfl rfl
theorem dksJ4_grow_2 : cJ4_grow.data.toList.drop 45 = dktJ4_grow_2 := dk_seg dksJ4_grow_1 22 rfl rfl
theorem dksJ4_grow_3 : cJ4_grow.data.toList.drop 69 = dktJ4_grow_3 := dk_seg dksJ4_grow_2 24 rfl rfl
theorem dksJ4_grow_4 : cJ4_grow.data.toList.drop 93 = dktJ4_grow_4 := dk_seg dksJ4_grow_3 24 rfl rfl
theorem dksJ4_grow_5 : cJ4_grow.data.toList.drop 117 = dktJ4_grow_5 := dk_seg dksJ4_grow_4 24 rfl rfl
theorem dksJ4_grow_6 : cJ4_grow.data.toList.drop 140 = dktJ4_grow_6 := dk_seg dksJ4_grow_5 23 rfl rfl
theorem dksJ4_grow_7 : cJ4_grow.data.toList.drop 164 = dktJ4_grow_7 := dk_seg dksJ4_grow_6 24 rfl rfl
theorem dJ4_grow_0 : decode cJ4_grow 0 = .ok (.aload_n 0, 1) := dk_42 (dk_at dksJ4_grow_0 0 rfl rfl)
theorem dJ4_grow_1 : decode cJ4_grow 1 = .ok (.getfield 3, 3) := dk_180 0 3 (dk_at dksJ4_grow_0 1 rfl rfl)
theorem dJ4_grow_4 : decode cJ4_grow 4 = .ok (.arraylength, 1) := dk_190 (dk_at dksJ4_grow_0 4 rfl rfl)
theorem dJ4_grow_5 : decode cJ4_grow 5 = .ok (.istore_n 2, 1) := dk_61 (dk_at dksJ4_grow_0 5 rfl rfl)
theorem dJ4_grow_6 : decode cJ4_grow 6 = .ok (.iload_n 2, 1) := dk_28 (dk_at dksJ4_grow_0 6 rfl rfl)
theorem dJ4_grow_7 : decode cJ4_grow 7 = .ok (.bipush 64, 2) := dk_16 64 (dk_at dksJ4_grow_0 7 rfl rfl)
theorem dJ4_grow_9 : decode cJ4_grow 9 = .ok (.if_icmp .ge 9, 3) := dk_162 0 9 (dk_at dksJ4_grow_0 9 rfl rfl)
theorem dJ4_grow_12 : decode cJ4_grow 12 = .ok (.iload_n 2, 1) := dk_28 (dk_at dksJ4_grow_0 12 rfl rfl)
theorem dJ4_grow_13 : decode cJ4_grow 13 = .ok (.iconst 2, 1) := dk_5 (dk_at dksJ4_grow_0 13 rfl rfl)
theorem dJ4_grow_14 : decode cJ4_grow 14 = .ok (.iadd, 1) := dk_96 (dk_at dksJ4_grow_0 14 rfl rfl)
theorem dJ4_grow_15 : decode cJ4_grow 15 = .ok (.goto 6, 3) := dk_167 0 6 (dk_at dksJ4_grow_0 15 rfl rfl)
theorem dJ4_grow_18 : decode cJ4_grow 18 = .ok (.iload_n 2, 1) := dk_28 (dk_at dksJ4_grow_0 18 rfl rfl)
theorem dJ4_grow_19 : decode cJ4_grow 19 = .ok (.iconst 1, 1) := dk_4 (dk_at dksJ4_grow_0 19 rfl rfl)
theorem dJ4_grow_20 : decode cJ4_grow 20 = .ok (.ishr, 1) := dk_122 (dk_at dksJ4_grow_0 20 rfl rfl)
theorem dJ4_grow_21 : decode cJ4_grow 21 = .ok (.istore 4, 2) := dk_54 4 (dk_at dksJ4_grow_0 21 rfl rfl)
theorem dJ4_grow_23 : decode cJ4_grow 23 = .ok (.iload 4, 2) := dk_21 4 (dk_at dksJ4_grow_1 0 rfl rfl)
theorem dJ4_grow_25 : decode cJ4_grow 25 = .ok (.iload_n 1, 1) := dk_27 (dk_at dksJ4_grow_1 2 rfl rfl)
theorem dJ4_grow_26 : decode cJ4_grow 26 = .ok (.if_icmp .lt 15, 3) := dk_161 0 15 (dk_at dksJ4_grow_1 3 rfl rfl)
theorem dJ4_grow_29 : decode cJ4_grow 29 = .ok (.iload_n 2, 1) := dk_28 (dk_at dksJ4_grow_1 6 rfl rfl)
theorem dJ4_grow_30 : decode cJ4_grow 30 = .ok (.iload 4, 2) := dk_21 4 (dk_at dksJ4_grow_1 7 rfl rfl)
theorem dJ4_grow_32 : decode cJ4_grow 32 = .ok (.iadd, 1) := dk_96 (dk_at dksJ4_grow_1 9 rfl rfl)
theorem dJ4_grow_33 : decode cJ4_grow 33 = .ok (.dup, 1) := dk_89 (dk_at dksJ4_grow_1 10 rfl rfl)
theorem dJ4_grow_34 : decode cJ4_grow 34 = .ok (.istore_n 3, 1) := dk_62 (dk_at dksJ4_grow_1 11 rfl rfl)
theorem dJ4_grow_35 : decode cJ4_grow 35 = .ok (.ldc 9, 2) := dk_18 9 (dk_at dksJ4_grow_1 12 rfl rfl)
theorem dJ4_grow_37 : decode cJ4_grow 37 = .ok (.isub, 1) := dk_100 (dk_at dksJ4_grow_1 14 rfl rfl)
theorem dJ4_grow_38 : decode cJ4_grow 38 = .ok (.ifCond .le 11, 3) := dk_158 0 11 (dk_at dksJ4_grow_1 15 rfl rfl)
theorem dJ4_grow_41 : decode cJ4_grow 41 = .ok (.aload_n 0, 1) := dk_42 (dk_at dksJ4_grow_1 18 rfl rfl)
theorem dJ4_grow_42 : decode cJ4_grow 42 = .ok (.iload_n 1, 1) := dk_27 (dk_at dksJ4_grow_1 19 rfl rfl)
theorem dJ4_grow_43 : decode cJ4_grow 43 = .ok (.iload 4, 2) := dk_21 4 (dk_at dksJ4_grow_1 20 rfl rfl)
theorem dJ4_grow_45 : decode cJ4_grow 45 = .ok (.invokevirtual 10, 3) := dk_182 0 10 (dk_at dksJ4_grow_2 0 rfl rfl)
theorem dJ4_grow_48 : decode cJ4_grow 48 = .ok (.istore_n 3, 1) := dk_62 (dk_at dksJ4_grow_2 3 rfl rfl)
theorem dJ4_grow_49 : decode cJ4_grow 49 = .ok (.aload_n 0, 1) := dk_42 (dk_at dksJ4_grow_2 4 rfl rfl)
theorem dJ4_grow_50 : decode cJ4_grow 50 = .ok (.aload_n 0, 1) := dk_42 (dk_at dksJ4_grow_2 5 rfl rfl)
theorem dJ4_grow_51 : decode cJ4_grow 51 = .ok (.getfield 3, 3) := dk_180 0 3 (dk_at dksJ4_grow_2 6 rfl rfl)
theorem dJ4_grow_54 : decode cJ4_grow 54 = .ok (.iload_n 3, 1) := dk_29 (dk_at dksJ4_grow_2 9 rfl rfl)
theorem dJ4_grow_55 : decode cJ4_grow 55 = .ok (.invokestatic 14, 3) := dk_184 0 14 (dk_at dksJ4_grow_2 10 rfl rfl)
theorem dJ4_grow_58 : decode cJ4_grow 58 = .ok (.dup_x1, 1) := dk_90 (dk_at dksJ4_grow_2 13 rfl rfl)
theorem dJ4_grow_59 : decode cJ4_grow 59 = .ok (.putfield 3, 3) := dk_181 0 3 (dk_at dksJ4_grow_2 14 rfl rfl)
theorem dJ4_grow_62 : decode cJ4_grow 62 = .ok (.astore 5, 2) := dk_58 5 (dk_at dksJ4_grow_2 17 rfl rfl)
theorem dJ4_grow_64 : decode cJ4_grow 64 = .ok (.aload_n 0, 1) := dk_42 (dk_at dksJ4_grow_2 19 rfl rfl)
theorem dJ4_grow_65 : decode cJ4_grow 65 = .ok (.getfield 20, 3) := dk_180 0 20 (dk_at dksJ4_grow_2 20 rfl rfl)
theorem dJ4_grow_68 : decode cJ4_grow 68 = .ok (.aload_n 0, 1) := dk_42 (dk_at dksJ4_grow_2 23 rfl rfl)
theorem dJ4_grow_69 : decode cJ4_grow 69 = .ok (.getfield 24, 3) := dk_180 0 24 (dk_at dksJ4_grow_3 0 rfl rfl)
theorem dJ4_grow_72 : decode cJ4_grow 72 = .ok (.if_icmp .lt 24, 3) := dk_161 0 24 (dk_at dksJ4_grow_3 3 rfl rfl)
theorem dJ4_grow_75 : decode cJ4_grow 75 = .ok (.aload_n 0, 1) := dk_42 (dk_at dksJ4_grow_3 6 rfl rfl)
theorem dJ4_grow_76 : decode cJ4_grow 76 = .ok (.getfield 20, 3) := dk_180 0 20 (dk_at dksJ4_grow_3 7 rfl rfl)
theorem dJ4_grow_79 : decode cJ4_grow 79 = .ok (.aload_n 0, 1) := dk_42 (dk_at dksJ4_grow_3 10 rfl rfl)
theorem dJ4_grow_80 : decode cJ4_grow 80 = .ok (.getfield 24, 3) := dk_180 0 24 (dk_at dksJ4_grow_3 11 rfl rfl)
theorem dJ4_grow_83 : decode cJ4_grow 83 = .ok (.if_icmp .ne 81, 3) := dk_160 0 81 (dk_at dksJ4_grow_3 14 rfl rfl)
theorem dJ4_grow_86 : decode cJ4_grow 86 = .ok (.aload 5, 2) := dk_25 5 (dk_at dksJ4_grow_3 17 rfl rfl)
theorem dJ4_grow_88 : decode cJ4_grow 88 = .ok (.aload_n 0, 1) := dk_42 (dk_at dksJ4_grow_3 19 rfl rfl)
theorem dJ4_grow_89 : decode cJ4_grow 89 = .ok (.getfield 24, 3) := dk_180 0 24 (dk_at dksJ4_grow_3 20 rfl rfl)
theorem dJ4_grow_92 : decode cJ4_grow 92 = .ok (.aaload, 1) := dk_50 (dk_at dksJ4_grow_3 23 rfl rfl)
theorem dJ4_grow_93 : decode cJ4_grow 93 = .ok (.ifnull 71, 3) := dk_198 0 71 (dk_at dksJ4_grow_4 0 rfl rfl)
theorem dJ4_grow_96 : decode cJ4_grow 96 = .ok (.iload_n 3, 1) := dk_29 (dk_at dksJ4_grow_4 3 rfl rfl)
theorem dJ4_grow_97 : decode cJ4_grow 97 = .ok (.iload_n 2, 1) := dk_28 (dk_at dksJ4_grow_4 4 rfl rfl)
theorem dJ4_grow_98 : decode cJ4_grow 98 = .ok (.isub, 1) := dk_100 (dk_at dksJ4_grow_4 5 rfl rfl)
theorem dJ4_grow_99 : decode cJ4_grow 99 = .ok (.istore 6, 2) := dk_54 6 (dk_at dksJ4_grow_4 6 rfl rfl)
theorem dJ4_grow_101 : decode cJ4_grow 101 = .ok (.aload 5, 2) := dk_25 5 (dk_at dksJ4_grow_4 8 rfl rfl)
theorem dJ4_grow_103 : decode cJ4_grow 103 = .ok (.aload_n 0, 1) := dk_42 (dk_at dksJ4_grow_4 10 rfl rfl)
theorem dJ4_grow_104 : decode cJ4_grow 104 = .ok (.getfield 24, 3) := dk_180 0 24 (dk_at dksJ4_grow_4 11 rfl rfl)
theorem dJ4_grow_107 : decode cJ4_grow 107 = .ok (.aload 5, 2) := dk_25 5 (dk_at dksJ4_grow_4 14 rfl rfl)
theorem dJ4_grow_109 : decode cJ4_grow 109 = .ok (.aload_n 0, 1) := dk_42 (dk_at dksJ4_grow_4 16 rfl rfl)
theorem dJ4_grow_110 : decode cJ4_grow 110 = .ok (.getfield 24, 3) := dk_180 0 24 (dk_at dksJ4_grow_4 17 rfl rfl)
theorem dJ4_grow_113 : decode cJ4_grow 113 = .ok (.iload 6, 2) := dk_21 6 (dk_at dksJ4_grow_4 20 rfl rfl)
theorem dJ4_grow_115 : decode cJ4_grow 115 = .ok (.iadd, 1) := dk_96 (dk_at dksJ4_grow_4 22 rfl rfl)
theorem dJ4_grow_116 : decode cJ4_grow 116 = .ok (.iload_n 2, 1) := dk_28 (dk_at dksJ4_grow_4 23 rfl rfl)
theorem dJ4_grow_117 : decode cJ4_grow 117 = .ok (.aload_n 0, 1) := dk_42 (dk_at dksJ4_grow_5 0 rfl rfl)
theorem dJ4_grow_118 : decode cJ4_grow 118 = .ok (.getfield 24, 3) := dk_180 0 24 (dk_at dksJ4_grow_5 1 rfl rfl)
theorem dJ4_grow_121 : decode cJ4_grow 121 = .ok (.isub, 1) := dk_100 (dk_at dksJ4_grow_5 4 rfl rfl)
theorem dJ4_grow_122 : decode cJ4_grow 122 = .ok (.invokestatic 27, 3) := dk_184 0 27 (dk_at dksJ4_grow_5 5 rfl rfl)
theorem dJ4_grow_125 : decode cJ4_grow 125 = .ok (.aload_n 0, 1) := dk_42 (dk_at dksJ4_grow_5 8 rfl rfl)
theorem dJ4_grow_126 : decode cJ4_grow 126 = .ok (.getfield 24, 3) := dk_180 0 24 (dk_at dksJ4_grow_5 9 rfl rfl)
theorem dJ4_grow_129 : decode cJ4_grow 129 = .ok (.istore 7, 2) := dk_54 7 (dk_at dksJ4_grow_5 12 rfl rfl)
theorem dJ4_grow_131 : decode cJ4_grow 131 = .ok (.aload_n 0, 1) := dk_42 (dk_at dksJ4_grow_5 14 rfl rfl)
theorem dJ4_grow_132 : decode cJ4_grow 132 = .ok (.dup, 1) := dk_89 (dk_at dksJ4_grow_5 15 rfl rfl)
theorem dJ4_grow_133 : decode cJ4_grow 133 = .ok (.getfield 24, 3) := dk_180 0 24 (dk_at dksJ4_grow_5 16 rfl rfl)
theorem dJ4_grow_136 : decode cJ4_grow 136 = .ok (.iload 6, 2) := dk_21 6 (dk_at dksJ4_grow_5 19 rfl rfl)
theorem dJ4_grow_138 : decode cJ4_grow 138 = .ok (.iadd, 1) := dk_96 (dk_at dksJ4_grow_5 21 rfl rfl)
theorem dJ4_grow_139 : decode cJ4_grow 139 = .ok (.dup_x1, 1) := dk_90 (dk_at dksJ4_grow_5 22 rfl rfl)
theorem dJ4_grow_140 : decode cJ4_grow 140 = .ok (.putfield 24, 3) := dk_181 0 24 (dk_at dksJ4_grow_6 0 rfl rfl)
theorem dJ4_grow_143 : decode cJ4_grow 143 = .ok (.istore 8, 2) := dk_54 8 (dk_at dksJ4_grow_6 3 rfl rfl)
theorem dJ4_grow_145 : decode cJ4_grow 145 = .ok (.iload 7, 2) := dk_21 7 (dk_at dksJ4_grow_6 5 rfl rfl)
theorem dJ4_grow_147 : decode cJ4_grow 147 = .ok (.iload 8, 2) := dk_21 8 (dk_at dksJ4_grow_6 7 rfl rfl)
theorem dJ4_grow_149 : decode cJ4_grow 149 = .ok (.if_icmp .ge 15, 3) := dk_162 0 15 (dk_at dksJ4_grow_6 9 rfl rfl)
theorem dJ4_grow_152 : decode cJ4_grow 152 = .ok (.aload 5, 2) := dk_25 5 (dk_at dksJ4_grow_6 12 rfl rfl)
theorem dJ4_grow_154 : decode cJ4_grow 154 = .ok (.iload 7, 2) := dk_21 7 (dk_at dksJ4_grow_6 14 rfl rfl)
theorem dJ4_grow_156 : decode cJ4_grow 156 = .ok (.aconst_null, 1) := dk_1 (dk_at dksJ4_grow_6 16 rfl rfl)
theorem dJ4_grow_157 : decode cJ4_grow 157 = .ok (.aastore, 1) := dk_83 (dk_at dksJ4_grow_6 17 rfl rfl)
theorem dJ4_grow_158 : decode cJ4_grow 158 = .ok (.iinc 7 1, 3) := dk_132 7 1 (dk_at dksJ4_grow_6 18 rfl rfl)
theorem dJ4_grow_161 : decode cJ4_grow 161 = .ok (.goto (-16), 3) := dk_167 255 240 (dk_at dksJ4_grow_6 21 rfl rfl)
theorem dJ4_grow_164 : decode cJ4_grow 164 = .ok (.return_, 1) := dk_177 (dk_at dksJ4_grow_7 0 rfl rfl)
abbrev cJ4_newCapacity : ByteArray := prog_44_method_2_code
def yJ4_newCapacity : MethodName := ⟨RJ4, "newCapacity", "(II)I"⟩
def dkwJ4_newCapacity_2 : List UInt8 := [18, 9, 100, 156, 0, 9, 29, 28, 96, 167, 0, 5, 18, 9, 172]
abbrev dktJ4_newCapacity_2 : List UInt8 := dkwJ4_newCapacity_2 ++ []
def dkwJ4_newCapacity_1 : List UInt8 := [187, 0, 33, 89, 18, 35, 183, 0, 37, 191, 18, 41, 172, 27, 28, 164, 0, 6, 21, 4, 172, 29, 28, 96]
abbrev dktJ4_newCapacity_1 : List UInt8 := dkwJ4_newCapacity_1 ++ dktJ4_newCapacity_2
def dkwJ4_newCapacity_0 : List UInt8 := [42, 180, 0, 3, 190, 62, 29, 27, 96, 89, 54, 4, 18, 9, 100, 158, 0, 21, 21, 4, 156, 0, 13]
abbrev dktJ4_newCapacity_0 : List UInt8 := dkwJ4_newCapacity_0 ++ dktJ4_newCapacity_1
theorem dksJ4_newCapacity_0 : cJ4_newCapacity.data.toList.drop 0 = dktJ4_newCapacity_0 := by decide +kernel
theorem dksJ4_newCapacity_1 : cJ4_newCapacity.data.toList.drop 23 = dktJ4_newCapacity_1 := dk_seg dksJ4_newCapacity_0 23 rfl rfl
theorem dksJ4_newCapacity_2 : cJ4_newCapacity.data.toList.drop 47 = dktJ4_newCapacity_2 := dk_seg dksJ4_newCapacity_1 24 rfl rfl
theorem dJ4_newCapacity_0 : decode cJ4_newCapacity 0 = .ok (.aload_n 0, 1) := dk_42 (dk_at dksJ4_newCapacity_0 0 rfl rfl)
theorem dJ4_newCapacity_1 : decode cJ4_newCapacity 1 = .ok (.getfield 3, 3) := dk_180 0 3 (dk_at dksJ4_newCapacity_0 1 rfl rfl)
theorem dJ4_newCapacity_4 : decode cJ4_newCapacity 4 = .ok (.arraylength, 1) := dk_190 (dk_at dksJ4_newCapacity_0 4 rfl rfl)
theorem dJ4_newCapacity_5 : decode cJ4_newCapacity 5 = .ok (.istore_n 3, 1) := dk_62 (dk_at dksJ4_newCapacity_0 5 rfl rfl)
theorem dJ4_newCapacity_6 : decode cJ4_newCapacity 6 = .ok (.iload_n 3, 1) := dk_29 (dk_at dksJ4_newCapacity_0 6 rfl rfl)
theorem dJ4_newCapacity_7 : decode cJ4_newCapacity 7 = .ok (.iload_n 1, 1) := dk_27 (dk_at dksJ4_newCapacity_0 7 rfl rfl)
theorem dJ4_newCapacity_8 : decode cJ4_newCapacity 8 = .ok (.iadd, 1) := dk_96 (dk_at dksJ4_newCapacity_0 8 rfl rfl)
theorem dJ4_newCapacity_9 : decode cJ4_newCapacity 9 = .ok (.dup, 1) := dk_89 (dk_at dksJ4_newCapacity_0 9 rfl rfl)
theorem dJ4_newCapacity_10 : decode cJ4_newCapacity 10 = .ok (.istore 4, 2) := dk_54 4 (dk_at dksJ4_newCapacity_0 10 rfl rfl)
theorem dJ4_newCapacity_12 : decode cJ4_newCapacity 12 = .ok (.ldc 9, 2) := dk_18 9 (dk_at dksJ4_newCapacity_0 12 rfl rfl)
theorem dJ4_newCapacity_14 : decode cJ4_newCapacity 14 = .ok (.isub, 1) := dk_100 (dk_at dksJ4_newCapacity_0 14 rfl rfl)
theorem dJ4_newCapacity_15 : decode cJ4_newCapacity 15 = .ok (.ifCond .le 21, 3) := dk_158 0 21 (dk_at dksJ4_newCapacity_0 15 rfl rfl)
theorem dJ4_newCapacity_18 : decode cJ4_newCapacity 18 = .ok (.iload 4, 2) := dk_21 4 (dk_at dksJ4_newCapacity_0 18 rfl rfl)
theorem dJ4_newCapacity_20 : decode cJ4_newCapacity 20 = .ok (.ifCond .ge 13, 3) := dk_156 0 13 (dk_at dksJ4_newCapacity_0 20 rfl rfl)
theorem dJ4_newCapacity_23 : decode cJ4_newCapacity 23 = .ok (.new 33, 3) := dk_187 0 33 (dk_at dksJ4_newCapacity_1 0 rfl rfl)
theorem dJ4_newCapacity_26 : decode cJ4_newCapacity 26 = .ok (.dup, 1) := dk_89 (dk_at dksJ4_newCapacity_1 3 rfl rfl)
theorem dJ4_newCapacity_27 : decode cJ4_newCapacity 27 = .ok (.ldc 35, 2) := dk_18 35 (dk_at dksJ4_newCapacity_1 4 rfl rfl)
theorem dJ4_newCapacity_29 : decode cJ4_newCapacity 29 = .ok (.invokespecial 37, 3) := dk_183 0 37 (dk_at dksJ4_newCapacity_1 6 rfl rfl)
theorem dJ4_newCapacity_32 : decode cJ4_newCapacity 32 = .ok (.athrow, 1) := dk_191 (dk_at dksJ4_newCapacity_1 9 rfl rfl)
theorem dJ4_newCapacity_33 : decode cJ4_newCapacity 33 = .ok (.ldc 41, 2) := dk_18 41 (dk_at dksJ4_newCapacity_1 10 rfl rfl)
theorem dJ4_newCapacity_35 : decode cJ4_newCapacity 35 = .ok (.ireturn, 1) := dk_172 (dk_at dksJ4_newCapacity_1 12 rfl rfl)
theorem dJ4_newCapacity_36 : decode cJ4_newCapacity 36 = .ok (.iload_n 1, 1) := dk_27 (dk_at dksJ4_newCapacity_1 13 rfl rfl)
theorem dJ4_newCapacity_37 : decode cJ4_newCapacity 37 = .ok (.iload_n 2, 1) := dk_28 (dk_at dksJ4_newCapacity_1 14 rfl rfl)
theorem dJ4_newCapacity_38 : decode cJ4_newCapacity 38 = .ok (.if_icmp .le 6, 3) := dk_164 0 6 (dk_at dksJ4_newCapacity_1 15 rfl rfl)
theorem dJ4_newCapacity_41 : decode cJ4_newCapacity 41 = .ok (.iload 4, 2) := dk_21 4 (dk_at dksJ4_newCapacity_1 18 rfl rfl)
theorem dJ4_newCapacity_43 : decode cJ4_newCapacity 43 = .ok (.ireturn, 1) := dk_172 (dk_at dksJ4_newCapacity_1 20 rfl rfl)
theorem dJ4_newCapacity_44 : decode cJ4_newCapacity 44 = .ok (.iload_n 3, 1) := dk_29 (dk_at dksJ4_newCapacity_1 21 rfl rfl)
theorem dJ4_newCapacity_45 : decode cJ4_newCapacity 45 = .ok (.iload_n 2, 1) := dk_28 (dk_at dksJ4_newCapacity_1 22 rfl rfl)
theorem dJ4_newCapacity_46 : decode cJ4_newCapacity 46 = .ok (.iadd, 1) := dk_96 (dk_at dksJ4_newCapacity_1 23 rfl rfl)
theorem dJ4_newCapacity_47 : decode cJ4_newCapacity 47 = .ok (.ldc 9, 2) := dk_18 9 (dk_at dksJ4_newCapacity_2 0 rfl rfl)
theorem dJ4_newCapacity_49 : decode cJ4_newCapacity 49 = .ok (.isub, 1) := dk_100 (dk_at dksJ4_newCapacity_2 2 rfl rfl)
theorem dJ4_newCapacity_50 : decode cJ4_newCapacity 50 = .ok (.ifCond .ge 9, 3) := dk_156 0 9 (dk_at dksJ4_newCapacity_2 3 rfl rfl)
theorem dJ4_newCapacity_53 : decode cJ4_newCapacity 53 = .ok (.iload_n 3, 1) := dk_29 (dk_at dksJ4_newCapacity_2 6 rfl rfl)
theorem dJ4_newCapacity_54 : decode cJ4_newCapacity 54 = .ok (.iload_n 2, 1) := dk_28 (dk_at dksJ4_newCapacity_2 7 rfl rfl)
theorem dJ4_newCapacity_55 : decode cJ4_newCapacity 55 = .ok (.iadd, 1) := dk_96 (dk_at dksJ4_newCapacity_2 8 rfl rfl)
theorem dJ4_newCapacity_56 : decode cJ4_newCapacity 56 = .ok (.goto 5, 3) := dk_167 0 5 (dk_at dksJ4_newCapacity_2 9 rfl rfl)
theorem dJ4_newCapacity_59 : decode cJ4_newCapacity 59 = .ok (.ldc 9, 2) := dk_18 9 (dk_at dksJ4_newCapacity_2 12 rfl rfl)
theorem dJ4_newCapacity_61 : decode cJ4_newCapacity 61 = .ok (.ireturn, 1) := dk_172 (dk_at dksJ4_newCapacity_2 14 rfl rfl)
abbrev cJ4_isEmpty : ByteArray := prog_44_method_38_code
def yJ4_isEmpty : MethodName := ⟨RJ4, "isEmpty", "()Z"⟩
def dkwJ4_isEmpty_0 : List UInt8 := [42, 180, 0, 24, 42, 180, 0, 20, 160, 0, 7, 4, 167, 0, 4, 3, 172]
abbrev dktJ4_isEmpty_0 : List UInt8 := dkwJ4_isEmpty_0 ++ []
theorem dksJ4_isEmpty_0 : cJ4_isEmpty.data.toList.drop 0 = dktJ4_isEmpty_0 := by decide +kernel
theorem dJ4_isEmpty_0 : decode cJ4_isEmpty 0 = .ok (.aload_n 0, 1) := dk_42 (dk_at dksJ4_isEmpty_0 0 rfl rfl)
theorem dJ4_isEmpty_1 : decode cJ4_isEmpty 1 = .ok (.getfield 24, 3) := dk_180 0 24 (dk_at dksJ4_isEmpty_0 1 rfl rfl)
theorem dJ4_isEmpty_4 : decode cJ4_isEmpty 4 = .ok (.aload_n 0, 1) := dk_42 (dk_at dksJ4_isEmpty_0 4 rfl rfl)
theorem dJ4_isEmpty_5 : decode cJ4_isEmpty 5 = .ok (.getfield 20, 3) := dk_180 0 20 (dk_at dksJ4_isEmpty_0 5 rfl rfl)
theorem dJ4_isEmpty_8 : decode cJ4_isEmpty 8 = .ok (.if_icmp .ne 7, 3) := dk_160 0 7 (dk_at dksJ4_isEmpty_0 8 rfl rfl)
theorem dJ4_isEmpty_11 : decode cJ4_isEmpty 11 = .ok (.iconst 1, 1) := dk_4 (dk_at dksJ4_isEmpty_0 11 rfl rfl)
theorem dJ4_isEmpty_12 : decode cJ4_isEmpty 12 = .ok (.goto 4, 3) := dk_167 0 4 (dk_at dksJ4_isEmpty_0 12 rfl rfl)
theorem dJ4_isEmpty_15 : decode cJ4_isEmpty 15 = .ok (.iconst 0, 1) := dk_3 (dk_at dksJ4_isEmpty_0 15 rfl rfl)
theorem dJ4_isEmpty_16 : decode cJ4_isEmpty 16 = .ok (.ireturn, 1) := dk_172 (dk_at dksJ4_isEmpty_0 16 rfl rfl)
abbrev cJ4_removeLast : ByteArray := prog_44_method_19_code
def yJ4_removeLast : MethodName := ⟨RJ4, "removeLast", "()Ljava/lang/Object;"⟩
def dkwJ4_removeLast_0 : List UInt8 := [42, 182, 0, 100, 76, 43, 199, 0, 11, 187, 0, 97, 89, 183, 0, 99, 191, 43, 176]
abbrev dktJ4_removeLast_0 : List UInt8 := dkwJ4_removeLast_0 ++ []
theorem dksJ4_removeLast_0 : cJ4_removeLast.data.toList.drop 0 = dktJ4_removeLast_0 := by decide +kernel
theorem dJ4_removeLast_0 : decode cJ4_removeLast 0 = .ok (.aload_n 0, 1) := dk_42 (dk_at dksJ4_removeLast_0 0 rfl rfl)
theorem dJ4_removeLast_1 : decode cJ4_removeLast 1 = .ok (.invokevirtual 100, 3) := dk_182 0 100 (dk_at dksJ4_removeLast_0 1 rfl rfl)
theorem dJ4_removeLast_4 : decode cJ4_removeLast 4 = .ok (.astore_n 1, 1) := dk_76 (dk_at dksJ4_removeLast_0 4 rfl rfl)
theorem dJ4_removeLast_5 : decode cJ4_removeLast 5 = .ok (.aload_n 1, 1) := dk_43 (dk_at dksJ4_removeLast_0 5 rfl rfl)
theorem dJ4_removeLast_6 : decode cJ4_removeLast 6 = .ok (.ifnonnull 11, 3) := dk_199 0 11 (dk_at dksJ4_removeLast_0 6 rfl rfl)
theorem dJ4_removeLast_9 : decode cJ4_removeLast 9 = .ok (.new 97, 3) := dk_187 0 97 (dk_at dksJ4_removeLast_0 9 rfl rfl)
theorem dJ4_removeLast_12 : decode cJ4_removeLast 12 = .ok (.dup, 1) := dk_89 (dk_at dksJ4_removeLast_0 12 rfl rfl)
theorem dJ4_removeLast_13 : decode cJ4_removeLast 13 = .ok (.invokespecial 99, 3) := dk_183 0 99 (dk_at dksJ4_removeLast_0 13 rfl rfl)
theorem dJ4_removeLast_16 : decode cJ4_removeLast 16 = .ok (.athrow, 1) := dk_191 (dk_at dksJ4_removeLast_0 16 rfl rfl)
theorem dJ4_removeLast_17 : decode cJ4_removeLast 17 = .ok (.aload_n 1, 1) := dk_43 (dk_at dksJ4_removeLast_0 17 rfl rfl)
theorem dJ4_removeLast_18 : decode cJ4_removeLast 18 = .ok (.areturn, 1) := dk_176 (dk_at dksJ4_removeLast_0 18 rfl rfl)
abbrev cJ4_pollLast : ByteArray := prog_44_method_21_code
def yJ4_pollLast : MethodName := ⟨RJ4, "pollLast", "()Ljava/lang/Object;"⟩
def dkwJ4_pollLast_1 : List UInt8 := [198, 0, 12, 43, 42, 28, 90, 181, 0, 20, 1, 83, 45, 176]
abbrev dktJ4_pollLast_1 : List UInt8 := dkwJ4_pollLast_1 ++ []
def dkwJ4_pollLast_0 : List UInt8 := [42, 180, 0, 3, 89, 76, 42, 180, 0, 20, 43, 190, 184, 0, 68, 89, 61, 184, 0, 103, 78, 45]
abbrev dktJ4_pollLast_0 : List UInt8 := dkwJ4_pollLast_0 ++ dktJ4_pollLast_1
theorem dksJ4_pollLast_0 : cJ4_pollLast.data.toList.drop 0 = dktJ4_pollLast_0 := by decide +kernel
theorem dksJ4_pollLast_1 : cJ4_pollLast.data.toList.drop 22 = dktJ4_pollLast_1 := dk_seg dksJ4_pollLast_0 22 rfl rfl
theorem dJ4_pollLast_0 : decode cJ4_pollLast 0 = .ok (.aload_n 0, 1) := dk_42 (dk_at dksJ4_pollLast_0 0 rfl rfl)
theorem dJ4_pollLast_1 : decode cJ4_pollLast 1 = .ok (.getfield 3, 3) := dk_180 0 3 (dk_at dksJ4_pollLast_0 1 rfl rfl)
theorem dJ4_pollLast_4 : decode cJ4_pollLast 4 = .ok (.dup, 1) := dk_89 (dk_at dksJ4_pollLast_0 4 rfl rfl)
theorem dJ4_pollLast_5 : decode cJ4_pollLast 5 = .ok (.astore_n 1, 1) := dk_76 (dk_at dksJ4_pollLast_0 5 rfl rfl)
theorem dJ4_pollLast_6 : decode cJ4_pollLast 6 = .ok (.aload_n 0, 1) := dk_42 (dk_at dksJ4_pollLast_0 6 rfl rfl)
theorem dJ4_pollLast_7 : decode cJ4_pollLast 7 = .ok (.getfield 20, 3) := dk_180 0 20 (dk_at dksJ4_pollLast_0 7 rfl rfl)
theorem dJ4_pollLast_10 : decode cJ4_pollLast 10 = .ok (.aload_n 1, 1) := dk_43 (dk_at dksJ4_pollLast_0 10 rfl rfl)
theorem dJ4_pollLast_11 : decode cJ4_pollLast 11 = .ok (.arraylength, 1) := dk_190 (dk_at dksJ4_pollLast_0 11 rfl rfl)
theorem dJ4_pollLast_12 : decode cJ4_pollLast 12 = .ok (.invokestatic 68, 3) := dk_184 0 68 (dk_at dksJ4_pollLast_0 12 rfl rfl)
theorem dJ4_pollLast_15 : decode cJ4_pollLast 15 = .ok (.dup, 1) := dk_89 (dk_at dksJ4_pollLast_0 15 rfl rfl)
theorem dJ4_pollLast_16 : decode cJ4_pollLast 16 = .ok (.istore_n 2, 1) := dk_61 (dk_at dksJ4_pollLast_0 16 rfl rfl)
theorem dJ4_pollLast_17 : decode cJ4_pollLast 17 = .ok (.invokestatic 103, 3) := dk_184 0 103 (dk_at dksJ4_pollLast_0 17 rfl rfl)
theorem dJ4_pollLast_20 : decode cJ4_pollLast 20 = .ok (.astore_n 3, 1) := dk_78 (dk_at dksJ4_pollLast_0 20 rfl rfl)
theorem dJ4_pollLast_21 : decode cJ4_pollLast 21 = .ok (.aload_n 3, 1) := dk_45 (dk_at dksJ4_pollLast_0 21 rfl rfl)
theorem dJ4_pollLast_22 : decode cJ4_pollLast 22 = .ok (.ifnull 12, 3) := dk_198 0 12 (dk_at dksJ4_pollLast_1 0 rfl rfl)
theorem dJ4_pollLast_25 : decode cJ4_pollLast 25 = .ok (.aload_n 1, 1) := dk_43 (dk_at dksJ4_pollLast_1 3 rfl rfl)
theorem dJ4_pollLast_26 : decode cJ4_pollLast 26 = .ok (.aload_n 0, 1) := dk_42 (dk_at dksJ4_pollLast_1 4 rfl rfl)
theorem dJ4_pollLast_27 : decode cJ4_pollLast 27 = .ok (.iload_n 2, 1) := dk_28 (dk_at dksJ4_pollLast_1 5 rfl rfl)
theorem dJ4_pollLast_28 : decode cJ4_pollLast 28 = .ok (.dup_x1, 1) := dk_90 (dk_at dksJ4_pollLast_1 6 rfl rfl)
theorem dJ4_pollLast_29 : decode cJ4_pollLast 29 = .ok (.putfield 20, 3) := dk_181 0 20 (dk_at dksJ4_pollLast_1 7 rfl rfl)
theorem dJ4_pollLast_32 : decode cJ4_pollLast 32 = .ok (.aconst_null, 1) := dk_1 (dk_at dksJ4_pollLast_1 10 rfl rfl)
theorem dJ4_pollLast_33 : decode cJ4_pollLast 33 = .ok (.aastore, 1) := dk_83 (dk_at dksJ4_pollLast_1 11 rfl rfl)
theorem dJ4_pollLast_34 : decode cJ4_pollLast 34 = .ok (.aload_n 3, 1) := dk_45 (dk_at dksJ4_pollLast_1 12 rfl rfl)
theorem dJ4_pollLast_35 : decode cJ4_pollLast 35 = .ok (.areturn, 1) := dk_176 (dk_at dksJ4_pollLast_1 13 rfl rfl)
abbrev cJ4_dec : ByteArray := prog_44_method_7_code
def yJ4_dec : MethodName := ⟨RJ4, "dec", "(II)I"⟩
def dkwJ4_dec_0 : List UInt8 := [132, 0, 255, 26, 156, 0, 7, 27, 4, 100, 59, 26, 172]
abbrev dktJ4_dec_0 : List UInt8 := dkwJ4_dec_0 ++ []
theorem dksJ4_dec_0 : cJ4_dec.data.toList.drop 0 = dktJ4_dec_0 := by decide +kernel
theorem dJ4_dec_0 : decode cJ4_dec 0 = .ok (.iinc 0 (-1), 3) := dk_132 0 255 (dk_at dksJ4_dec_0 0 rfl rfl)
theorem dJ4_dec_3 : decode cJ4_dec 3 = .ok (.iload_n 0, 1) := dk_26 (dk_at dksJ4_dec_0 3 rfl rfl)
theorem dJ4_dec_4 : decode cJ4_dec 4 = .ok (.ifCond .ge 7, 3) := dk_156 0 7 (dk_at dksJ4_dec_0 4 rfl rfl)
theorem dJ4_dec_7 : decode cJ4_dec 7 = .ok (.iload_n 1, 1) := dk_27 (dk_at dksJ4_dec_0 7 rfl rfl)
theorem dJ4_dec_8 : decode cJ4_dec 8 = .ok (.iconst 1, 1) := dk_4 (dk_at dksJ4_dec_0 8 rfl rfl)
theorem dJ4_dec_9 : decode cJ4_dec 9 = .ok (.isub, 1) := dk_100 (dk_at dksJ4_dec_0 9 rfl rfl)
theorem dJ4_dec_10 : decode cJ4_dec 10 = .ok (.istore_n 0, 1) := dk_59 (dk_at dksJ4_dec_0 10 rfl rfl)
theorem dJ4_dec_11 : decode cJ4_dec 11 = .ok (.iload_n 0, 1) := dk_26 (dk_at dksJ4_dec_0 11 rfl rfl)
theorem dJ4_dec_12 : decode cJ4_dec 12 = .ok (.ireturn, 1) := dk_172 (dk_at dksJ4_dec_0 12 rfl rfl)
abbrev cJ4_clear : ByteArray := prog_44_method_53_code
def yJ4_clear : MethodName := ⟨RJ4, "clear", "()V"⟩
def dkwJ4_clear_1 : List UInt8 := [181, 0, 24, 177]
abbrev dktJ4_clear_1 : List UInt8 := dkwJ4_clear_1 ++ []
def dkwJ4_clear_0 : List UInt8 := [42, 180, 0, 3, 42, 180, 0, 24, 42, 180, 0, 20, 184, 0, 181, 42, 42, 3, 90, 181, 0, 20]
abbrev dktJ4_clear_0 : List UInt8 := dkwJ4_clear_0 ++ dktJ4_clear_1
theorem dksJ4_clear_0 : cJ4_clear.data.toList.drop 0 = dktJ4_clear_0 := by decide +kernel
theorem dksJ4_clear_1 : cJ4_clear.data.toList.drop 22 = dktJ4_clear_1 := dk_seg dksJ4_clear_0 22 rfl rfl
theorem dJ4_clear_0 : decode cJ4_clear 0 = .ok (.aload_n 0, 1) := dk_42 (dk_at dksJ4_clear_0 0 rfl rfl)
theorem dJ4_clear_1 : decode cJ4_clear 1 = .ok (.getfield 3, 3) := dk_180 0 3 (dk_at dksJ4_clear_0 1 rfl rfl)
theorem dJ4_clear_4 : decode cJ4_clear 4 = .ok (.aload_n 0, 1) := dk_42 (dk_at dksJ4_clear_0 4 rfl rfl)
theorem dJ4_clear_5 : decode cJ4_clear 5 = .ok (.getfield 24, 3) := dk_180 0 24 (dk_at dksJ4_clear_0 5 rfl rfl)
theorem dJ4_clear_8 : decode cJ4_clear 8 = .ok (.aload_n 0, 1) := dk_42 (dk_at dksJ4_clear_0 8 rfl rfl)
theorem dJ4_clear_9 : decode cJ4_clear 9 = .ok (.getfield 20, 3) := dk_180 0 20 (dk_at dksJ4_clear_0 9 rfl rfl)
theorem dJ4_clear_12 : decode cJ4_clear 12 = .ok (.invokestatic 181, 3) := dk_184 0 181 (dk_at dksJ4_clear_0 12 rfl rfl)
theorem dJ4_clear_15 : decode cJ4_clear 15 = .ok (.aload_n 0, 1) := dk_42 (dk_at dksJ4_clear_0 15 rfl rfl)
theorem dJ4_clear_16 : decode cJ4_clear 16 = .ok (.aload_n 0, 1) := dk_42 (dk_at dksJ4_clear_0 16 rfl rfl)
theorem dJ4_clear_17 : decode cJ4_clear 17 = .ok (.iconst 0, 1) := dk_3 (dk_at dksJ4_clear_0 17 rfl rfl)
theorem dJ4_clear_18 : decode cJ4_clear 18 = .ok (.dup_x1, 1) := dk_90 (dk_at dksJ4_clear_0 18 rfl rfl)
theorem dJ4_clear_19 : decode cJ4_clear 19 = .ok (.putfield 20, 3) := dk_181 0 20 (dk_at dksJ4_clear_0 19 rfl rfl)
theorem dJ4_clear_22 : decode cJ4_clear 22 = .ok (.putfield 24, 3) := dk_181 0 24 (dk_at dksJ4_clear_1 0 rfl rfl)
theorem dJ4_clear_25 : decode cJ4_clear 25 = .ok (.return_, 1) := dk_177 (dk_at dksJ4_clear_1 3 rfl rfl)
abbrev cJ4_circularClear : ByteArray := prog_44_method_54_code
def yJ4_circularClear : MethodName := ⟨RJ4, "circularClear", "([Ljava/lang/Object;II)V"⟩
def dkwJ4_circularClear_1 : List UInt8 := [167, 255, 244, 29, 28, 160, 0, 6, 167, 0, 10, 3, 60, 28, 62, 167, 255, 229, 177]
abbrev dktJ4_circularClear_1 : List UInt8 := dkwJ4_circularClear_1 ++ []
def dkwJ4_circularClear_0 : List UInt8 := [27, 28, 163, 0, 7, 28, 167, 0, 5, 42, 190, 62, 27, 29, 162, 0, 13, 42, 27, 1, 83, 132, 1, 1]
abbrev dktJ4_circularClear_0 : List UInt8 := dkwJ4_circularClear_0 ++ dktJ4_circularClear_1
theorem dksJ4_circularClear_0 : cJ4_circularClear.data.toList.drop 0 = dktJ4_circularClear_0 := by decide +kernel
theorem dksJ4_circularClear_1 : cJ4_circularClear.data.toList.drop 24 = dktJ4_circularClear_1 := dk_seg dksJ4_circularClear_0 24 rfl rfl
theorem dJ4_circularClear_0 : decode cJ4_circularClear 0 = .ok (.iload_n 1, 1) := dk_27 (dk_at dksJ4_circularClear_0 0 rfl rfl)
theorem dJ4_circularClear_1 : decode cJ4_circularClear 1 = .ok (.iload_n 2, 1) := dk_28 (dk_at dksJ4_circularClear_0 1 rfl rfl)
theorem dJ4_circularClear_2 : decode cJ4_circularClear 2 = .ok (.if_icmp .gt 7, 3) := dk_163 0 7 (dk_at dksJ4_circularClear_0 2 rfl rfl)
theorem dJ4_circularClear_5 : decode cJ4_circularClear 5 = .ok (.iload_n 2, 1) := dk_28 (dk_at dksJ4_circularClear_0 5 rfl rfl)
theorem dJ4_circularClear_6 : decode cJ4_circularClear 6 = .ok (.goto 5, 3) := dk_167 0 5 (dk_at dksJ4_circularClear_0 6 rfl rfl)
theorem dJ4_circularClear_9 : decode cJ4_circularClear 9 = .ok (.aload_n 0, 1) := dk_42 (dk_at dksJ4_circularClear_0 9 rfl rfl)
theorem dJ4_circularClear_10 : decode cJ4_circularClear 10 = .ok (.arraylength, 1) := dk_190 (dk_at dksJ4_circularClear_0 10 rfl rfl)
theorem dJ4_circularClear_11 : decode cJ4_circularClear 11 = .ok (.istore_n 3, 1) := dk_62 (dk_at dksJ4_circularClear_0 11 rfl rfl)
theorem dJ4_circularClear_12 : decode cJ4_circularClear 12 = .ok (.iload_n 1, 1) := dk_27 (dk_at dksJ4_circularClear_0 12 rfl rfl)
theorem dJ4_circularClear_13 : decode cJ4_circularClear 13 = .ok (.iload_n 3, 1) := dk_29 (dk_at dksJ4_circularClear_0 13 rfl rfl)
theorem dJ4_circularClear_14 : decode cJ4_circularClear 14 = .ok (.if_icmp .ge 13, 3) := dk_162 0 13 (dk_at dksJ4_circularClear_0 14 rfl rfl)
theorem dJ4_circularClear_17 : decode cJ4_circularClear 17 = .ok (.aload_n 0, 1) := dk_42 (dk_at dksJ4_circularClear_0 17 rfl rfl)
theorem dJ4_circularClear_18 : decode cJ4_circularClear 18 = .ok (.iload_n 1, 1) := dk_27 (dk_at dksJ4_circularClear_0 18 rfl rfl)
theorem dJ4_circularClear_19 : decode cJ4_circularClear 19 = .ok (.aconst_null, 1) := dk_1 (dk_at dksJ4_circularClear_0 19 rfl rfl)
theorem dJ4_circularClear_20 : decode cJ4_circularClear 20 = .ok (.aastore, 1) := dk_83 (dk_at dksJ4_circularClear_0 20 rfl rfl)
theorem dJ4_circularClear_21 : decode cJ4_circularClear 21 = .ok (.iinc 1 1, 3) := dk_132 1 1 (dk_at dksJ4_circularClear_0 21 rfl rfl)
theorem dJ4_circularClear_24 : decode cJ4_circularClear 24 = .ok (.goto (-12), 3) := dk_167 255 244 (dk_at dksJ4_circularClear_1 0 rfl rfl)
theorem dJ4_circularClear_27 : decode cJ4_circularClear 27 = .ok (.iload_n 3, 1) := dk_29 (dk_at dksJ4_circularClear_1 3 rfl rfl)
theorem dJ4_circularClear_28 : decode cJ4_circularClear 28 = .ok (.iload_n 2, 1) := dk_28 (dk_at dksJ4_circularClear_1 4 rfl rfl)
theorem dJ4_circularClear_29 : decode cJ4_circularClear 29 = .ok (.if_icmp .ne 6, 3) := dk_160 0 6 (dk_at dksJ4_circularClear_1 5 rfl rfl)
theorem dJ4_circularClear_32 : decode cJ4_circularClear 32 = .ok (.goto 10, 3) := dk_167 0 10 (dk_at dksJ4_circularClear_1 8 rfl rfl)
theorem dJ4_circularClear_35 : decode cJ4_circularClear 35 = .ok (.iconst 0, 1) := dk_3 (dk_at dksJ4_circularClear_1 11 rfl rfl)
theorem dJ4_circularClear_36 : decode cJ4_circularClear 36 = .ok (.istore_n 1, 1) := dk_60 (dk_at dksJ4_circularClear_1 12 rfl rfl)
theorem dJ4_circularClear_37 : decode cJ4_circularClear 37 = .ok (.iload_n 2, 1) := dk_28 (dk_at dksJ4_circularClear_1 13 rfl rfl)
theorem dJ4_circularClear_38 : decode cJ4_circularClear 38 = .ok (.istore_n 3, 1) := dk_62 (dk_at dksJ4_circularClear_1 14 rfl rfl)
theorem dJ4_circularClear_39 : decode cJ4_circularClear 39 = .ok (.goto (-27), 3) := dk_167 255 229 (dk_at dksJ4_circularClear_1 15 rfl rfl)
theorem dJ4_circularClear_42 : decode cJ4_circularClear 42 = .ok (.return_, 1) := dk_177 (dk_at dksJ4_circularClear_1 18 rfl rfl)
theorem q97 : (Jvm.Cond.initialized "java/util/ArrayDeque") ∈ lw_all := lw_g (lw_at lw_m1 7 rfl) rfl
theorem q257 : (Jvm.Cond.instantiable "java/util/ArrayDeque" (3 : Nat)) ∈ lw_all := lw_g (lw_at lw_m1 167 rfl) rfl
theorem q259 : (Jvm.Cond.instanceMethod ({ cls := "java/util/ArrayDeque", name := "<init>", desc := "()V" } : Jvm.MethodName)) ∈ lw_all := lw_g (lw_at lw_m1 169 rfl) rfl
theorem q260 : (Jvm.Cond.code ({ cls := "java/util/ArrayDeque", name := "<init>", desc := "()V" } : Jvm.MethodName) prog_44_method_3_code (1 : Nat) (Option.none : Option Jvm.ClassFile.FieldType)) ∈ lw_all := lw_g (lw_at lw_m1 170 rfl) rfl
theorem q261 : (Jvm.Cond.methodLink "java/util/ArrayDeque" (42 : Nat) ({ cls := "java/util/AbstractCollection", name := "<init>", desc := "()V" } : Jvm.MethodName)) ∈ lw_all := lw_g (lw_at lw_m1 171 rfl) rfl
theorem q262 : (Jvm.Cond.classLink "java/util/ArrayDeque" (47 : Nat) "java/lang/Object") ∈ lw_all := lw_g (lw_at lw_m1 172 rfl) rfl
theorem q264 : (Jvm.Cond.fieldLink "java/util/ArrayDeque" (3 : Nat) "java/util/ArrayDeque" "elements" "[Ljava/lang/Object;") ∈ lw_all := lw_g (lw_at lw_m1 174 rfl) rfl
theorem q265 : (Jvm.Cond.fieldLink "java/util/ArrayDeque" (24 : Nat) "java/util/ArrayDeque" "head" "I") ∈ lw_all := lw_g (lw_at lw_m1 175 rfl) rfl
theorem q266 : (Jvm.Cond.fieldLink "java/util/ArrayDeque" (20 : Nat) "java/util/ArrayDeque" "tail" "I") ∈ lw_all := lw_g (lw_at lw_m1 176 rfl) rfl
theorem q267 : (Jvm.Cond.lays "java/util/ArrayDeque" "java/util/ArrayDeque" "elements" "[Ljava/lang/Object;") ∈ lw_all := lw_g (lw_at lw_m1 177 rfl) rfl
theorem q268 : (Jvm.Cond.soleField "java/util/ArrayDeque" "elements") ∈ lw_all := lw_g (lw_at lw_m1 178 rfl) rfl
theorem q269 : (Jvm.Cond.lays "java/util/ArrayDeque" "java/util/ArrayDeque" "head" "I") ∈ lw_all := lw_g (lw_at lw_m1 179 rfl) rfl
theorem q270 : (Jvm.Cond.soleField "java/util/ArrayDeque" "head") ∈ lw_all := lw_g (lw_at lw_m1 180 rfl) rfl
theorem q271 : (Jvm.Cond.lays "java/util/ArrayDeque" "java/util/ArrayDeque" "tail" "I") ∈ lw_all := lw_g (lw_at lw_m1 181 rfl) rfl
theorem q272 : (Jvm.Cond.soleField "java/util/ArrayDeque" "tail") ∈ lw_all := lw_g (lw_at lw_m1 182 rfl) rfl
theorem q273 : (Jvm.Cond.superclass "java/util/ArrayDeque" "java/util/AbstractCollection") ∈ lw_all := lw_g (lw_at lw_m1 183 rfl) rfl
theorem q854 : (Jvm.Cond.selects "java/util/ArrayDeque" ({ cls := "java/lang/Object", name := "getClass", desc := "()Ljava/lang/Class;" } : Jvm.MethodName) ({ cls := "java/lang/Object", name := "getClass", desc := "()Ljava/lang/Class;" } : Jvm.MethodName)) ∈ lw_all := lw_g (lw_at lw_m4 44 rfl) rfl
theorem q1259 : (Jvm.Cond.castable "java/util/ArrayDeque" "java/util/Deque") ∈ lw_tbl := lw_at lw_m5 209 rfl
theorem q1260 : (Jvm.Cond.selects "java/util/ArrayDeque" ({ cls := "java/util/Deque", name := "size", desc := "()I" } : Jvm.MethodName) ({ cls := "java/util/ArrayDeque", name := "size", desc := "()I" } : Jvm.MethodName)) ∈ lw_all := lw_g (lw_at lw_m5 210 rfl) rfl
theorem q1261 : (Jvm.Cond.unhidden "java/util/ArrayDeque" "size" "()I") ∈ lw_tbl := lw_at lw_m5 211 rfl
theorem q1262 : (Jvm.Cond.instanceMethod ({ cls := "java/util/ArrayDeque", name := "size", desc := "()I" } : Jvm.MethodName)) ∈ lw_all := lw_g (lw_at lw_m5 212 rfl) rfl
theorem q1263 : (Jvm.Cond.publicMethod ({ cls := "java/util/ArrayDeque", name := "size", desc := "()I" } : Jvm.MethodName)) ∈ lw_tbl := lw_at lw_m5 213 rfl
theorem q1264 : (Jvm.Cond.code ({ cls := "java/util/ArrayDeque", name := "size", desc := "()I" } : Jvm.MethodName) prog_44_method_37_code (1 : Nat) (Option.some Jvm.ClassFile.FieldType.int)) ∈ lw_all := lw_g (lw_at lw_m5 214 rfl) rfl
theorem q1265 : (Jvm.Cond.methodLink "java/util/ArrayDeque" (127 : Nat) ({ cls := "java/util/ArrayDeque", name := "sub", desc := "(III)I" } : Jvm.MethodName)) ∈ lw_all := lw_g (lw_at lw_m5 215 rfl) rfl
theorem q1266 : (Jvm.Cond.static ({ cls := "java/util/ArrayDeque", name := "sub", desc := "(III)I" } : Jvm.MethodName)) ∈ lw_all := lw_g (lw_at lw_m5 216 rfl) rfl
theorem q1267 : (Jvm.Cond.code ({ cls := "java/util/ArrayDeque", name := "sub", desc := "(III)I" } : Jvm.MethodName) prog_44_method_9_code (3 : Nat) (Option.some Jvm.ClassFile.FieldType.int)) ∈ lw_all := lw_g (lw_at lw_m5 217 rfl) rfl
theorem q1274 : (Jvm.Cond.selects "java/util/ArrayDeque" ({ cls := "java/util/Deque", name := "removeFirst", desc := "()Ljava/lang/Object;" } : Jvm.MethodName) ({ cls := "java/util/ArrayDeque", name := "removeFirst", desc := "()Ljava/lang/Object;" } : Jvm.MethodName)) ∈ lw_all := lw_g (lw_at lw_m5 224 rfl) rfl
theorem q1275 : (Jvm.Cond.unhidden "java/util/ArrayDeque" "removeFirst" "()Ljava/lang/Object;") ∈ lw_tbl := lw_at lw_m5 225 rfl
theorem q1276 : (Jvm.Cond.instanceMethod ({ cls := "java/util/ArrayDeque", name := "removeFirst", desc := "()Ljava/lang/Object;" } : Jvm.MethodName)) ∈ lw_all := lw_g (lw_at lw_m5 226 rfl) rfl
theorem q1277 : (Jvm.Cond.publicMethod ({ cls := "java/util/ArrayDeque", name := "removeFirst", desc := "()Ljava/lang/Object;" } : Jvm.MethodName)) ∈ lw_tbl := lw_at lw_m5 227 rfl
theorem q1278 : (Jvm.Cond.code ({ cls := "java/util/ArrayDeque", name := "removeFirst", desc := "()Ljava/lang/Object;" } : Jvm.MethodName) prog_44_method_18_code (2 : Nat) (Option.some (Jvm.ClassFile.FieldType.object "java/lang/Object"))) ∈ lw_all := lw_g (lw_at lw_m5 228 rfl) rfl
theorem q1279 : (Jvm.Cond.methodLink "java/util/ArrayDeque" (93 : Nat) ({ cls := "java/util/ArrayDeque", name := "pollFirst", desc := "()Ljava/lang/Object;" } : Jvm.MethodName)) ∈ lw_all := lw_g (lw_at lw_m5 229 rfl) rfl
theorem q1280 : (Jvm.Cond.instanceMethod ({ cls := "java/util/ArrayDeque", name := "pollFirst", desc := "()Ljava/lang/Object;" } : Jvm.MethodName)) ∈ lw_all := lw_g (lw_at lw_m5 230 rfl) rfl
theorem q1281 : (Jvm.Cond.selects "java/util/ArrayDeque" ({ cls := "java/util/ArrayDeque", name := "pollFirst", desc := "()Ljava/lang/Object;" } : Jvm.MethodName) ({ cls := "java/util/ArrayDeque", name := "pollFirst", desc := "()Ljava/lang/Object;" } : Jvm.MethodName)) ∈ lw_all := lw_g (lw_at lw_m5 231 rfl) rfl
theorem q1282 : (Jvm.Cond.code ({ cls := "java/util/ArrayDeque", name := "pollFirst", desc := "()Ljava/lang/Object;" } : Jvm.MethodName) prog_44_method_20_code (4 : Nat) (Option.some (Jvm.ClassFile.FieldType.object "java/lang/Object"))) ∈ lw_all := lw_g (lw_at lw_m5 232 rfl) rfl
theorem q1283 : (Jvm.Cond.methodLink "java/util/ArrayDeque" (103 : Nat) ({ cls := "java/util/ArrayDeque", name := "elementAt", desc := "([Ljava/lang/Object;I)Ljava/lang/Object;" } : Jvm.MethodName)) ∈ lw_all := lw_g (lw_at lw_m5 233 rfl) rfl
theorem q1284 : (Jvm.Cond.static ({ cls := "java/util/ArrayDeque", name := "elementAt", desc := "([Ljava/lang/Object;I)Ljava/lang/Object;" } : Jvm.MethodName)) ∈ lw_all := lw_g (lw_at lw_m5 234 rfl) rfl
theorem q1285 : (Jvm.Cond.code ({ cls := "java/util/ArrayDeque", name := "elementAt", desc := "([Ljava/lang/Object;I)Ljava/lang/Object;" } : Jvm.MethodName) prog_44_method_10_code (2 : Nat) (Option.some (Jvm.ClassFile.FieldType.object "java/lang/Object"))) ∈ lw_all := lw_g (lw_at lw_m5 235 rfl) rfl
theorem q1286 : (Jvm.Cond.methodLink "java/util/ArrayDeque" (74 : Nat) ({ cls := "java/util/ArrayDeque", name := "inc", desc := "(II)I" } : Jvm.MethodName)) ∈ lw_all := lw_g (lw_at lw_m5 236 rfl) rfl
theorem q1287 : (Jvm.Cond.static ({ cls := "java/util/ArrayDeque", name := "inc", desc := "(II)I" } : Jvm.MethodName)) ∈ lw_all := lw_g (lw_at lw_m5 237 rfl) rfl
theorem q1288 : (Jvm.Cond.code ({ cls := "java/util/ArrayDeque", name := "inc", desc := "(II)I" } : Jvm.MethodName) prog_44_method_6_code (2 : Nat) (Option.some Jvm.ClassFile.FieldType.int)) ∈ lw_all := lw_g (lw_at lw_m5 238 rfl) rfl
theorem q1289 : (Jvm.Cond.classLink "java/util/ArrayDeque" (97 : Nat) "java/util/NoSuchElementException") ∈ lw_all := lw_g (lw_at lw_m5 239 rfl) rfl
theorem q1298 : (Jvm.Cond.methodLink "java/util/ArrayDeque" (99 : Nat) ({ cls := "java/util/NoSuchElementException", name := "<init>", desc := "()V" } : Jvm.MethodName)) ∈ lw_all := lw_g (lw_at lw_m6 8 rfl) rfl
theorem q1319 : (Jvm.Cond.selects "java/util/ArrayDeque" ({ cls := "java/util/Deque", name := "addLast", desc := "(Ljava/lang/Object;)V" } : Jvm.MethodName) ({ cls := "java/util/ArrayDeque", name := "addLast", desc := "(Ljava/lang/Object;)V" } : Jvm.MethodName)) ∈ lw_all := lw_g (lw_at lw_m6 29 rfl) rfl
theorem q1320 : (Jvm.Cond.unhidden "java/util/ArrayDeque" "addLast" "(Ljava/lang/Object;)V") ∈ lw_tbl := lw_at lw_m6 30 rfl
theorem q1321 : (Jvm.Cond.instanceMethod ({ cls := "java/util/ArrayDeque", name := "addLast", desc := "(Ljava/lang/Object;)V" } : Jvm.MethodName)) ∈ lw_all := lw_g (lw_at lw_m6 31 rfl) rfl
theorem q1322 : (Jvm.Cond.publicMethod ({ cls := "java/util/ArrayDeque", name := "addLast", desc := "(Ljava/lang/Object;)V" } : Jvm.MethodName)) ∈ lw_tbl := lw_at lw_m6 32 rfl
theorem q1323 : (Jvm.Cond.code ({ cls := "java/util/ArrayDeque", name := "addLast", desc := "(Ljava/lang/Object;)V" } : Jvm.MethodName) prog_44_method_13_code (3 : Nat) (Option.none : Option Jvm.ClassFile.FieldType)) ∈ lw_all := lw_g (lw_at lw_m6 33 rfl) rfl
theorem q1324 : (Jvm.Cond.methodLink "java/util/ArrayDeque" (71 : Nat) ({ cls := "java/util/ArrayDeque", name := "grow", desc := "(I)V" } : Jvm.MethodName)) ∈ lw_all := lw_g (lw_at lw_m6 34 rfl) rfl
theorem q1325 : (Jvm.Cond.privateMethod ({ cls := "java/util/ArrayDeque", name := "grow", desc := "(I)V" } : Jvm.MethodName)) ∈ lw_tbl := lw_at lw_m6 35 rfl
theorem q1326 : (Jvm.Cond.instanceMethod ({ cls := "java/util/ArrayDeque", name := "grow", desc := "(I)V" } : Jvm.MethodName)) ∈ lw_all := lw_g (lw_at lw_m6 36 rfl) rfl
theorem q1327 : (Jvm.Cond.code ({ cls := "java/util/ArrayDeque", name := "grow", desc := "(I)V" } : Jvm.MethodName) prog_44_method_1_code (9 : Nat) (Option.none : Option Jvm.ClassFile.FieldType)) ∈ lw_all := lw_g (lw_at lw_m6 37 rfl) rfl
theorem q1328 : (Jvm.Cond.constant "java/util/ArrayDeque" (9 : Nat) (2147483639 : Int32)) ∈ lw_all := lw_g (lw_at lw_m6 38 rfl) rfl
theorem q1329 : (Jvm.Cond.methodLink "java/util/ArrayDeque" (10 : Nat) ({ cls := "java/util/ArrayDeque", name := "newCapacity", desc := "(II)I" } : Jvm.MethodName)) ∈ lw_all := lw_g (lw_at lw_m6 39 rfl) rfl
theorem q1330 : (Jvm.Cond.privateMethod ({ cls := "java/util/ArrayDeque", name := "newCapacity", desc := "(II)I" } : Jvm.MethodName)) ∈ lw_tbl := lw_at lw_m6 40 rfl
theorem q1331 : (Jvm.Cond.instanceMethod ({ cls := "java/util/ArrayDeque", name := "newCapacity", desc := "(II)I" } : Jvm.MethodName)) ∈ lw_all := lw_g (lw_at lw_m6 41 rfl) rfl
theorem q1332 : (Jvm.Cond.code ({ cls := "java/util/ArrayDeque", name := "newCapacity", desc := "(II)I" } : Jvm.MethodName) prog_44_method_2_code (5 : Nat) (Option.some Jvm.ClassFile.FieldType.int)) ∈ lw_all := lw_g (lw_at lw_m6 42 rfl) rfl
theorem q1333 : (Jvm.Cond.classLink "java/util/ArrayDeque" (33 : Nat) "java/lang/IllegalStateException") ∈ lw_all := lw_g (lw_at lw_m6 43 rfl) rfl
theorem q1342 : (Jvm.Cond.stringRef "java/util/ArrayDeque" (35 : Nat) "Sorry, deque too big") ∈ lw_tbl := lw_at lw_m6 52 rfl
theorem q1343 : (Jvm.Cond.methodLink "java/util/ArrayDeque" (37 : Nat) ({ cls := "java/lang/IllegalStateException", name := "<init>", desc := "(Ljava/lang/String;)V" } : Jvm.MethodName)) ∈ lw_all := lw_g (lw_at lw_m6 53 rfl) rfl
theorem q1349 : (Jvm.Cond.constant "java/util/ArrayDeque" (41 : Nat) (2147483647 : Int32)) ∈ lw_all := lw_g (lw_at lw_m6 59 rfl) rfl
theorem q1350 : (Jvm.Cond.methodLink "java/util/ArrayDeque" (14 : Nat) ({ cls := "java/util/Arrays", name := "copyOf", desc := "([Ljava/lang/Object;I)[Ljava/lang/Object;" } : Jvm.MethodName)) ∈ lw_all := lw_g (lw_at lw_m6 60 rfl) rfl
theorem q1351 : (Jvm.Cond.methodLink "java/util/ArrayDeque" (27 : Nat) ({ cls := "java/lang/System", name := "arraycopy", desc := "(Ljava/lang/Object;ILjava/lang/Object;II)V" } : Jvm.MethodName)) ∈ lw_all := lw_g (lw_at lw_m6 61 rfl) rfl
theorem q2000 : (Jvm.Cond.selects "java/util/ArrayDeque" ({ cls := "java/util/Collection", name := "isEmpty", desc := "()Z" } : Jvm.MethodName) ({ cls := "java/util/ArrayDeque", name := "isEmpty", desc := "()Z" } : Jvm.MethodName)) ∈ lw_all := lw_g (lw_at lw_m8 230 rfl) rfl
theorem q2001 : (Jvm.Cond.unhidden "java/util/ArrayDeque" "isEmpty" "()Z") ∈ lw_tbl := lw_at lw_m8 231 rfl
theorem q2002 : (Jvm.Cond.instanceMethod ({ cls := "java/util/ArrayDeque", name := "isEmpty", desc := "()Z" } : Jvm.MethodName)) ∈ lw_all := lw_g (lw_at lw_m8 232 rfl) rfl
theorem q2003 : (Jvm.Cond.publicMethod ({ cls := "java/util/ArrayDeque", name := "isEmpty", desc := "()Z" } : Jvm.MethodName)) ∈ lw_tbl := lw_at lw_m8 233 rfl
theorem q2004 : (Jvm.Cond.code ({ cls := "java/util/ArrayDeque", name := "isEmpty", desc := "()Z" } : Jvm.MethodName) prog_44_method_38_code (1 : Nat) (Option.some Jvm.ClassFile.FieldType.boolean)) ∈ lw_all := lw_g (lw_at lw_m8 234 rfl) rfl
theorem q2012 : (Jvm.Cond.selects "java/util/ArrayDeque" ({ cls := "java/util/Deque", name := "removeLast", desc := "()Ljava/lang/Object;" } : Jvm.MethodName) ({ cls := "java/util/ArrayDeque", name := "removeLast", desc := "()Ljava/lang/Object;" } : Jvm.MethodName)) ∈ lw_all := lw_g (lw_at lw_m9 2 rfl) rfl
theorem q2013 : (Jvm.Cond.unhidden "java/util/ArrayDeque" "removeLast" "()Ljava/lang/Object;") ∈ lw_tbl := lw_at lw_m9 3 rfl
theorem q2014 : (Jvm.Cond.instanceMethod ({ cls := "java/util/ArrayDeque", name := "removeLast", desc := "()Ljava/lang/Object;" } : Jvm.MethodName)) ∈ lw_all := lw_g (lw_at lw_m9 4 rfl) rfl
theorem q2015 : (Jvm.Cond.publicMethod ({ cls := "java/util/ArrayDeque", name := "removeLast", desc := "()Ljava/lang/Object;" } : Jvm.MethodName)) ∈ lw_tbl := lw_at lw_m9 5 rfl
theorem q2016 : (Jvm.Cond.code ({ cls := "java/util/ArrayDeque", name := "removeLast", desc := "()Ljava/lang/Object;" } : Jvm.MethodName) prog_44_method_19_code (2 : Nat) (Option.some (Jvm.ClassFile.FieldType.object "java/lang/Object"))) ∈ lw_all := lw_g (lw_at lw_m9 6 rfl) rfl
theorem q2017 : (Jvm.Cond.methodLink "java/util/ArrayDeque" (100 : Nat) ({ cls := "java/util/ArrayDeque", name := "pollLast", desc := "()Ljava/lang/Object;" } : Jvm.MethodName)) ∈ lw_all := lw_g (lw_at lw_m9 7 rfl) rfl
theorem q2018 : (Jvm.Cond.instanceMethod ({ cls := "java/util/ArrayDeque", name := "pollLast", desc := "()Ljava/lang/Object;" } : Jvm.MethodName)) ∈ lw_all := lw_g (lw_at lw_m9 8 rfl) rfl
theorem q2019 : (Jvm.Cond.selects "java/util/ArrayDeque" ({ cls := "java/util/ArrayDeque", name := "pollLast", desc := "()Ljava/lang/Object;" } : Jvm.MethodName) ({ cls := "java/util/ArrayDeque", name := "pollLast", desc := "()Ljava/lang/Object;" } : Jvm.MethodName)) ∈ lw_all := lw_g (lw_at lw_m9 9 rfl) rfl
theorem q2020 : (Jvm.Cond.code ({ cls := "java/util/ArrayDeque", name := "pollLast", desc := "()Ljava/lang/Object;" } : Jvm.MethodName) prog_44_method_21_code (4 : Nat) (Option.some (Jvm.ClassFile.FieldType.object "java/lang/Object"))) ∈ lw_all := lw_g (lw_at lw_m9 10 rfl) rfl
theorem q2021 : (Jvm.Cond.methodLink "java/util/ArrayDeque" (68 : Nat) ({ cls := "java/util/ArrayDeque", name := "dec", desc := "(II)I" } : Jvm.MethodName)) ∈ lw_all := lw_g (lw_at lw_m9 11 rfl) rfl
theorem q2022 : (Jvm.Cond.static ({ cls := "java/util/ArrayDeque", name := "dec", desc := "(II)I" } : Jvm.MethodName)) ∈ lw_all := lw_g (lw_at lw_m9 12 rfl) rfl
theorem q2023 : (Jvm.Cond.code ({ cls := "java/util/ArrayDeque", name := "dec", desc := "(II)I" } : Jvm.MethodName) prog_44_method_7_code (2 : Nat) (Option.some Jvm.ClassFile.FieldType.int)) ∈ lw_all := lw_g (lw_at lw_m9 13 rfl) rfl
theorem q2043 : (Jvm.Cond.selects "java/util/ArrayDeque" ({ cls := "java/util/Collection", name := "clear", desc := "()V" } : Jvm.MethodName) ({ cls := "java/util/ArrayDeque", name := "clear", desc := "()V" } : Jvm.MethodName)) ∈ lw_all := lw_g (lw_at lw_m9 33 rfl) rfl
theorem q2044 : (Jvm.Cond.unhidden "java/util/ArrayDeque" "clear" "()V") ∈ lw_tbl := lw_at lw_m9 34 rfl
theorem q2045 : (Jvm.Cond.instanceMethod ({ cls := "java/util/ArrayDeque", name := "clear", desc := "()V" } : Jvm.MethodName)) ∈ lw_all := lw_g (lw_at lw_m9 35 rfl) rfl
theorem q2046 : (Jvm.Cond.publicMethod ({ cls := "java/util/ArrayDeque", name := "clear", desc := "()V" } : Jvm.MethodName)) ∈ lw_tbl := lw_at lw_m9 36 rfl
theorem q2047 : (Jvm.Cond.code ({ cls := "java/util/ArrayDeque", name := "clear", desc := "()V" } : Jvm.MethodName) prog_44_method_53_code (1 : Nat) (Option.none : Option Jvm.ClassFile.FieldType)) ∈ lw_all := lw_g (lw_at lw_m9 37 rfl) rfl
theorem q2048 : (Jvm.Cond.methodLink "java/util/ArrayDeque" (181 : Nat) ({ cls := "java/util/ArrayDeque", name := "circularClear", desc := "([Ljava/lang/Object;II)V" } : Jvm.MethodName)) ∈ lw_all := lw_g (lw_at lw_m9 38 rfl) rfl
theorem q2049 : (Jvm.Cond.static ({ cls := "java/util/ArrayDeque", name := "circularClear", desc := "([Ljava/lang/Object;II)V" } : Jvm.MethodName)) ∈ lw_all := lw_g (lw_at lw_m9 39 rfl) rfl
theorem q2050 : (Jvm.Cond.code ({ cls := "java/util/ArrayDeque", name := "circularClear", desc := "([Ljava/lang/Object;II)V" } : Jvm.MethodName) prog_44_method_54_code (4 : Nat) (Option.none : Option Jvm.ClassFile.FieldType)) ∈ lw_all := lw_g (lw_at lw_m9 40 rfl) rfl
theorem q2533 : (Jvm.Cond.selects "java/util/ArrayDeque" ({ cls := "java/util/AbstractCollection", name := "size", desc := "()I" } : Jvm.MethodName) ({ cls := "java/util/ArrayDeque", name := "size", desc := "()I" } : Jvm.MethodName)) ∈ lw_all := lw_g (lw_at lw_m11 43 rfl) rfl
theorem q2546 : (Jvm.Cond.castable "java/util/ArrayDeque" "java/lang/Object") ∈ lw_tbl := lw_at lw_m11 56 rfl
theorem in_J4 : ∀ w ∈ wsJ40, w ∈ lw_all := lw_in wsJ40 [267, 269, 271] (by decide +kernel) (by decide +kernel)
/-! java/util/LinkedList$Node -/
set_option maxRecDepth 100000
def RJ24 : String := "java/util/LinkedList$Node"
def TJ24 : u_T := fun k => match k with
  | 0 => ("java/util/LinkedList$Node", "item", "Ljava/lang/Object;", false)
  | 1 => ("java/util/LinkedList$Node", "next", "Ljava/util/LinkedList$Node;", false)
  | _ => ("java/util/LinkedList$Node", "prev", "Ljava/util/LinkedList$Node;", false)
def tyJ24 : Nat → FieldType := fun k => match k with
  | 0 => .object "java/lang/Object"
  | 1 => .object "java/util/LinkedList$Node"
  | _ => .object "java/util/LinkedList$Node"
abbrev wsJ240 : List Cond := u_ws RJ24 TJ24 3
theorem nmJ24 : ∀ a, a < 3 → ∀ b, b < 3 → a ≠ b → (TJ24 a).2.1 ≠ (TJ24 b).2.1 := by decide +kernel
theorem tyJ24_ok : ∀ k, k < 3 → parseFieldDescriptor (TJ24 k).2.2.1 = some (tyJ24 k) := by decide +kernel
abbrev cJ24_init : ByteArray := prog_58_method_1_code
def yJ24_init : MethodName := ⟨RJ24, "<init>", "(Ljava/util/LinkedList$Node;Ljava/lang/Object;Ljava/util/LinkedList$Node;)V"⟩
def dkwJ24_init_0 : List UInt8 := [42, 183, 0, 1, 42, 44, 181, 0, 7, 42, 45, 181, 0, 13, 42, 43, 181, 0, 17, 177]
abbrev dktJ24_init_0 : List UInt8 := dkwJ24_init_0 ++ []
theorem dksJ24_init_0 : cJ24_init.data.toList.drop 0 = dktJ24_init_0 := by decide +kernel
theorem dJ24_init_0 : decode cJ24_init 0 = .ok (.aload_n 0, 1) := dk_42 (dk_at dksJ24_init_0 0 rfl rfl)
theorem dJ24_init_1 : decode cJ24_init 1 = .ok (.invokespecial 1, 3) := dk_183 0 1 (dk_at dksJ24_init_0 1 rfl rfl)
theorem dJ24_init_4 : decode cJ24_init 4 = .ok (.aload_n 0, 1) := dk_42 (dk_at dksJ24_init_0 4 rfl rfl)
theorem dJ24_init_5 : decode cJ24_init 5 = .ok (.aload_n 2, 1) := dk_44 (dk_at dksJ24_init_0 5 rfl rfl)
theorem dJ24_init_6 : decode cJ24_init 6 = .ok (.putfield 7, 3) := dk_181 0 7 (dk_at dksJ24_init_0 6 rfl rfl)
theorem dJ24_init_9 : decode cJ24_init 9 = .ok (.aload_n 0, 1) := dk_42 (dk_at dksJ24_init_0 9 rfl rfl)
theorem dJ24_init_10 : decode cJ24_init 10 = .ok (.aload_n 3, 1) := dk_45 (dk_at dksJ24_init_0 10 rfl rfl)
theorem dJ24_init_11 : decode cJ24_init 11 = .ok (.putfield 13, 3) := dk_181 0 13 (dk_at dksJ24_init_0 11 rfl rfl)
theorem dJ24_init_14 : decode cJ24_init 14 = .ok (.aload_n 0, 1) := dk_42 (dk_at dksJ24_init_0 14 rfl rfl)
theorem dJ24_init_15 : decode cJ24_init 15 = .ok (.aload_n 1, 1) := dk_43 (dk_at dksJ24_init_0 15 rfl rfl)
theorem dJ24_init_16 : decode cJ24_init 16 = .ok (.putfield 17, 3) := dk_181 0 17 (dk_at dksJ24_init_0 16 rfl rfl)
theorem dJ24_init_19 : decode cJ24_init 19 = .ok (.return_, 1) := dk_177 (dk_at dksJ24_init_0 19 rfl rfl)
theorem q120 : (Jvm.Cond.initialized "java/util/LinkedList$Node") ∈ lw_all := lw_g (lw_at lw_m1 30 rfl) rfl
theorem q860 : (Jvm.Cond.selects "java/util/LinkedList$Node" ({ cls := "java/lang/Object", name := "getClass", desc := "()Ljava/lang/Class;" } : Jvm.MethodName) ({ cls := "java/lang/Object", name := "getClass", desc := "()Ljava/lang/Class;" } : Jvm.MethodName)) ∈ lw_all := lw_g (lw_at lw_m4 50 rfl) rfl
theorem q911 : (Jvm.Cond.instantiable "java/util/LinkedList$Node" (3 : Nat)) ∈ lw_all := lw_g (lw_at lw_m4 101 rfl) rfl
theorem q913 : (Jvm.Cond.instanceMethod ({ cls := "java/util/LinkedList$Node", name := "<init>", desc := "(Ljava/util/LinkedList$Node;Ljava/lang/Object;Ljava/util/LinkedList$Node;)V" } : Jvm.MethodName)) ∈ lw_all := lw_g (lw_at lw_m4 103 rfl) rfl
theorem q914 : (Jvm.Cond.code ({ cls := "java/util/LinkedList$Node", name := "<init>", desc := "(Ljava/util/LinkedList$Node;Ljava/lang/Object;Ljava/util/LinkedList$Node;)V" } : Jvm.MethodName) prog_58_method_1_code (4 : Nat) (Option.none : Option Jvm.ClassFile.FieldType)) ∈ lw_all := lw_g (lw_at lw_m4 104 rfl) rfl
theorem q915 : (Jvm.Cond.methodLink "java/util/LinkedList$Node" (1 : Nat) ({ cls := "java/lang/Object", name := "<init>", desc := "()V" } : Jvm.MethodName)) ∈ lw_all := lw_g (lw_at lw_m4 105 rfl) rfl
theorem q916 : (Jvm.Cond.fieldLink "java/util/LinkedList$Node" (7 : Nat) "java/util/LinkedList$Node" "item" "Ljava/lang/Object;") ∈ lw_all := lw_g (lw_at lw_m4 106 rfl) rfl
theorem q918 : (Jvm.Cond.fieldLink "java/util/LinkedList$Node" (13 : Nat) "java/util/LinkedList$Node" "next" "Ljava/util/LinkedList$Node;") ∈ lw_all := lw_g (lw_at lw_m4 108 rfl) rfl
theorem q920 : (Jvm.Cond.fieldLink "java/util/LinkedList$Node" (17 : Nat) "java/util/LinkedList$Node" "prev" "Ljava/util/LinkedList$Node;") ∈ lw_all := lw_g (lw_at lw_m4 110 rfl) rfl
theorem q922 : (Jvm.Cond.lays "java/util/LinkedList$Node" "java/util/LinkedList$Node" "item" "Ljava/lang/Object;") ∈ lw_all := lw_g (lw_at lw_m4 112 rfl) rfl
theorem q923 : (Jvm.Cond.soleField "java/util/LinkedList$Node" "item") ∈ lw_all := lw_g (lw_at lw_m4 113 rfl) rfl
theorem q924 : (Jvm.Cond.lays "java/util/LinkedList$Node" "java/util/LinkedList$Node" "next" "Ljava/util/LinkedList$Node;") ∈ lw_all := lw_g (lw_at lw_m4 114 rfl) rfl
theorem q925 : (Jvm.Cond.soleField "java/util/LinkedList$Node" "next") ∈ lw_all := lw_g (lw_at lw_m4 115 rfl) rfl
theorem q926 : (Jvm.Cond.lays "java/util/LinkedList$Node" "java/util/LinkedList$Node" "prev" "Ljava/util/LinkedList$Node;") ∈ lw_all := lw_g (lw_at lw_m4 116 rfl) rfl
theorem q927 : (Jvm.Cond.soleField "java/util/LinkedList$Node" "prev") ∈ lw_all := lw_g (lw_at lw_m4 117 rfl) rfl
theorem q928 : (Jvm.Cond.superclass "java/util/LinkedList$Node" "java/lang/Object") ∈ lw_all := lw_g (lw_at lw_m4 118 rfl) rfl
theorem q2565 : (Jvm.Cond.castable "java/util/LinkedList$Node" "java/lang/Object") ∈ lw_tbl := lw_at lw_m11 75 rfl
theorem in_J24 : ∀ w ∈ wsJ240, w ∈ lw_all := lw_in wsJ240 [922, 924, 926] (by decide +kernel) (by decide +kernel)
/-! java/util/LinkedList -/
set_option maxRecDepth 100000
def RJ30 : String := "java/util/LinkedList"
def TJ30 : u_T := fun k => match k with
  | 0 => ("java/util/AbstractList", "modCount", "I", false)
  | 1 => ("java/util/LinkedList", "size", "I", false)
  | 2 => ("java/util/LinkedList", "first", "Ljava/util/LinkedList$Node;", false)
  | _ => ("java/util/LinkedList", "last", "Ljava/util/LinkedList$Node;", false)
def tyJ30 : Nat → FieldType := fun k => match k with
  | 0 => .int
  | 1 => .int
  | 2 => .object "java/util/LinkedList$Node"
  | _ => .object "java/util/LinkedList$Node"
abbrev wsJ300 : List Cond := u_ws RJ30 TJ30 4
theorem nmJ30 : ∀ a, a < 4 → ∀ b, b < 4 → a ≠ b → (TJ30 a).2.1 ≠ (TJ30 b).2.1 := by decide +kernel
theorem tyJ30_ok : ∀ k, k < 4 → parseFieldDescriptor (TJ30 k).2.2.1 = some (tyJ30 k) := by decide +kernel
abbrev cJ30_size : ByteArray := prog_57_method_16_code
def yJ30_size : MethodName := ⟨RJ30, "size", "()I"⟩
theorem dJ30_size_0 : decode cJ30_size 0 = .ok (.aload_n 0, 1) := by decide +kernel
theorem dJ30_size_1 : decode cJ30_size 1 = .ok (.getfield 7, 3) := by decide +kernel
theorem dJ30_size_4 : decode cJ30_size 4 = .ok (.ireturn, 1) := by decide +kernel
abbrev cJ30_get : ByteArray := prog_57_method_22_code
def yJ30_get : MethodName := ⟨RJ30, "get", "(I)Ljava/lang/Object;"⟩
def dkwJ30_get_0 : List UInt8 := [42, 27, 182, 0, 90, 42, 27, 182, 0, 86, 180, 0, 39, 176]
abbrev dktJ30_get_0 : List UInt8 := dkwJ30_get_0 ++ []
theorem dksJ30_get_0 : cJ30_get.data.toList.drop 0 = dktJ30_get_0 := by decide +kernel
theorem dJ30_get_0 : decode cJ30_get 0 = .ok (.aload_n 0, 1) := dk_42 (dk_at dksJ30_get_0 0 rfl rfl)
theorem dJ30_get_1 : decode cJ30_get 1 = .ok (.iload_n 1, 1) := dk_27 (dk_at dksJ30_get_0 1 rfl rfl)
theorem dJ30_get_2 : decode cJ30_get 2 = .ok (.invokevirtual 90, 3) := dk_182 0 90 (dk_at dksJ30_get_0 2 rfl rfl)
theorem dJ30_get_5 : decode cJ30_get 5 = .ok (.aload_n 0, 1) := dk_42 (dk_at dksJ30_get_0 5 rfl rfl)
theorem dJ30_get_6 : decode cJ30_get 6 = .ok (.iload_n 1, 1) := dk_27 (dk_at dksJ30_get_0 6 rfl rfl)
theorem dJ30_get_7 : decode cJ30_get 7 = .ok (.invokevirtual 86, 3) := dk_182 0 86 (dk_at dksJ30_get_0 7 rfl rfl)
theorem dJ30_get_10 : decode cJ30_get 10 = .ok (.getfield 39, 3) := dk_180 0 39 (dk_at dksJ30_get_0 10 rfl rfl)
theorem dJ30_get_13 : decode cJ30_get 13 = .ok (.areturn, 1) := dk_176 (dk_at dksJ30_get_0 13 rfl rfl)
abbrev cJ30_checkElementIndex : ByteArray := prog_57_method_29_code
def yJ30_checkElementIndex : MethodName := ⟨RJ30, "checkElementIndex", "(I)V"⟩
def dkwJ30_checkElementIndex_0 : List UInt8 := [42, 27, 182, 0, 115, 154, 0, 16, 187, 0, 119, 89, 42, 27, 182, 0, 121, 183, 0, 125, 191, 177]
abbrev dktJ30_checkElementIndex_0 : List UInt8 := dkwJ30_checkElementIndex_0 ++ []
theorem dksJ30_checkElementIndex_0 : cJ30_checkElementIndex.data.toList.drop 0 = dktJ30_checkElementIndex_0 := by decide +kernel
theorem dJ30_checkElementIndex_0 : decode cJ30_checkElementIndex 0 = .ok (.aload_n 0, 1) := dk_42 (dk_at dksJ30_checkElementIndex_0 0 rfl rfl)
theorem dJ30_checkElementIndex_1 : decode cJ30_checkElementIndex 1 = .ok (.iload_n 1, 1) := dk_27 (dk_at dksJ30_checkElementIndex_0 1 rfl rfl)
theorem dJ30_checkElementIndex_2 : decode cJ30_checkElementIndex 2 = .ok (.invokevirtual 115, 3) := dk_182 0 115 (dk_at dksJ30_checkElementIndex_0 2 rfl rfl)
theorem dJ30_checkElementIndex_5 : decode cJ30_checkElementIndex 5 = .ok (.ifCond .ne 16, 3) := dk_154 0 16 (dk_at dksJ30_checkElementIndex_0 5 rfl rfl)
theorem dJ30_checkElementIndex_8 : decode cJ30_checkElementIndex 8 = .ok (.new 119, 3) := dk_187 0 119 (dk_at dksJ30_checkElementIndex_0 8 rfl rfl)
theorem dJ30_checkElementIndex_11 : decode cJ30_checkElementIndex 11 = .ok (.dup, 1) := dk_89 (dk_at dksJ30_checkElementIndex_0 11 rfl rfl)
theorem dJ30_checkElementIndex_12 : decode cJ30_checkElementIndex 12 = .ok (.aload_n 0, 1) := dk_42 (dk_at dksJ30_checkElementIndex_0 12 rfl rfl)
theorem dJ30_checkElementIndex_13 : decode cJ30_checkElementIndex 13 = .ok (.iload_n 1, 1) := dk_27 (dk_at dksJ30_checkElementIndex_0 13 rfl rfl)
theorem dJ30_checkElementIndex_14 : decode cJ30_checkElementIndex 14 = .ok (.invokevirtual 121, 3) := dk_182 0 121 (dk_at dksJ30_checkElementIndex_0 14 rfl rfl)
theorem dJ30_checkElementIndex_17 : decode cJ30_checkElementIndex 17 = .ok (.invokespecial 125, 3) := dk_183 0 125 (dk_at dksJ30_checkElementIndex_0 17 rfl rfl)
theorem dJ30_checkElementIndex_20 : decode cJ30_checkElementIndex 20 = .ok (.athrow, 1) := dk_191 (dk_at dksJ30_checkElementIndex_0 20 rfl rfl)
theorem dJ30_checkElementIndex_21 : decode cJ30_checkElementIndex 21 = .ok (.return_, 1) := dk_177 (dk_at dksJ30_checkElementIndex_0 21 rfl rfl)
abbrev cJ30_isElementIndex : ByteArray := prog_57_method_26_code
def yJ30_isElementIndex : MethodName := ⟨RJ30, "isElementIndex", "(I)Z"⟩
def dkwJ30_isElementIndex_0 : List UInt8 := [27, 155, 0, 15, 27, 42, 180, 0, 7, 162, 0, 7, 4, 167, 0, 4, 3, 172]
abbrev dktJ30_isElementIndex_0 : List UInt8 := dkwJ30_isElementIndex_0 ++ []
theorem dksJ30_isElementIndex_0 : cJ30_isElementIndex.data.toList.drop 0 = dktJ30_isElementIndex_0 := by decide +kernel
theorem dJ30_isElementIndex_0 : decode cJ30_isElementIndex 0 = .ok (.iload_n 1, 1) := dk_27 (dk_at dksJ30_isElementIndex_0 0 rfl rfl)
theorem dJ30_isElementIndex_1 : decode cJ30_isElementIndex 1 = .ok (.ifCond .lt 15, 3) := dk_155 0 15 (dk_at dksJ30_isElementIndex_0 1 rfl rfl)
theorem dJ30_isElementIndex_4 : decode cJ30_isElementIndex 4 = .ok (.iload_n 1, 1) := dk_27 (dk_at dksJ30_isElementIndex_0 4 rfl rfl)
theorem dJ30_isElementIndex_5 : decode cJ30_isElementIndex 5 = .ok (.aload_n 0, 1) := dk_42 (dk_at dksJ30_isElementIndex_0 5 rfl rfl)
theorem dJ30_isElementIndex_6 : decode cJ30_isElementIndex 6 = .ok (.getfield 7, 3) := dk_180 0 7 (dk_at dksJ30_isElementIndex_0 6 rfl rfl)
theorem dJ30_isElementIndex_9 : decode cJ30_isElementIndex 9 = .ok (.if_icmp .ge 7, 3) := dk_162 0 7 (dk_at dksJ30_isElementIndex_0 9 rfl rfl)
theorem dJ30_isElementIndex_12 : decode cJ30_isElementIndex 12 = .ok (.iconst 1, 1) := dk_4 (dk_at dksJ30_isElementIndex_0 12 rfl rfl)
theorem dJ30_isElementIndex_13 : decode cJ30_isElementIndex 13 = .ok (.goto 4, 3) := dk_167 0 4 (dk_at dksJ30_isElementIndex_0 13 rfl rfl)
theorem dJ30_isElementIndex_16 : decode cJ30_isElementIndex 16 = .ok (.iconst 0, 1) := dk_3 (dk_at dksJ30_isElementIndex_0 16 rfl rfl)
theorem dJ30_isElementIndex_17 : decode cJ30_isElementIndex 17 = .ok (.ireturn, 1) := dk_172 (dk_at dksJ30_isElementIndex_0 17 rfl rfl)
abbrev cJ30_outOfBoundsMsg : ByteArray := prog_57_method_28_code
def yJ30_outOfBoundsMsg : MethodName := ⟨RJ30, "outOfBoundsMsg", "(I)Ljava/lang/String;"⟩
def dkwJ30_outOfBoundsMsg_1 : List UInt8 := [180, 0, 7, 182, 0, 106, 182, 0, 111, 176]
abbrev dktJ30_outOfBoundsMsg_1 : List UInt8 := dkwJ30_outOfBoundsMsg_1 ++ []
def dkwJ30_outOfBoundsMsg_0 : List UInt8 := [187, 0, 97, 89, 183, 0, 99, 18, 100, 182, 0, 102, 27, 182, 0, 106, 18, 109, 182, 0, 102, 42]
abbrev dktJ30_outOfBoundsMsg_0 : List UInt8 := dkwJ30_outOfBoundsMsg_0 ++ dktJ30_outOfBoundsMsg_1
theorem dksJ30_outOfBoundsMsg_0 : cJ30_outOfBoundsMsg.data.toList.drop 0 = dktJ30_outOfBoundsMsg_0 := by decide +kernel
theorem dksJ30_outOfBoundsMsg_1 : cJ30_outOfBoundsMsg.data.toList.drop 22 = dktJ30_outOfBoundsMsg_1 := dk_seg dksJ30_outOfBoundsMsg_0 22 rfl rfl
theorem dJ30_outOfBoundsMsg_0 : decode cJ30_outOfBoundsMsg 0 = .ok (.new 97, 3) := dk_187 0 97 (dk_at dksJ30_outOfBoundsMsg_0 0 rfl rfl)
theorem dJ30_outOfBoundsMsg_3 : decode cJ30_outOfBoundsMsg 3 = .ok (.dup, 1) := dk_89 (dk_at dksJ30_outOfBoundsMsg_0 3 rfl rfl)
theorem dJ30_outOfBoundsMsg_4 : decode cJ30_outOfBoundsMsg 4 = .ok (.invokespecial 99, 3) := dk_183 0 99 (dk_at dksJ30_outOfBoundsMsg_0 4 rfl rfl)
theorem dJ30_outOfBoundsMsg_7 : decode cJ30_outOfBoundsMsg 7 = .ok (.ldc 100, 2) := dk_18 100 (dk_at dksJ30_outOfBoundsMsg_0 7 rfl rfl)
theorem dJ30_outOfBoundsMsg_9 : decode cJ30_outOfBoundsMsg 9 = .ok (.invokevirtual 102, 3) := dk_182 0 102 (dk_at dksJ30_outOfBoundsMsg_0 9 rfl rfl)
theorem dJ30_outOfBoundsMsg_12 : decode cJ30_outOfBoundsMsg 12 = .ok (.iload_n 1, 1) := dk_27 (dk_at dksJ30_outOfBoundsMsg_0 12 rfl rfl)
theorem dJ30_outOfBoundsMsg_13 : decode cJ30_outOfBoundsMsg 13 = .ok (.invokevirtual 106, 3) := dk_182 0 106 (dk_at dksJ30_outOfBoundsMsg_0 13 rfl rfl)
theorem dJ30_outOfBoundsMsg_16 : decode cJ30_outOfBoundsMsg 16 = .ok (.ldc 109, 2) := dk_18 109 (dk_at dksJ30_outOfBoundsMsg_0 16 rfl rfl)
theorem dJ30_outOfBoundsMsg_18 : decode cJ30_outOfBoundsMsg 18 = .ok (.invokevirtual 102, 3) := dk_182 0 102 (dk_at dksJ30_outOfBoundsMsg_0 18 rfl rfl)
theorem dJ30_outOfBoundsMsg_21 : decode cJ30_outOfBoundsMsg 21 = .ok (.aload_n 0, 1) := dk_42 (dk_at dksJ30_outOfBoundsMsg_0 21 rfl rfl)
theorem dJ30_outOfBoundsMsg_22 : decode cJ30_outOfBoundsMsg 22 = .ok (.getfield 7, 3) := dk_180 0 7 (dk_at dksJ30_outOfBoundsMsg_1 0 rfl rfl)
theorem dJ30_outOfBoundsMsg_25 : decode cJ30_outOfBoundsMsg 25 = .ok (.invokevirtual 106, 3) := dk_182 0 106 (dk_at dksJ30_outOfBoundsMsg_1 3 rfl rfl)
theorem dJ30_outOfBoundsMsg_28 : decode cJ30_outOfBoundsMsg 28 = .ok (.invokevirtual 111, 3) := dk_182 0 111 (dk_at dksJ30_outOfBoundsMsg_1 6 rfl rfl)
theorem dJ30_outOfBoundsMsg_31 : decode cJ30_outOfBoundsMsg 31 = .ok (.areturn, 1) := dk_176 (dk_at dksJ30_outOfBoundsMsg_1 9 rfl rfl)
abbrev cJ30_node : ByteArray := prog_57_method_31_code
def yJ30_node : MethodName := ⟨RJ30, "node", "(I)Ljava/util/LinkedList$Node;"⟩
def dkwJ30_node_2 : List UInt8 := [29, 27, 164, 0, 14, 44, 180, 0, 30, 77, 132, 3, 255, 167, 255, 243, 44, 176]
abbrev dktJ30_node_2 : List UInt8 := dkwJ30_node_2 ++ []
def dkwJ30_node_1 : List UInt8 := [180, 0, 36, 77, 132, 3, 1, 167, 255, 243, 44, 176, 42, 180, 0, 27, 77, 42, 180, 0, 7, 4, 100, 62]
abbrev dktJ30_node_1 : List UInt8 := dkwJ30_node_1 ++ dktJ30_node_2
def dkwJ30_node_0 : List UInt8 := [27, 42, 180, 0, 7, 4, 122, 162, 0, 28, 42, 180, 0, 18, 77, 3, 62, 29, 27, 162, 0, 14, 44]
abbrev dktJ30_node_0 : List UInt8 := dkwJ30_node_0 ++ dktJ30_node_1
theorem dksJ30_node_0 : cJ30_node.data.toList.drop 0 = dktJ30_node_0 := by decide +kernel
theorem dksJ30_node_1 : cJ30_node.data.toList.drop 23 = dktJ30_node_1 := dk_seg dksJ30_node_0 23 rfl rfl
theorem dksJ30_node_2 : cJ30_node.data.toList.drop 47 = dktJ30_node_2 := dk_seg dksJ30_node_1 24 rfl rfl
theorem dJ30_node_0 : decode cJ30_node 0 = .ok (.iload_n 1, 1) := dk_27 (dk_at dksJ30_node_0 0 rfl rfl)
theorem dJ30_node_1 : decode cJ30_node 1 = .ok (.aload_n 0, 1) := dk_42 (dk_at dksJ30_node_0 1 rfl rfl)
theorem dJ30_node_2 : decode cJ30_node 2 = .ok (.getfield 7, 3) := dk_180 0 7 (dk_at dksJ30_node_0 2 rfl rfl)
theorem dJ30_node_5 : decode cJ30_node 5 = .ok (.iconst 1, 1) := dk_4 (dk_at dksJ30_node_0 5 rfl rfl)
theorem dJ30_node_6 : decode cJ30_node 6 = .ok (.ishr, 1) := dk_122 (dk_at dksJ30_node_0 6 rfl rfl)
theorem dJ30_node_7 : decode cJ30_node 7 = .ok (.if_icmp .ge 28, 3) := dk_162 0 28 (dk_at dksJ30_node_0 7 rfl rfl)
theorem dJ30_node_10 : decode cJ30_node 10 = .ok (.aload_n 0, 1) := dk_42 (dk_at dksJ30_node_0 10 rfl rfl)
theorem dJ30_node_11 : decode cJ30_node 11 = .ok (.getfield 18, 3) := dk_180 0 18 (dk_at dksJ30_node_0 11 rfl rfl)
theorem dJ30_node_14 : decode cJ30_node 14 = .ok (.astore_n 2, 1) := dk_77 (dk_at dksJ30_node_0 14 rfl rfl)
theorem dJ30_node_15 : decode cJ30_node 15 = .ok (.iconst 0, 1) := dk_3 (dk_at dksJ30_node_0 15 rfl rfl)
theorem dJ30_node_16 : decode cJ30_node 16 = .ok (.istore_n 3, 1) := dk_62 (dk_at dksJ30_node_0 16 rfl rfl)
theorem dJ30_node_17 : decode cJ30_node 17 = .ok (.iload_n 3, 1) := dk_29 (dk_at dksJ30_node_0 17 rfl rfl)
theorem dJ30_node_18 : decode cJ30_node 18 = .ok (.iload_n 1, 1) := dk_27 (dk_at dksJ30_node_0 18 rfl rfl)
theorem dJ30_node_19 : decode cJ30_node 19 = .ok (.if_icmp .ge 14, 3) := dk_162 0 14 (dk_at dksJ30_node_0 19 rfl rfl)
theorem dJ30_node_22 : decode cJ30_node 22 = .ok (.aload_n 2, 1) := dk_44 (dk_at dksJ30_node_0 22 rfl rfl)
theorem dJ30_node_23 : decode cJ30_node 23 = .ok (.getfield 36, 3) := dk_180 0 36 (dk_at dksJ30_node_1 0 rfl rfl)
theorem dJ30_node_26 : decode cJ30_node 26 = .ok (.astore_n 2, 1) := dk_77 (dk_at dksJ30_node_1 3 rfl rfl)
theorem dJ30_node_27 : decode cJ30_node 27 = .ok (.iinc 3 1, 3) := dk_132 3 1 (dk_at dksJ30_node_1 4 rfl rfl)
theorem dJ30_node_30 : decode cJ30_node 30 = .ok (.goto (-13), 3) := dk_167 255 243 (dk_at dksJ30_node_1 7 rfl rfl)
theorem dJ30_node_33 : decode cJ30_node 33 = .ok (.aload_n 2, 1) := dk_44 (dk_at dksJ30_node_1 10 rfl rfl)
theorem dJ30_node_34 : decode cJ30_node 34 = .ok (.areturn, 1) := dk_176 (dk_at dksJ30_node_1 11 rfl rfl)
theorem dJ30_node_35 : decode cJ30_node 35 = .ok (.aload_n 0, 1) := dk_42 (dk_at dksJ30_node_1 12 rfl rfl)
theorem dJ30_node_36 : decode cJ30_node 36 = .ok (.getfield 27, 3) := dk_180 0 27 (dk_at dksJ30_node_1 13 rfl rfl)
theorem dJ30_node_39 : decode cJ30_node 39 = .ok (.astore_n 2, 1) := dk_77 (dk_at dksJ30_node_1 16 rfl rfl)
theorem dJ30_node_40 : decode cJ30_node 40 = .ok (.aload_n 0, 1) := dk_42 (dk_at dksJ30_node_1 17 rfl rfl)
theorem dJ30_node_41 : decode cJ30_node 41 = .ok (.getfield 7, 3) := dk_180 0 7 (dk_at dksJ30_node_1 18 rfl rfl)
theorem dJ30_node_44 : decode cJ30_node 44 = .ok (.iconst 1, 1) := dk_4 (dk_at dksJ30_node_1 21 rfl rfl)
theorem dJ30_node_45 : decode cJ30_node 45 = .ok (.isub, 1) := dk_100 (dk_at dksJ30_node_1 22 rfl rfl)
theorem dJ30_node_46 : decode cJ30_node 46 = .ok (.istore_n 3, 1) := dk_62 (dk_at dksJ30_node_1 23 rfl rfl)
theorem dJ30_node_47 : decode cJ30_node 47 = .ok (.iload_n 3, 1) := dk_29 (dk_at dksJ30_node_2 0 rfl rfl)
theorem dJ30_node_48 : decode cJ30_node 48 = .ok (.iload_n 1, 1) := dk_27 (dk_at dksJ30_node_2 1 rfl rfl)
theorem dJ30_node_49 : decode cJ30_node 49 = .ok (.if_icmp .le 14, 3) := dk_164 0 14 (dk_at dksJ30_node_2 2 rfl rfl)
theorem dJ30_node_52 : decode cJ30_node 52 = .ok (.aload_n 2, 1) := dk_44 (dk_at dksJ30_node_2 5 rfl rfl)
theorem dJ30_node_53 : decode cJ30_node 53 = .ok (.getfield 30, 3) := dk_180 0 30 (dk_at dksJ30_node_2 6 rfl rfl)
theorem dJ30_node_56 : decode cJ30_node 56 = .ok (.astore_n 2, 1) := dk_77 (dk_at dksJ30_node_2 9 rfl rfl)
theorem dJ30_node_57 : decode cJ30_node 57 = .ok (.iinc 3 (-1), 3) := dk_132 3 255 (dk_at dksJ30_node_2 10 rfl rfl)
theorem dJ30_node_60 : decode cJ30_node 60 = .ok (.goto (-13), 3) := dk_167 255 243 (dk_at dksJ30_node_2 13 rfl rfl)
theorem dJ30_node_63 : decode cJ30_node 63 = .ok (.aload_n 2, 1) := dk_44 (dk_at dksJ30_node_2 16 rfl rfl)
theorem dJ30_node_64 : decode cJ30_node 64 = .ok (.areturn, 1) := dk_176 (dk_at dksJ30_node_2 17 rfl rfl)
abbrev cJ30_add : ByteArray := prog_57_method_17_code
def yJ30_add : MethodName := ⟨RJ30, "add", "(Ljava/lang/Object;)Z"⟩
def dkwJ30_add_0 : List UInt8 := [42, 43, 182, 0, 57, 4, 172]
abbrev dktJ30_add_0 : List UInt8 := dkwJ30_add_0 ++ []
theorem dksJ30_add_0 : cJ30_add.data.toList.drop 0 = dktJ30_add_0 := by decide +kernel
theorem dJ30_add_0 : decode cJ30_add 0 = .ok (.aload_n 0, 1) := dk_42 (dk_at dksJ30_add_0 0 rfl rfl)
theorem dJ30_add_1 : decode cJ30_add 1 = .ok (.aload_n 1, 1) := dk_43 (dk_at dksJ30_add_0 1 rfl rfl)
theorem dJ30_add_2 : decode cJ30_add 2 = .ok (.invokevirtual 57, 3) := dk_182 0 57 (dk_at dksJ30_add_0 2 rfl rfl)
theorem dJ30_add_5 : decode cJ30_add 5 = .ok (.iconst 1, 1) := dk_4 (dk_at dksJ30_add_0 5 rfl rfl)
theorem dJ30_add_6 : decode cJ30_add 6 = .ok (.ireturn, 1) := dk_172 (dk_at dksJ30_add_0 6 rfl rfl)
abbrev cJ30_linkLast : ByteArray := prog_57_method_4_code
def yJ30_linkLast : MethodName := ⟨RJ30, "linkLast", "(Ljava/lang/Object;)V"⟩
def dkwJ30_linkLast_2 : List UInt8 := [181, 0, 7, 42, 89, 180, 0, 33, 4, 96, 181, 0, 33, 177]
abbrev dktJ30_linkLast_2 : List UInt8 := dkwJ30_linkLast_2 ++ []
def dkwJ30_linkLast_1 : List UInt8 := [199, 0, 11, 42, 45, 181, 0, 18, 167, 0, 8, 44, 45, 181, 0, 36, 42, 89, 180, 0, 7, 4, 96]
abbrev dktJ30_linkLast_1 : List UInt8 := dkwJ30_linkLast_1 ++ dktJ30_linkLast_2
def dkwJ30_linkLast_0 : List UInt8 := [42, 180, 0, 27, 77, 187, 0, 22, 89, 44, 43, 1, 183, 0, 24, 78, 42, 45, 181, 0, 27, 44]
abbrev dktJ30_linkLast_0 : List UInt8 := dkwJ30_linkLast_0 ++ dktJ30_linkLast_1
theorem dksJ30_linkLast_0 : cJ30_linkLast.data.toList.drop 0 = dktJ30_linkLast_0 := by decide +kernel
theorem dksJ30_linkLast_1 : cJ30_linkLast.data.toList.drop 22 = dktJ30_linkLast_1 := dk_seg dksJ30_linkLast_0 22 rfl rfl
theorem dksJ30_linkLast_2 : cJ30_linkLast.data.toList.drop 45 = dktJ30_linkLast_2 := dk_seg dksJ30_linkLast_1 23 rfl rfl
theorem dJ30_linkLast_0 : decode cJ30_linkLast 0 = .ok (.aload_n 0, 1) := dk_42 (dk_at dksJ30_linkLast_0 0 rfl rfl)
theorem dJ30_linkLast_1 : decode cJ30_linkLast 1 = .ok (.getfield 27, 3) := dk_180 0 27 (dk_at dksJ30_linkLast_0 1 rfl rfl)
theorem dJ30_linkLast_4 : decode cJ30_linkLast 4 = .ok (.astore_n 2, 1) := dk_77 (dk_at dksJ30_linkLast_0 4 rfl rfl)
theorem dJ30_linkLast_5 : decode cJ30_linkLast 5 = .ok (.new 22, 3) := dk_187 0 22 (dk_at dksJ30_linkLast_0 5 rfl rfl)
theorem dJ30_linkLast_8 : decode cJ30_linkLast 8 = .ok (.dup, 1) := dk_89 (dk_at dksJ30_linkLast_0 8 rfl rfl)
theorem dJ30_linkLast_9 : decode cJ30_linkLast 9 = .ok (.aload_n 2, 1) := dk_44 (dk_at dksJ30_linkLast_0 9 rfl rfl)
theorem dJ30_linkLast_10 : decode cJ30_linkLast 10 = .ok (.aload_n 1, 1) := dk_43 (dk_at dksJ30_linkLast_0 10 rfl rfl)
theorem dJ30_linkLast_11 : decode cJ30_linkLast 11 = .ok (.aconst_null, 1) := dk_1 (dk_at dksJ30_linkLast_0 11 rfl rfl)
theorem dJ30_linkLast_12 : decode cJ30_linkLast 12 = .ok (.invokespecial 24, 3) := dk_183 0 24 (dk_at dksJ30_linkLast_0 12 rfl rfl)
theorem dJ30_linkLast_15 : decode cJ30_linkLast 15 = .ok (.astore_n 3, 1) := dk_78 (dk_at dksJ30_linkLast_0 15 rfl rfl)
theorem dJ30_linkLast_16 : decode cJ30_linkLast 16 = .ok (.aload_n 0, 1) := dk_42 (dk_at dksJ30_linkLast_0 16 rfl rfl)
theorem dJ30_linkLast_17 : decode cJ30_linkLast 17 = .ok (.aload_n 3, 1) := dk_45 (dk_at dksJ30_linkLast_0 17 rfl rfl)
theorem dJ30_linkLast_18 : decode cJ30_linkLast 18 = .ok (.putfield 27, 3) := dk_181 0 27 (dk_at dksJ30_linkLast_0 18 rfl rfl)
theorem dJ30_linkLast_21 : decode cJ30_linkLast 21 = .ok (.aload_n 2, 1) := dk_44 (dk_at dksJ30_linkLast_0 21 rfl rfl)
theorem dJ30_linkLast_22 : decode cJ30_linkLast 22 = .ok (.ifnonnull 11, 3) := dk_199 0 11 (dk_at dksJ30_linkLast_1 0 rfl rfl)
theorem dJ30_linkLast_25 : decode cJ30_linkLast 25 = .ok (.aload_n 0, 1) := dk_42 (dk_at dksJ30_linkLast_1 3 rfl rfl)
theorem dJ30_linkLast_26 : decode cJ30_linkLast 26 = .ok (.aload_n 3, 1) := dk_45 (dk_at dksJ30_linkLast_1 4 rfl rfl)
theorem dJ30_linkLast_27 : decode cJ30_linkLast 27 = .ok (.putfield 18, 3) := dk_181 0 18 (dk_at dksJ30_linkLast_1 5 rfl rfl)
theorem dJ30_linkLast_30 : decode cJ30_linkLast 30 = .ok (.goto 8, 3) := dk_167 0 8 (dk_at dksJ30_linkLast_1 8 rfl rfl)
theorem dJ30_linkLast_33 : decode cJ30_linkLast 33 = .ok (.aload_n 2, 1) := dk_44 (dk_at dksJ30_linkLast_1 11 rfl rfl)
theorem dJ30_linkLast_34 : decode cJ30_linkLast 34 = .ok (.aload_n 3, 1) := dk_45 (dk_at dksJ30_linkLast_1 12 rfl rfl)
theorem dJ30_linkLast_35 : decode cJ30_linkLast 35 = .ok (.putfield 36, 3) := dk_181 0 36 (dk_at dksJ30_linkLast_1 13 rfl rfl)
theorem dJ30_linkLast_38 : decode cJ30_linkLast 38 = .ok (.aload_n 0, 1) := dk_42 (dk_at dksJ30_linkLast_1 16 rfl rfl)
theorem dJ30_linkLast_39 : decode cJ30_linkLast 39 = .ok (.dup, 1) := dk_89 (dk_at dksJ30_linkLast_1 17 rfl rfl)
theorem dJ30_linkLast_40 : decode cJ30_linkLast 40 = .ok (.getfield 7, 3) := dk_180 0 7 (dk_at dksJ30_linkLast_1 18 rfl rfl)
theorem dJ30_linkLast_43 : decode cJ30_linkLast 43 = .ok (.iconst 1, 1) := dk_4 (dk_at dksJ30_linkLast_1 21 rfl rfl)
theorem dJ30_linkLast_44 : decode cJ30_linkLast 44 = .ok (.iadd, 1) := dk_96 (dk_at dksJ30_linkLast_1 22 rfl rfl)
theorem dJ30_linkLast_45 : decode cJ30_linkLast 45 = .ok (.putfield 7, 3) := dk_181 0 7 (dk_at dksJ30_linkLast_2 0 rfl rfl)
theorem dJ30_linkLast_48 : decode cJ30_linkLast 48 = .ok (.aload_n 0, 1) := dk_42 (dk_at dksJ30_linkLast_2 3 rfl rfl)
theorem dJ30_linkLast_49 : decode cJ30_linkLast 49 = .ok (.dup, 1) := dk_89 (dk_at dksJ30_linkLast_2 4 rfl rfl)
theorem dJ30_linkLast_50 : decode cJ30_linkLast 50 = .ok (.getfield 33, 3) := dk_180 0 33 (dk_at dksJ30_linkLast_2 5 rfl rfl)
theorem dJ30_linkLast_53 : decode cJ30_linkLast 53 = .ok (.iconst 1, 1) := dk_4 (dk_at dksJ30_linkLast_2 8 rfl rfl)
theorem dJ30_linkLast_54 : decode cJ30_linkLast 54 = .ok (.iadd, 1) := dk_96 (dk_at dksJ30_linkLast_2 9 rfl rfl)
theorem dJ30_linkLast_55 : decode cJ30_linkLast 55 = .ok (.putfield 33, 3) := dk_181 0 33 (dk_at dksJ30_linkLast_2 10 rfl rfl)
theorem dJ30_linkLast_58 : decode cJ30_linkLast 58 = .ok (.return_, 1) := dk_177 (dk_at dksJ30_linkLast_2 13 rfl rfl)
abbrev cJ30_removeFirst : ByteArray := prog_57_method_11_code
def yJ30_removeFirst : MethodName := ⟨RJ30, "removeFirst", "()Ljava/lang/Object;"⟩
def dkwJ30_removeFirst_0 : List UInt8 := [42, 180, 0, 18, 76, 43, 199, 0, 11, 187, 0, 43, 89, 183, 0, 45, 191, 42, 43, 182, 0, 46, 176]
abbrev dktJ30_removeFirst_0 : List UInt8 := dkwJ30_removeFirst_0 ++ []
theorem dksJ30_removeFirst_0 : cJ30_removeFirst.data.toList.drop 0 = dktJ30_removeFirst_0 := by decide +kernel
theorem dJ30_removeFirst_0 : decode cJ30_removeFirst 0 = .ok (.aload_n 0, 1) := dk_42 (dk_at dksJ30_removeFirst_0 0 rfl rfl)
theorem dJ30_removeFirst_1 : decode cJ30_removeFirst 1 = .ok (.getfield 18, 3) := dk_180 0 18 (dk_at dksJ30_removeFirst_0 1 rfl rfl)
theorem dJ30_removeFirst_4 : decode cJ30_removeFirst 4 = .ok (.astore_n 1, 1) := dk_76 (dk_at dksJ30_removeFirst_0 4 rfl rfl)
theorem dJ30_removeFirst_5 : decode cJ30_removeFirst 5 = .ok (.aload_n 1, 1) := dk_43 (dk_at dksJ30_removeFirst_0 5 rfl rfl)
theorem dJ30_removeFirst_6 : decode cJ30_removeFirst 6 = .ok (.ifnonnull 11, 3) := dk_199 0 11 (dk_at dksJ30_removeFirst_0 6 rfl rfl)
theorem dJ30_removeFirst_9 : decode cJ30_removeFirst 9 = .ok (.new 43, 3) := dk_187 0 43 (dk_at dksJ30_removeFirst_0 9 rfl rfl)
theorem dJ30_removeFirst_12 : decode cJ30_removeFirst 12 = .ok (.dup, 1) := dk_89 (dk_at dksJ30_removeFirst_0 12 rfl rfl)
theorem dJ30_removeFirst_13 : decode cJ30_removeFirst 13 = .ok (.invokespecial 45, 3) := dk_183 0 45 (dk_at dksJ30_removeFirst_0 13 rfl rfl)
theorem dJ30_removeFirst_16 : decode cJ30_removeFirst 16 = .ok (.athrow, 1) := dk_191 (dk_at dksJ30_removeFirst_0 16 rfl rfl)
theorem dJ30_removeFirst_17 : decode cJ30_removeFirst 17 = .ok (.aload_n 0, 1) := dk_42 (dk_at dksJ30_removeFirst_0 17 rfl rfl)
theorem dJ30_removeFirst_18 : decode cJ30_removeFirst 18 = .ok (.aload_n 1, 1) := dk_43 (dk_at dksJ30_removeFirst_0 18 rfl rfl)
theorem dJ30_removeFirst_19 : decode cJ30_removeFirst 19 = .ok (.invokevirtual 46, 3) := dk_182 0 46 (dk_at dksJ30_removeFirst_0 19 rfl rfl)
theorem dJ30_removeFirst_22 : decode cJ30_removeFirst 22 = .ok (.areturn, 1) := dk_176 (dk_at dksJ30_removeFirst_0 22 rfl rfl)
abbrev cJ30_unlinkFirst : ByteArray := prog_57_method_6_code
def yJ30_unlinkFirst : MethodName := ⟨RJ30, "unlinkFirst", "(Ljava/util/LinkedList$Node;)Ljava/lang/Object;"⟩
def dkwJ30_unlinkFirst_2 : List UInt8 := [180, 0, 7, 4, 100, 181, 0, 7, 42, 89, 180, 0, 33, 4, 96, 181, 0, 33, 44, 176]
abbrev dktJ30_unlinkFirst_2 : List UInt8 := dkwJ30_unlinkFirst_2 ++ []
def dkwJ30_unlinkFirst_1 : List UInt8 := [181, 0, 18, 45, 199, 0, 11, 42, 1, 181, 0, 27, 167, 0, 8, 45, 1, 181, 0, 30, 42, 89]
abbrev dktJ30_unlinkFirst_1 : List UInt8 := dkwJ30_unlinkFirst_1 ++ dktJ30_unlinkFirst_2
def dkwJ30_unlinkFirst_0 : List UInt8 := [43, 180, 0, 39, 77, 43, 180, 0, 36, 78, 43, 1, 181, 0, 39, 43, 1, 181, 0, 36, 42, 45]
abbrev dktJ30_unlinkFirst_0 : List UInt8 := dkwJ30_unlinkFirst_0 ++ dktJ30_unlinkFirst_1
theorem dksJ30_unlinkFirst_0 : cJ30_unlinkFirst.data.toList.drop 0 = dktJ30_unlinkFirst_0 := by decide +kernel
theorem dksJ30_unlinkFirst_1 : cJ30_unlinkFirst.data.toList.drop 22 = dktJ30_unlinkFirst_1 := dk_seg dksJ30_unlinkFirst_0 22 rfl rfl
theorem dksJ30_unlinkFirst_2 : cJ30_unlinkFirst.data.toList.drop 44 = dktJ30_unlinkFirst_2 := dk_seg dksJ30_unlinkFirst_1 22 rfl rfl
theorem dJ30_unlinkFirst_0 : decode cJ30_unlinkFirst 0 = .ok (.aload_n 1, 1) := dk_43 (dk_at dksJ30_unlinkFirst_0 0 rfl rfl)
theorem dJ30_unlinkFirst_1 : decode cJ30_unlinkFirst 1 = .ok (.getfield 39, 3) := dk_180 0 39 (dk_at dksJ30_unlinkFirst_0 1 rfl rfl)
theorem dJ30_unlinkFirst_4 : decode cJ30_unlinkFirst 4 = .ok (.astore_n 2, 1) := dk_77 (dk_at dksJ30_unlinkFirst_0 4 rfl rfl)
theorem dJ30_unlinkFirst_5 : decode cJ30_unlinkFirst 5 = .ok (.aload_n 1, 1) := dk_43 (dk_at dksJ30_unlinkFirst_0 5 rfl rfl)
theorem dJ30_unlinkFirst_6 : decode cJ30_unlinkFirst 6 = .ok (.getfield 36, 3) := dk_180 0 36 (dk_at dksJ30_unlinkFirst_0 6 rfl rfl)
theorem dJ30_unlinkFirst_9 : decode cJ30_unlinkFirst 9 = .ok (.astore_n 3, 1) := dk_78 (dk_at dksJ30_unlinkFirst_0 9 rfl rfl)
theorem dJ30_unlinkFirst_10 : decode cJ30_unlinkFirst 10 = .ok (.aload_n 1, 1) := dk_43 (dk_at dksJ30_unlinkFirst_0 10 rfl rfl)
theorem dJ30_unlinkFirst_11 : decode cJ30_unlinkFirst 11 = .ok (.aconst_null, 1) := dk_1 (dk_at dksJ30_unlinkFirst_0 11 rfl rfl)
theorem dJ30_unlinkFirst_12 : decode cJ30_unlinkFirst 12 = .ok (.putfield 39, 3) := dk_181 0 39 (dk_at dksJ30_unlinkFirst_0 12 rfl rfl)
theorem dJ30_unlinkFirst_15 : decode cJ30_unlinkFirst 15 = .ok (.aload_n 1, 1) := dk_43 (dk_at dksJ30_unlinkFirst_0 15 rfl rfl)
theorem dJ30_unlinkFirst_16 : decode cJ30_unlinkFirst 16 = .ok (.aconst_null, 1) := dk_1 (dk_at dksJ30_unlinkFirst_0 16 rfl rfl)
theorem dJ30_unlinkFirst_17 : decode cJ30_unlinkFirst 17 = .ok (.putfield 36, 3) := dk_181 0 36 (dk_at dksJ30_unlinkFirst_0 17 rfl rfl)
theorem dJ30_unlinkFirst_20 : decode cJ30_unlinkFirst 20 = .ok (.aload_n 0, 1) := dk_42 (dk_at dksJ30_unlinkFirst_0 20 rfl rfl)
theorem dJ30_unlinkFirst_21 : decode cJ30_unlinkFirst 21 = .ok (.aload_n 3, 1) := dk_45 (dk_at dksJ30_unlinkFirst_0 21 rfl rfl)
theorem dJ30_unlinkFirst_22 : decode cJ30_unlinkFirst 22 = .ok (.putfield 18, 3) := dk_181 0 18 (dk_at dksJ30_unlinkFirst_1 0 rfl rfl)
theorem dJ30_unlinkFirst_25 : decode cJ30_unlinkFirst 25 = .ok (.aload_n 3, 1) := dk_45 (dk_at dksJ30_unlinkFirst_1 3 rfl rfl)
theorem dJ30_unlinkFirst_26 : decode cJ30_unlinkFirst 26 = .ok (.ifnonnull 11, 3) := dk_199 0 11 (dk_at dksJ30_unlinkFirst_1 4 rfl rfl)
theorem dJ30_unlinkFirst_29 : decode cJ30_unlinkFirst 29 = .ok (.aload_n 0, 1) := dk_42 (dk_at dksJ30_unlinkFirst_1 7 rfl rfl)
theorem dJ30_unlinkFirst_30 : decode cJ30_unlinkFirst 30 = .ok (.aconst_null, 1) := dk_1 (dk_at dksJ30_unlinkFirst_1 8 rfl rfl)
theorem dJ30_unlinkFirst_31 : decode cJ30_unlinkFirst 31 = .ok (.putfield 27, 3) := dk_181 0 27 (dk_at dksJ30_unlinkFirst_1 9 rfl rfl)
theorem dJ30_unlinkFirst_34 : decode cJ30_unlinkFirst 34 = .ok (.goto 8, 3) := dk_167 0 8 (dk_at dksJ30_unlinkFirst_1 12 rfl rfl)
theorem dJ30_unlinkFirst_37 : decode cJ30_unlinkFirst 37 = .ok (.aload_n 3, 1) := dk_45 (dk_at dksJ30_unlinkFirst_1 15 rfl rfl)
theorem dJ30_unlinkFirst_38 : decode cJ30_unlinkFirst 38 = .ok (.aconst_null, 1) := dk_1 (dk_at dksJ30_unlinkFirst_1 16 rfl rfl)
theorem dJ30_unlinkFirst_39 : decode cJ30_unlinkFirst 39 = .ok (.putfield 30, 3) := dk_181 0 30 (dk_at dksJ30_unlinkFirst_1 17 rfl rfl)
theorem dJ30_unlinkFirst_42 : decode cJ30_unlinkFirst 42 = .ok (.aload_n 0, 1) := dk_42 (dk_at dksJ30_unlinkFirst_1 20 rfl rfl)
theorem dJ30_unlinkFirst_43 : decode cJ30_unlinkFirst 43 = .ok (.dup, 1) := dk_89 (dk_at dksJ30_unlinkFirst_1 21 rfl rfl)
theorem dJ30_unlinkFirst_44 : decode cJ30_unlinkFirst 44 = .ok (.getfield 7, 3) := dk_180 0 7 (dk_at dksJ30_unlinkFirst_2 0 rfl rfl)
theorem dJ30_unlinkFirst_47 : decode cJ30_unlinkFirst 47 = .ok (.iconst 1, 1) := dk_4 (dk_at dksJ30_unlinkFirst_2 3 rfl rfl)
theorem dJ30_unlinkFirst_48 : decode cJ30_unlinkFirst 48 = .ok (.isub, 1) := dk_100 (dk_at dksJ30_unlinkFirst_2 4 rfl rfl)
theorem dJ30_unlinkFirst_49 : decode cJ30_unlinkFirst 49 = .ok (.putfield 7, 3) := dk_181 0 7 (dk_at dksJ30_unlinkFirst_2 5 rfl rfl)
theorem dJ30_unlinkFirst_52 : decode cJ30_unlinkFirst 52 = .ok (.aload_n 0, 1) := dk_42 (dk_at dksJ30_unlinkFirst_2 8 rfl rfl)
theorem dJ30_unlinkFirst_53 : decode cJ30_unlinkFirst 53 = .ok (.dup, 1) := dk_89 (dk_at dksJ30_unlinkFirst_2 9 rfl rfl)
theorem dJ30_unlinkFirst_54 : decode cJ30_unlinkFirst 54 = .ok (.getfield 33, 3) := dk_180 0 33 (dk_at dksJ30_unlinkFirst_2 10 rfl rfl)
theorem dJ30_unlinkFirst_57 : decode cJ30_unlinkFirst 57 = .ok (.iconst 1, 1) := dk_4 (dk_at dksJ30_unlinkFirst_2 13 rfl rfl)
theorem dJ30_unlinkFirst_58 : decode cJ30_unlinkFirst 58 = .ok (.iadd, 1) := dk_96 (dk_at dksJ30_unlinkFirst_2 14 rfl rfl)
theorem dJ30_unlinkFirst_59 : decode cJ30_unlinkFirst 59 = .ok (.putfield 33, 3) := dk_181 0 33 (dk_at dksJ30_unlinkFirst_2 15 rfl rfl)
theorem dJ30_unlinkFirst_62 : decode cJ30_unlinkFirst 62 = .ok (.aload_n 2, 1) := dk_44 (dk_at dksJ30_unlinkFirst_2 18 rfl rfl)
theorem dJ30_unlinkFirst_63 : decode cJ30_unlinkFirst 63 = .ok (.areturn, 1) := dk_176 (dk_at dksJ30_unlinkFirst_2 19 rfl rfl)
abbrev cJ30_addLast : ByteArray := prog_57_method_14_code
def yJ30_addLast : MethodName := ⟨RJ30, "addLast", "(Ljava/lang/Object;)V"⟩
def dkwJ30_addLast_0 : List UInt8 := [42, 43, 182, 0, 57, 177]
abbrev dktJ30_addLast_0 : List UInt8 := dkwJ30_addLast_0 ++ []
theorem dksJ30_addLast_0 : cJ30_addLast.data.toList.drop 0 = dktJ30_addLast_0 := by decide +kernel
theorem dJ30_addLast_0 : decode cJ30_addLast 0 = .ok (.aload_n 0, 1) := dk_42 (dk_at dksJ30_addLast_0 0 rfl rfl)
theorem dJ30_addLast_1 : decode cJ30_addLast 1 = .ok (.aload_n 1, 1) := dk_43 (dk_at dksJ30_addLast_0 1 rfl rfl)
theorem dJ30_addLast_2 : decode cJ30_addLast 2 = .ok (.invokevirtual 57, 3) := dk_182 0 57 (dk_at dksJ30_addLast_0 2 rfl rfl)
theorem dJ30_addLast_5 : decode cJ30_addLast 5 = .ok (.return_, 1) := dk_177 (dk_at dksJ30_addLast_0 5 rfl rfl)
abbrev cJ30_init : ByteArray := prog_57_method_1_code
def yJ30_init : MethodName := ⟨RJ30, "<init>", "()V"⟩
def dkwJ30_init_0 : List UInt8 := [42, 183, 0, 1, 42, 3, 181, 0, 7, 177]
abbrev dktJ30_init_0 : List UInt8 := dkwJ30_init_0 ++ []
theorem dksJ30_init_0 : cJ30_init.data.toList.drop 0 = dktJ30_init_0 := by decide +kernel
theorem dJ30_init_0 : decode cJ30_init 0 = .ok (.aload_n 0, 1) := dk_42 (dk_at dksJ30_init_0 0 rfl rfl)
theorem dJ30_init_1 : decode cJ30_init 1 = .ok (.invokespecial 1, 3) := dk_183 0 1 (dk_at dksJ30_init_0 1 rfl rfl)
theorem dJ30_init_4 : decode cJ30_init 4 = .ok (.aload_n 0, 1) := dk_42 (dk_at dksJ30_init_0 4 rfl rfl)
theorem dJ30_init_5 : decode cJ30_init 5 = .ok (.iconst 0, 1) := dk_3 (dk_at dksJ30_init_0 5 rfl rfl)
theorem dJ30_init_6 : decode cJ30_init 6 = .ok (.putfield 7, 3) := dk_181 0 7 (dk_at dksJ30_init_0 6 rfl rfl)
theorem dJ30_init_9 : decode cJ30_init 9 = .ok (.return_, 1) := dk_177 (dk_at dksJ30_init_0 9 rfl rfl)
abbrev cJ30_removeLast : ByteArray := prog_57_method_12_code
def yJ30_removeLast : MethodName := ⟨RJ30, "removeLast", "()Ljava/lang/Object;"⟩
def dkwJ30_removeLast_0 : List UInt8 := [42, 180, 0, 27, 76, 43, 199, 0, 11, 187, 0, 43, 89, 183, 0, 45, 191, 42, 43, 182, 0, 50, 176]
abbrev dktJ30_removeLast_0 : List UInt8 := dkwJ30_removeLast_0 ++ []
theorem dksJ30_removeLast_0 : cJ30_removeLast.data.toList.drop 0 = dktJ30_removeLast_0 := by decide +kernel
theorem dJ30_removeLast_0 : decode cJ30_removeLast 0 = .ok (.aload_n 0, 1) := dk_42 (dk_at dksJ30_removeLast_0 0 rfl rfl)
theorem dJ30_removeLast_1 : decode cJ30_removeLast 1 = .ok (.getfield 27, 3) := dk_180 0 27 (dk_at dksJ30_removeLast_0 1 rfl rfl)
theorem dJ30_removeLast_4 : decode cJ30_removeLast 4 = .ok (.astore_n 1, 1) := dk_76 (dk_at dksJ30_removeLast_0 4 rfl rfl)
theorem dJ30_removeLast_5 : decode cJ30_removeLast 5 = .ok (.aload_n 1, 1) := dk_43 (dk_at dksJ30_removeLast_0 5 rfl rfl)
theorem dJ30_removeLast_6 : decode cJ30_removeLast 6 = .ok (.ifnonnull 11, 3) := dk_199 0 11 (dk_at dksJ30_removeLast_0 6 rfl rfl)
theorem dJ30_removeLast_9 : decode cJ30_removeLast 9 = .ok (.new 43, 3) := dk_187 0 43 (dk_at dksJ30_removeLast_0 9 rfl rfl)
theorem dJ30_removeLast_12 : decode cJ30_removeLast 12 = .ok (.dup, 1) := dk_89 (dk_at dksJ30_removeLast_0 12 rfl rfl)
theorem dJ30_removeLast_13 : decode cJ30_removeLast 13 = .ok (.invokespecial 45, 3) := dk_183 0 45 (dk_at dksJ30_removeLast_0 13 rfl rfl)
theorem dJ30_removeLast_16 : decode cJ30_removeLast 16 = .ok (.athrow, 1) := dk_191 (dk_at dksJ30_removeLast_0 16 rfl rfl)
theorem dJ30_removeLast_17 : decode cJ30_removeLast 17 = .ok (.aload_n 0, 1) := dk_42 (dk_at dksJ30_removeLast_0 17 rfl rfl)
theorem dJ30_removeLast_18 : decode cJ30_removeLast 18 = .ok (.aload_n 1, 1) := dk_43 (dk_at dksJ30_removeLast_0 18 rfl rfl)
theorem dJ30_removeLast_19 : decode cJ30_removeLast 19 = .ok (.invokevirtual 50, 3) := dk_182 0 50 (dk_at dksJ30_removeLast_0 19 rfl rfl)
theorem dJ30_removeLast_22 : decode cJ30_removeLast 22 = .ok (.areturn, 1) := dk_176 (dk_at dksJ30_removeLast_0 22 rfl rfl)
abbrev cJ30_unlinkLast : ByteArray := prog_57_method_7_code
def yJ30_unlinkLast : MethodName := ⟨RJ30, "unlinkLast", "(Ljava/util/LinkedList$Node;)Ljava/lang/Object;"⟩
def dkwJ30_unlinkLast_2 : List UInt8 := [180, 0, 7, 4, 100, 181, 0, 7, 42, 89, 180, 0, 33, 4, 96, 181, 0, 33, 44, 176]
abbrev dktJ30_unlinkLast_2 : List UInt8 := dkwJ30_unlinkLast_2 ++ []
def dkwJ30_unlinkLast_1 : List UInt8 := [181, 0, 27, 45, 199, 0, 11, 42, 1, 181, 0, 18, 167, 0, 8, 45, 1, 181, 0, 36, 42, 89]
abbrev dktJ30_unlinkLast_1 : List UInt8 := dkwJ30_unlinkLast_1 ++ dktJ30_unlinkLast_2
def dkwJ30_unlinkLast_0 : List UInt8 := [43, 180, 0, 39, 77, 43, 180, 0, 30, 78, 43, 1, 181, 0, 39, 43, 1, 181, 0, 30, 42, 45]
abbrev dktJ30_unlinkLast_0 : List UInt8 := dkwJ30_unlinkLast_0 ++ dktJ30_unlinkLast_1
theorem dksJ30_unlinkLast_0 : cJ30_unlinkLast.data.toList.drop 0 = dktJ30_unlinkLast_0 := by decide +kernel
theorem dksJ30_unlinkLast_1 : cJ30_unlinkLast.data.toList.drop 22 = dktJ30_unlinkLast_1 := dk_seg dksJ30_unlinkLast_0 22 rfl rfl
theorem dksJ30_unlinkLast_2 : cJ30_unlinkLast.data.toList.drop 44 = dktJ30_unlinkLast_2 := dk_seg dksJ30_unlinkLast_1 22 rfl rfl
theorem dJ30_unlinkLast_0 : decode cJ30_unlinkLast 0 = .ok (.aload_n 1, 1) := dk_43 (dk_at dksJ30_unlinkLast_0 0 rfl rfl)
theorem dJ30_unlinkLast_1 : decode cJ30_unlinkLast 1 = .ok (.getfield 39, 3) := dk_180 0 39 (dk_at dksJ30_unlinkLast_0 1 rfl rfl)
theorem dJ30_unlinkLast_4 : decode cJ30_unlinkLast 4 = .ok (.astore_n 2, 1) := dk_77 (dk_at dksJ30_unlinkLast_0 4 rfl rfl)
theorem dJ30_unlinkLast_5 : decode cJ30_unlinkLast 5 = .ok (.aload_n 1, 1) := dk_43 (dk_at dksJ30_unlinkLast_0 5 rfl rfl)
theorem dJ30_unlinkLast_6 : decode cJ30_unlinkLast 6 = .ok (.getfield 30, 3) := dk_180 0 30 (dk_at dksJ30_unlinkLast_0 6 rfl rfl)
theorem dJ30_unlinkLast_9 : decode cJ30_unlinkLast 9 = .ok (.astore_n 3, 1) := dk_78 (dk_at dksJ30_unlinkLast_0 9 rfl rfl)
theorem dJ30_unlinkLast_10 : decode cJ30_unlinkLast 10 = .ok (.aload_n 1, 1) := dk_43 (dk_at dksJ30_unlinkLast_0 10 rfl rfl)
theorem dJ30_unlinkLast_11 : decode cJ30_unlinkLast 11 = .ok (.aconst_null, 1) := dk_1 (dk_at dksJ30_unlinkLast_0 11 rfl rfl)
theorem dJ30_unlinkLast_12 : decode cJ30_unlinkLast 12 = .ok (.putfield 39, 3) := dk_181 0 39 (dk_at dksJ30_unlinkLast_0 12 rfl rfl)
theorem dJ30_unlinkLast_15 : decode cJ30_unlinkLast 15 = .ok (.aload_n 1, 1) := dk_43 (dk_at dksJ30_unlinkLast_0 15 rfl rfl)
theorem dJ30_unlinkLast_16 : decode cJ30_unlinkLast 16 = .ok (.aconst_null, 1) := dk_1 (dk_at dksJ30_unlinkLast_0 16 rfl rfl)
theorem dJ30_unlinkLast_17 : decode cJ30_unlinkLast 17 = .ok (.putfield 30, 3) := dk_181 0 30 (dk_at dksJ30_unlinkLast_0 17 rfl rfl)
theorem dJ30_unlinkLast_20 : decode cJ30_unlinkLast 20 = .ok (.aload_n 0, 1) := dk_42 (dk_at dksJ30_unlinkLast_0 20 rfl rfl)
theorem dJ30_unlinkLast_21 : decode cJ30_unlinkLast 21 = .ok (.aload_n 3, 1) := dk_45 (dk_at dksJ30_unlinkLast_0 21 rfl rfl)
theorem dJ30_unlinkLast_22 : decode cJ30_unlinkLast 22 = .ok (.putfield 27, 3) := dk_181 0 27 (dk_at dksJ30_unlinkLast_1 0 rfl rfl)
theorem dJ30_unlinkLast_25 : decode cJ30_unlinkLast 25 = .ok (.aload_n 3, 1) := dk_45 (dk_at dksJ30_unlinkLast_1 3 rfl rfl)
theorem dJ30_unlinkLast_26 : decode cJ30_unlinkLast 26 = .ok (.ifnonnull 11, 3) := dk_199 0 11 (dk_at dksJ30_unlinkLast_1 4 rfl rfl)
theorem dJ30_unlinkLast_29 : decode cJ30_unlinkLast 29 = .ok (.aload_n 0, 1) := dk_42 (dk_at dksJ30_unlinkLast_1 7 rfl rfl)
theorem dJ30_unlinkLast_30 : decode cJ30_unlinkLast 30 = .ok (.aconst_null, 1) := dk_1 (dk_at dksJ30_unlinkLast_1 8 rfl rfl)
theorem dJ30_unlinkLast_31 : decode cJ30_unlinkLast 31 = .ok (.putfield 18, 3) := dk_181 0 18 (dk_at dksJ30_unlinkLast_1 9 rfl rfl)
theorem dJ30_unlinkLast_34 : decode cJ30_unlinkLast 34 = .ok (.goto 8, 3) := dk_167 0 8 (dk_at dksJ30_unlinkLast_1 12 rfl rfl)
theorem dJ30_unlinkLast_37 : decode cJ30_unlinkLast 37 = .ok (.aload_n 3, 1) := dk_45 (dk_at dksJ30_unlinkLast_1 15 rfl rfl)
theorem dJ30_unlinkLast_38 : decode cJ30_unlinkLast 38 = .ok (.aconst_null, 1) := dk_1 (dk_at dksJ30_unlinkLast_1 16 rfl rfl)
theorem dJ30_unlinkLast_39 : decode cJ30_unlinkLast 39 = .ok (.putfield 36, 3) := dk_181 0 36 (dk_at dksJ30_unlinkLast_1 17 rfl rfl)
theorem dJ30_unlinkLast_42 : decode cJ30_unlinkLast 42 = .ok (.aload_n 0, 1) := dk_42 (dk_at dksJ30_unlinkLast_1 20 rfl rfl)
theorem dJ30_unlinkLast_43 : decode cJ30_unlinkLast 43 = .ok (.dup, 1) := dk_89 (dk_at dksJ30_unlinkLast_1 21 rfl rfl)
theorem dJ30_unlinkLast_44 : decode cJ30_unlinkLast 44 = .ok (.getfield 7, 3) := dk_180 0 7 (dk_at dksJ30_unlinkLast_2 0 rfl rfl)
theorem dJ30_unlinkLast_47 : decode cJ30_unlinkLast 47 = .ok (.iconst 1, 1) := dk_4 (dk_at dksJ30_unlinkLast_2 3 rfl rfl)
theorem dJ30_unlinkLast_48 : decode cJ30_unlinkLast 48 = .ok (.isub, 1) := dk_100 (dk_at dksJ30_unlinkLast_2 4 rfl rfl)
theorem dJ30_unlinkLast_49 : decode cJ30_unlinkLast 49 = .ok (.putfield 7, 3) := dk_181 0 7 (dk_at dksJ30_unlinkLast_2 5 rfl rfl)
theorem dJ30_unlinkLast_52 : decode cJ30_unlinkLast 52 = .ok (.aload_n 0, 1) := dk_42 (dk_at dksJ30_unlinkLast_2 8 rfl rfl)
theorem dJ30_unlinkLast_53 : decode cJ30_unlinkLast 53 = .ok (.dup, 1) := dk_89 (dk_at dksJ30_unlinkLast_2 9 rfl rfl)
theorem dJ30_unlinkLast_54 : decode cJ30_unlinkLast 54 = .ok (.getfield 33, 3) := dk_180 0 33 (dk_at dksJ30_unlinkLast_2 10 rfl rfl)
theorem dJ30_unlinkLast_57 : decode cJ30_unlinkLast 57 = .ok (.iconst 1, 1) := dk_4 (dk_at dksJ30_unlinkLast_2 13 rfl rfl)
theorem dJ30_unlinkLast_58 : decode cJ30_unlinkLast 58 = .ok (.iadd, 1) := dk_96 (dk_at dksJ30_unlinkLast_2 14 rfl rfl)
theorem dJ30_unlinkLast_59 : decode cJ30_unlinkLast 59 = .ok (.putfield 33, 3) := dk_181 0 33 (dk_at dksJ30_unlinkLast_2 15 rfl rfl)
theorem dJ30_unlinkLast_62 : decode cJ30_unlinkLast 62 = .ok (.aload_n 2, 1) := dk_44 (dk_at dksJ30_unlinkLast_2 18 rfl rfl)
theorem dJ30_unlinkLast_63 : decode cJ30_unlinkLast 63 = .ok (.areturn, 1) := dk_176 (dk_at dksJ30_unlinkLast_2 19 rfl rfl)
abbrev cJ30_clear : ByteArray := prog_57_method_21_code
def yJ30_clear : MethodName := ⟨RJ30, "clear", "()V"⟩
def dkwJ30_clear_2 : List UInt8 := [181, 0, 7, 42, 89, 180, 0, 33, 4, 96, 181, 0, 33, 177]
abbrev dktJ30_clear_2 : List UInt8 := dkwJ30_clear_2 ++ []
def dkwJ30_clear_1 : List UInt8 := [43, 1, 181, 0, 30, 44, 76, 167, 255, 230, 42, 42, 1, 90, 181, 0, 27, 181, 0, 18, 42, 3]
abbrev dktJ30_clear_1 : List UInt8 := dkwJ30_clear_1 ++ dktJ30_clear_2
def dkwJ30_clear_0 : List UInt8 := [42, 180, 0, 18, 76, 43, 198, 0, 28, 43, 180, 0, 36, 77, 43, 1, 181, 0, 39, 43, 1, 181, 0, 36]
abbrev dktJ30_clear_0 : List UInt8 := dkwJ30_clear_0 ++ dktJ30_clear_1
theorem dksJ30_clear_0 : cJ30_clear.data.toList.drop 0 = dktJ30_clear_0 := by decide +kernel
theorem dksJ30_clear_1 : cJ30_clear.data.toList.drop 24 = dktJ30_clear_1 := dk_seg dksJ30_clear_0 24 rfl rfl
theorem dksJ30_clear_2 : cJ30_clear.data.toList.drop 46 = dktJ30_clear_2 := dk_seg dksJ30_clear_1 22 rfl rfl
theorem dJ30_clear_0 : decode cJ30_clear 0 = .ok (.aload_n 0, 1) := dk_42 (dk_at dksJ30_clear_0 0 rfl rfl)
theorem dJ30_clear_1 : decode cJ30_clear 1 = .ok (.getfield 18, 3) := dk_180 0 18 (dk_at dksJ30_clear_0 1 rfl rfl)
theorem dJ30_clear_4 : decode cJ30_clear 4 = .ok (.astore_n 1, 1) := dk_76 (dk_at dksJ30_clear_0 4 rfl rfl)
theorem dJ30_clear_5 : decode cJ30_clear 5 = .ok (.aload_n 1, 1) := dk_43 (dk_at dksJ30_clear_0 5 rfl rfl)
theorem dJ30_clear_6 : decode cJ30_clear 6 = .ok (.ifnull 28, 3) := dk_198 0 28 (dk_at dksJ30_clear_0 6 rfl rfl)
theorem dJ30_clear_9 : decode cJ30_clear 9 = .ok (.aload_n 1, 1) := dk_43 (dk_at dksJ30_clear_0 9 rfl rfl)
theorem dJ30_clear_10 : decode cJ30_clear 10 = .ok (.getfield 36, 3) := dk_180 0 36 (dk_at dksJ30_clear_0 10 rfl rfl)
theorem dJ30_clear_13 : decode cJ30_clear 13 = .ok (.astore_n 2, 1) := dk_77 (dk_at dksJ30_clear_0 13 rfl rfl)
theorem dJ30_clear_14 : decode cJ30_clear 14 = .ok (.aload_n 1, 1) := dk_43 (dk_at dksJ30_clear_0 14 rfl rfl)
theorem dJ30_clear_15 : decode cJ30_clear 15 = .ok (.aconst_null, 1) := dk_1 (dk_at dksJ30_clear_0 15 rfl rfl)
theorem dJ30_clear_16 : decode cJ30_clear 16 = .ok (.putfield 39, 3) := dk_181 0 39 (dk_at dksJ30_clear_0 16 rfl rfl)
theorem dJ30_clear_19 : decode cJ30_clear 19 = .ok (.aload_n 1, 1) := dk_43 (dk_at dksJ30_clear_0 19 rfl rfl)
theorem dJ30_clear_20 : decode cJ30_clear 20 = .ok (.aconst_null, 1) := dk_1 (dk_at dksJ30_clear_0 20 rfl rfl)
theorem dJ30_clear_21 : decode cJ30_clear 21 = .ok (.putfield 36, 3) := dk_181 0 36 (dk_at dksJ30_clear_0 21 rfl rfl)
theorem dJ30_clear_24 : decode cJ30_clear 24 = .ok (.aload_n 1, 1) := dk_43 (dk_at dksJ30_clear_1 0 rfl rfl)
theorem dJ30_clear_25 : decode cJ30_clear 25 = .ok (.aconst_null, 1) := dk_1 (dk_at dksJ30_clear_1 1 rfl rfl)
theorem dJ30_clear_26 : decode cJ30_clear 26 = .ok (.putfield 30, 3) := dk_181 0 30 (dk_at dksJ30_clear_1 2 rfl rfl)
theorem dJ30_clear_29 : decode cJ30_clear 29 = .ok (.aload_n 2, 1) := dk_44 (dk_at dksJ30_clear_1 5 rfl rfl)
theorem dJ30_clear_30 : decode cJ30_clear 30 = .ok (.astore_n 1, 1) := dk_76 (dk_at dksJ30_clear_1 6 rfl rfl)
theorem dJ30_clear_31 : decode cJ30_clear 31 = .ok (.goto (-26), 3) := dk_167 255 230 (dk_at dksJ30_clear_1 7 rfl rfl)
theorem dJ30_clear_34 : decode cJ30_clear 34 = .ok (.aload_n 0, 1) := dk_42 (dk_at dksJ30_clear_1 10 rfl rfl)
theorem dJ30_clear_35 : decode cJ30_clear 35 = .ok (.aload_n 0, 1) := dk_42 (dk_at dksJ30_clear_1 11 rfl rfl)
theorem dJ30_clear_36 : decode cJ30_clear 36 = .ok (.aconst_null, 1) := dk_1 (dk_at dksJ30_clear_1 12 rfl rfl)
theorem dJ30_clear_37 : decode cJ30_clear 37 = .ok (.dup_x1, 1) := dk_90 (dk_at dksJ30_clear_1 13 rfl rfl)
theorem dJ30_clear_38 : decode cJ30_clear 38 = .ok (.putfield 27, 3) := dk_181 0 27 (dk_at dksJ30_clear_1 14 rfl rfl)
theorem dJ30_clear_41 : decode cJ30_clear 41 = .ok (.putfield 18, 3) := dk_181 0 18 (dk_at dksJ30_clear_1 17 rfl rfl)
theorem dJ30_clear_44 : decode cJ30_clear 44 = .ok (.aload_n 0, 1) := dk_42 (dk_at dksJ30_clear_1 20 rfl rfl)
theorem dJ30_clear_45 : decode cJ30_clear 45 = .ok (.iconst 0, 1) := dk_3 (dk_at dksJ30_clear_1 21 rfl rfl)
theorem dJ30_clear_46 : decode cJ30_clear 46 = .ok (.putfield 7, 3) := dk_181 0 7 (dk_at dksJ30_clear_2 0 rfl rfl)
theorem dJ30_clear_49 : decode cJ30_clear 49 = .ok (.aload_n 0, 1) := dk_42 (dk_at dksJ30_clear_2 3 rfl rfl)
theorem dJ30_clear_50 : decode cJ30_clear 50 = .ok (.dup, 1) := dk_89 (dk_at dksJ30_clear_2 4 rfl rfl)
theorem dJ30_clear_51 : decode cJ30_clear 51 = .ok (.getfield 33, 3) := dk_180 0 33 (dk_at dksJ30_clear_2 5 rfl rfl)
theorem dJ30_clear_54 : decode cJ30_clear 54 = .ok (.iconst 1, 1) := dk_4 (dk_at dksJ30_clear_2 8 rfl rfl)
theorem dJ30_clear_55 : decode cJ30_clear 55 = .ok (.iadd, 1) := dk_96 (dk_at dksJ30_clear_2 9 rfl rfl)
theorem dJ30_clear_56 : decode cJ30_clear 56 = .ok (.putfield 33, 3) := dk_181 0 33 (dk_at dksJ30_clear_2 10 rfl rfl)
theorem dJ30_clear_59 : decode cJ30_clear 59 = .ok (.return_, 1) := dk_177 (dk_at dksJ30_clear_2 13 rfl rfl)
theorem q131 : (Jvm.Cond.initialized "java/util/LinkedList") ∈ lw_all := lw_g (lw_at lw_m1 41 rfl) rfl
theorem q172 : (Jvm.Cond.fieldLink "java/util/LinkedList" (33 : Nat) "java/util/LinkedList" "modCount" "I") ∈ lw_all := lw_g (lw_at lw_m1 82 rfl) rfl
theorem q173 : (Jvm.Cond.sameField "java/util/LinkedList" "java/util/AbstractList" "modCount" "I") ∈ lw_all := lw_g (lw_at lw_m1 83 rfl) rfl
theorem q369 : (Jvm.Cond.castable "java/util/LinkedList" "java/util/List") ∈ lw_tbl := lw_at lw_m2 39 rfl
theorem q370 : (Jvm.Cond.selects "java/util/LinkedList" ({ cls := "java/util/List", name := "size", desc := "()I" } : Jvm.MethodName) ({ cls := "java/util/LinkedList", name := "size", desc := "()I" } : Jvm.MethodName)) ∈ lw_all := lw_g (lw_at lw_m2 40 rfl) rfl
theorem q371 : (Jvm.Cond.unhidden "java/util/LinkedList" "size" "()I") ∈ lw_tbl := lw_at lw_m2 41 rfl
theorem q372 : (Jvm.Cond.instanceMethod ({ cls := "java/util/LinkedList", name := "size", desc := "()I" } : Jvm.MethodName)) ∈ lw_all := lw_g (lw_at lw_m2 42 rfl) rfl
theorem q373 : (Jvm.Cond.publicMethod ({ cls := "java/util/LinkedList", name := "size", desc := "()I" } : Jvm.MethodName)) ∈ lw_tbl := lw_at lw_m2 43 rfl
theorem q374 : (Jvm.Cond.code ({ cls := "java/util/LinkedList", name := "size", desc := "()I" } : Jvm.MethodName) prog_57_method_16_code (1 : Nat) (Option.some Jvm.ClassFile.FieldType.int)) ∈ lw_all := lw_g (lw_at lw_m2 44 rfl) rfl
theorem q720 : (Jvm.Cond.selects "java/util/LinkedList" ({ cls := "java/util/List", name := "get", desc := "(I)Ljava/lang/Object;" } : Jvm.MethodName) ({ cls := "java/util/LinkedList", name := "get", desc := "(I)Ljava/lang/Object;" } : Jvm.MethodName)) ∈ lw_all := lw_g (lw_at lw_m3 150 rfl) rfl
theorem q721 : (Jvm.Cond.unhidden "java/util/LinkedList" "get" "(I)Ljava/lang/Object;") ∈ lw_tbl := lw_at lw_m3 151 rfl
theorem q722 : (Jvm.Cond.instanceMethod ({ cls := "java/util/LinkedList", name := "get", desc := "(I)Ljava/lang/Object;" } : Jvm.MethodName)) ∈ lw_all := lw_g (lw_at lw_m3 152 rfl) rfl
theorem q723 : (Jvm.Cond.publicMethod ({ cls := "java/util/LinkedList", name := "get", desc := "(I)Ljava/lang/Object;" } : Jvm.MethodName)) ∈ lw_tbl := lw_at lw_m3 153 rfl
theorem q724 : (Jvm.Cond.code ({ cls := "java/util/LinkedList", name := "get", desc := "(I)Ljava/lang/Object;" } : Jvm.MethodName) prog_57_method_22_code (2 : Nat) (Option.some (Jvm.ClassFile.FieldType.object "java/lang/Object"))) ∈ lw_all := lw_g (lw_at lw_m3 154 rfl) rfl
theorem q725 : (Jvm.Cond.methodLink "java/util/LinkedList" (90 : Nat) ({ cls := "java/util/LinkedList", name := "checkElementIndex", desc := "(I)V" } : Jvm.MethodName)) ∈ lw_all := lw_g (lw_at lw_m3 155 rfl) rfl
theorem q726 : (Jvm.Cond.privateMethod ({ cls := "java/util/LinkedList", name := "checkElementIndex", desc := "(I)V" } : Jvm.MethodName)) ∈ lw_tbl := lw_at lw_m3 156 rfl
theorem q727 : (Jvm.Cond.instanceMethod ({ cls := "java/util/LinkedList", name := "checkElementIndex", desc := "(I)V" } : Jvm.MethodName)) ∈ lw_all := lw_g (lw_at lw_m3 157 rfl) rfl
theorem q728 : (Jvm.Cond.instantiable "java/util/LinkedList" (4 : Nat)) ∈ lw_all := lw_g (lw_at lw_m3 158 rfl) rfl
theorem q729 : (Jvm.Cond.code ({ cls := "java/util/LinkedList", name := "checkElementIndex", desc := "(I)V" } : Jvm.MethodName) prog_57_method_29_code (2 : Nat) (Option.none : Option Jvm.ClassFile.FieldType)) ∈ lw_all := lw_g (lw_at lw_m3 159 rfl) rfl
theorem q730 : (Jvm.Cond.methodLink "java/util/LinkedList" (115 : Nat) ({ cls := "java/util/LinkedList", name := "isElementIndex", desc := "(I)Z" } : Jvm.MethodName)) ∈ lw_all := lw_g (lw_at lw_m3 160 rfl) rfl
theorem q731 : (Jvm.Cond.privateMethod ({ cls := "java/util/LinkedList", name := "isElementIndex", desc := "(I)Z" } : Jvm.MethodName)) ∈ lw_tbl := lw_at lw_m3 161 rfl
theorem q732 : (Jvm.Cond.instanceMethod ({ cls := "java/util/LinkedList", name := "isElementIndex", desc := "(I)Z" } : Jvm.MethodName)) ∈ lw_all := lw_g (lw_at lw_m3 162 rfl) rfl
theorem q733 : (Jvm.Cond.code ({ cls := "java/util/LinkedList", name := "isElementIndex", desc := "(I)Z" } : Jvm.MethodName) prog_57_method_26_code (2 : Nat) (Option.some Jvm.ClassFile.FieldType.boolean)) ∈ lw_all := lw_g (lw_at lw_m3 163 rfl) rfl
theorem q734 : (Jvm.Cond.classLink "java/util/LinkedList" (119 : Nat) "java/lang/IndexOutOfBoundsException") ∈ lw_all := lw_g (lw_at lw_m3 164 rfl) rfl
theorem q735 : (Jvm.Cond.methodLink "java/util/LinkedList" (121 : Nat) ({ cls := "java/util/LinkedList", name := "outOfBoundsMsg", desc := "(I)Ljava/lang/String;" } : Jvm.MethodName)) ∈ lw_all := lw_g (lw_at lw_m3 165 rfl) rfl
theorem q736 : (Jvm.Cond.privateMethod ({ cls := "java/util/LinkedList", name := "outOfBoundsMsg", desc := "(I)Ljava/lang/String;" } : Jvm.MethodName)) ∈ lw_tbl := lw_at lw_m3 166 rfl
theorem q737 : (Jvm.Cond.instanceMethod ({ cls := "java/util/LinkedList", name := "outOfBoundsMsg", desc := "(I)Ljava/lang/String;" } : Jvm.MethodName)) ∈ lw_all := lw_g (lw_at lw_m3 167 rfl) rfl
theorem q738 : (Jvm.Cond.code ({ cls := "java/util/LinkedList", name := "outOfBoundsMsg", desc := "(I)Ljava/lang/String;" } : Jvm.MethodName) prog_57_method_28_code (2 : Nat) (Option.some (Jvm.ClassFile.FieldType.object "java/lang/String"))) ∈ lw_all := lw_g (lw_at lw_m3 168 rfl) rfl
theorem q739 : (Jvm.Cond.classLink "java/util/LinkedList" (97 : Nat) "java/lang/StringBuilder") ∈ lw_all := lw_g (lw_at lw_m3 169 rfl) rfl
theorem q740 : (Jvm.Cond.methodLink "java/util/LinkedList" (99 : Nat) ({ cls := "java/lang/StringBuilder", name := "<init>", desc := "()V" } : Jvm.MethodName)) ∈ lw_all := lw_g (lw_at lw_m3 170 rfl) rfl
theorem q741 : (Jvm.Cond.stringRef "java/util/LinkedList" (100 : Nat) "Index: ") ∈ lw_tbl := lw_at lw_m3 171 rfl
theorem q742 : (Jvm.Cond.methodLink "java/util/LinkedList" (102 : Nat) ({ cls := "java/lang/StringBuilder", name := "append", desc := "(Ljava/lang/String;)Ljava/lang/StringBuilder;" } : Jvm.MethodName)) ∈ lw_all := lw_g (lw_at lw_m3 172 rfl) rfl
theorem q743 : (Jvm.Cond.methodLink "java/util/LinkedList" (106 : Nat) ({ cls := "java/lang/StringBuilder", name := "append", desc := "(I)Ljava/lang/StringBuilder;" } : Jvm.MethodName)) ∈ lw_all := lw_g (lw_at lw_m3 173 rfl) rfl
theorem q744 : (Jvm.Cond.stringRef "java/util/LinkedList" (109 : Nat) ", Size: ") ∈ lw_tbl := lw_at lw_m3 174 rfl
theorem q745 : (Jvm.Cond.methodLink "java/util/LinkedList" (111 : Nat) ({ cls := "java/lang/StringBuilder", name := "toString", desc := "()Ljava/lang/String;" } : Jvm.MethodName)) ∈ lw_all := lw_g (lw_at lw_m3 175 rfl) rfl
theorem q746 : (Jvm.Cond.methodLink "java/util/LinkedList" (125 : Nat) ({ cls := "java/lang/IndexOutOfBoundsException", name := "<init>", desc := "(Ljava/lang/String;)V" } : Jvm.MethodName)) ∈ lw_all := lw_g (lw_at lw_m3 176 rfl) rfl
theorem q747 : (Jvm.Cond.methodLink "java/util/LinkedList" (86 : Nat) ({ cls := "java/util/LinkedList", name := "node", desc := "(I)Ljava/util/LinkedList$Node;" } : Jvm.MethodName)) ∈ lw_all := lw_g (lw_at lw_m3 177 rfl) rfl
theorem q748 : (Jvm.Cond.instanceMethod ({ cls := "java/util/LinkedList", name := "node", desc := "(I)Ljava/util/LinkedList$Node;" } : Jvm.MethodName)) ∈ lw_all := lw_g (lw_at lw_m3 178 rfl) rfl
theorem q749 : (Jvm.Cond.selects "java/util/LinkedList" ({ cls := "java/util/LinkedList", name := "node", desc := "(I)Ljava/util/LinkedList$Node;" } : Jvm.MethodName) ({ cls := "java/util/LinkedList", name := "node", desc := "(I)Ljava/util/LinkedList$Node;" } : Jvm.MethodName)) ∈ lw_all := lw_g (lw_at lw_m3 179 rfl) rfl
theorem q750 : (Jvm.Cond.code ({ cls := "java/util/LinkedList", name := "node", desc := "(I)Ljava/util/LinkedList$Node;" } : Jvm.MethodName) prog_57_method_31_code (4 : Nat) (Option.some (Jvm.ClassFile.FieldType.object "java/util/LinkedList$Node"))) ∈ lw_all := lw_g (lw_at lw_m3 180 rfl) rfl
theorem q859 : (Jvm.Cond.selects "java/util/LinkedList" ({ cls := "java/lang/Object", name := "getClass", desc := "()Ljava/lang/Class;" } : Jvm.MethodName) ({ cls := "java/lang/Object", name := "getClass", desc := "()Ljava/lang/Class;" } : Jvm.MethodName)) ∈ lw_all := lw_g (lw_at lw_m4 49 rfl) rfl
theorem q901 : (Jvm.Cond.selects "java/util/LinkedList" ({ cls := "java/util/List", name := "add", desc := "(Ljava/lang/Object;)Z" } : Jvm.MethodName) ({ cls := "java/util/LinkedList", name := "add", desc := "(Ljava/lang/Object;)Z" } : Jvm.MethodName)) ∈ lw_all := lw_g (lw_at lw_m4 91 rfl) rfl
theorem q902 : (Jvm.Cond.unhidden "java/util/LinkedList" "add" "(Ljava/lang/Object;)Z") ∈ lw_tbl := lw_at lw_m4 92 rfl
theorem q903 : (Jvm.Cond.instanceMethod ({ cls := "java/util/LinkedList", name := "add", desc := "(Ljava/lang/Object;)Z" } : Jvm.MethodName)) ∈ lw_all := lw_g (lw_at lw_m4 93 rfl) rfl
theorem q904 : (Jvm.Cond.publicMethod ({ cls := "java/util/LinkedList", name := "add", desc := "(Ljava/lang/Object;)Z" } : Jvm.MethodName)) ∈ lw_tbl := lw_at lw_m4 94 rfl
theorem q905 : (Jvm.Cond.code ({ cls := "java/util/LinkedList", name := "add", desc := "(Ljava/lang/Object;)Z" } : Jvm.MethodName) prog_57_method_17_code (2 : Nat) (Option.some Jvm.ClassFile.FieldType.boolean)) ∈ lw_all := lw_g (lw_at lw_m4 95 rfl) rfl
theorem q906 : (Jvm.Cond.methodLink "java/util/LinkedList" (57 : Nat) ({ cls := "java/util/LinkedList", name := "linkLast", desc := "(Ljava/lang/Object;)V" } : Jvm.MethodName)) ∈ lw_all := lw_g (lw_at lw_m4 96 rfl) rfl
theorem q907 : (Jvm.Cond.instanceMethod ({ cls := "java/util/LinkedList", name := "linkLast", desc := "(Ljava/lang/Object;)V" } : Jvm.MethodName)) ∈ lw_all := lw_g (lw_at lw_m4 97 rfl) rfl
theorem q908 : (Jvm.Cond.selects "java/util/LinkedList" ({ cls := "java/util/LinkedList", name := "linkLast", desc := "(Ljava/lang/Object;)V" } : Jvm.MethodName) ({ cls := "java/util/LinkedList", name := "linkLast", desc := "(Ljava/lang/Object;)V" } : Jvm.MethodName)) ∈ lw_all := lw_g (lw_at lw_m4 98 rfl) rfl
theorem q909 : (Jvm.Cond.code ({ cls := "java/util/LinkedList", name := "linkLast", desc := "(Ljava/lang/Object;)V" } : Jvm.MethodName) prog_57_method_4_code (4 : Nat) (Option.none : Option Jvm.ClassFile.FieldType)) ∈ lw_all := lw_g (lw_at lw_m4 99 rfl) rfl
theorem q910 : (Jvm.Cond.classLink "java/util/LinkedList" (22 : Nat) "java/util/LinkedList$Node") ∈ lw_all := lw_g (lw_at lw_m4 100 rfl) rfl
theorem q912 : (Jvm.Cond.methodLink "java/util/LinkedList" (24 : Nat) ({ cls := "java/util/LinkedList$Node", name := "<init>", desc := "(Ljava/util/LinkedList$Node;Ljava/lang/Object;Ljava/util/LinkedList$Node;)V" } : Jvm.MethodName)) ∈ lw_all := lw_g (lw_at lw_m4 102 rfl) rfl
theorem q917 : (Jvm.Cond.fieldLink "java/util/LinkedList" (39 : Nat) "java/util/LinkedList$Node" "item" "Ljava/lang/Object;") ∈ lw_all := lw_g (lw_at lw_m4 107 rfl) rfl
theorem q919 : (Jvm.Cond.fieldLink "java/util/LinkedList" (36 : Nat) "java/util/LinkedList$Node" "next" "Ljava/util/LinkedList$Node;") ∈ lw_all := lw_g (lw_at lw_m4 109 rfl) rfl
theorem q921 : (Jvm.Cond.fieldLink "java/util/LinkedList" (30 : Nat) "java/util/LinkedList$Node" "prev" "Ljava/util/LinkedList$Node;") ∈ lw_all := lw_g (lw_at lw_m4 111 rfl) rfl
theorem q1268 : (Jvm.Cond.castable "java/util/LinkedList" "java/util/Deque") ∈ lw_tbl := lw_at lw_m5 218 rfl
theorem q1269 : (Jvm.Cond.selects "java/util/LinkedList" ({ cls := "java/util/Deque", name := "size", desc := "()I" } : Jvm.MethodName) ({ cls := "java/util/LinkedList", name := "size", desc := "()I" } : Jvm.MethodName)) ∈ lw_all := lw_g (lw_at lw_m5 219 rfl) rfl
theorem q1304 : (Jvm.Cond.selects "java/util/LinkedList" ({ cls := "java/util/Deque", name := "removeFirst", desc := "()Ljava/lang/Object;" } : Jvm.MethodName) ({ cls := "java/util/LinkedList", name := "removeFirst", desc := "()Ljava/lang/Object;" } : Jvm.MethodName)) ∈ lw_all := lw_g (lw_at lw_m6 14 rfl) rfl
theorem q1305 : (Jvm.Cond.unhidden "java/util/LinkedList" "removeFirst" "()Ljava/lang/Object;") ∈ lw_tbl := lw_at lw_m6 15 rfl
theorem q1306 : (Jvm.Cond.instanceMethod ({ cls := "java/util/LinkedList", name := "removeFirst", desc := "()Ljava/lang/Object;" } : Jvm.MethodName)) ∈ lw_all := lw_g (lw_at lw_m6 16 rfl) rfl
theorem q1307 : (Jvm.Cond.publicMethod ({ cls := "java/util/LinkedList", name := "removeFirst", desc := "()Ljava/lang/Object;" } : Jvm.MethodName)) ∈ lw_tbl := lw_at lw_m6 17 rfl
theorem q1308 : (Jvm.Cond.code ({ cls := "java/util/LinkedList", name := "removeFirst", desc := "()Ljava/lang/Object;" } : Jvm.MethodName) prog_57_method_11_code (2 : Nat) (Option.some (Jvm.ClassFile.FieldType.object "java/lang/Object"))) ∈ lw_all := lw_g (lw_at lw_m6 18 rfl) rfl
theorem q1309 : (Jvm.Cond.classLink "java/util/LinkedList" (43 : Nat) "java/util/NoSuchElementException") ∈ lw_all := lw_g (lw_at lw_m6 19 rfl) rfl
theorem q1310 : (Jvm.Cond.methodLink "java/util/LinkedList" (45 : Nat) ({ cls := "java/util/NoSuchElementException", name := "<init>", desc := "()V" } : Jvm.MethodName)) ∈ lw_all := lw_g (lw_at lw_m6 20 rfl) rfl
theorem q1311 : (Jvm.Cond.methodLink "java/util/LinkedList" (46 : Nat) ({ cls := "java/util/LinkedList", name := "unlinkFirst", desc := "(Ljava/util/LinkedList$Node;)Ljava/lang/Object;" } : Jvm.MethodName)) ∈ lw_all := lw_g (lw_at lw_m6 21 rfl) rfl
theorem q1312 : (Jvm.Cond.privateMethod ({ cls := "java/util/LinkedList", name := "unlinkFirst", desc := "(Ljava/util/LinkedList$Node;)Ljava/lang/Object;" } : Jvm.MethodName)) ∈ lw_tbl := lw_at lw_m6 22 rfl
theorem q1313 : (Jvm.Cond.instanceMethod ({ cls := "java/util/LinkedList", name := "unlinkFirst", desc := "(Ljava/util/LinkedList$Node;)Ljava/lang/Object;" } : Jvm.MethodName)) ∈ lw_all := lw_g (lw_at lw_m6 23 rfl) rfl
theorem q1314 : (Jvm.Cond.code ({ cls := "java/util/LinkedList", name := "unlinkFirst", desc := "(Ljava/util/LinkedList$Node;)Ljava/lang/Object;" } : Jvm.MethodName) prog_57_method_6_code (4 : Nat) (Option.some (Jvm.ClassFile.FieldType.object "java/lang/Object"))) ∈ lw_all := lw_g (lw_at lw_m6 24 rfl) rfl
theorem q1352 : (Jvm.Cond.selects "java/util/LinkedList" ({ cls := "java/util/Deque", name := "addLast", desc := "(Ljava/lang/Object;)V" } : Jvm.MethodName) ({ cls := "java/util/LinkedList", name := "addLast", desc := "(Ljava/lang/Object;)V" } : Jvm.MethodName)) ∈ lw_all := lw_g (lw_at lw_m6 62 rfl) rfl
theorem q1353 : (Jvm.Cond.unhidden "java/util/LinkedList" "addLast" "(Ljava/lang/Object;)V") ∈ lw_tbl := lw_at lw_m6 63 rfl
theorem q1354 : (Jvm.Cond.instanceMethod ({ cls := "java/util/LinkedList", name := "addLast", desc := "(Ljava/lang/Object;)V" } : Jvm.MethodName)) ∈ lw_all := lw_g (lw_at lw_m6 64 rfl) rfl
theorem q1355 : (Jvm.Cond.publicMethod ({ cls := "java/util/LinkedList", name := "addLast", desc := "(Ljava/lang/Object;)V" } : Jvm.MethodName)) ∈ lw_tbl := lw_at lw_m6 65 rfl
theorem q1356 : (Jvm.Cond.code ({ cls := "java/util/LinkedList", name := "addLast", desc := "(Ljava/lang/Object;)V" } : Jvm.MethodName) prog_57_method_14_code (2 : Nat) (Option.none : Option Jvm.ClassFile.FieldType)) ∈ lw_all := lw_g (lw_at lw_m6 66 rfl) rfl
theorem q1750 : (Jvm.Cond.instanceMethod ({ cls := "java/util/LinkedList", name := "<init>", desc := "()V" } : Jvm.MethodName)) ∈ lw_all := lw_g (lw_at lw_m7 220 rfl) rfl
theorem q1751 : (Jvm.Cond.code ({ cls := "java/util/LinkedList", name := "<init>", desc := "()V" } : Jvm.MethodName) prog_57_method_1_code (1 : Nat) (Option.none : Option Jvm.ClassFile.FieldType)) ∈ lw_all := lw_g (lw_at lw_m7 221 rfl) rfl
theorem q1752 : (Jvm.Cond.methodLink "java/util/LinkedList" (1 : Nat) ({ cls := "java/util/AbstractSequentialList", name := "<init>", desc := "()V" } : Jvm.MethodName)) ∈ lw_all := lw_g (lw_at lw_m7 222 rfl) rfl
theorem q1756 : (Jvm.Cond.fieldLink "java/util/LinkedList" (7 : Nat) "java/util/LinkedList" "size" "I") ∈ lw_all := lw_g (lw_at lw_m7 226 rfl) rfl
theorem q1757 : (Jvm.Cond.fieldLink "java/util/LinkedList" (18 : Nat) "java/util/LinkedList" "first" "Ljava/util/LinkedList$Node;") ∈ lw_all := lw_g (lw_at lw_m7 227 rfl) rfl
theorem q1758 : (Jvm.Cond.fieldLink "java/util/LinkedList" (27 : Nat) "java/util/LinkedList" "last" "Ljava/util/LinkedList$Node;") ∈ lw_all := lw_g (lw_at lw_m7 228 rfl) rfl
theorem q1759 : (Jvm.Cond.lays "java/util/LinkedList" "java/util/LinkedList" "size" "I") ∈ lw_all := lw_g (lw_at lw_m7 229 rfl) rfl
theorem q1760 : (Jvm.Cond.soleField "java/util/LinkedList" "size") ∈ lw_all := lw_g (lw_at lw_m7 230 rfl) rfl
theorem q1761 : (Jvm.Cond.lays "java/util/LinkedList" "java/util/LinkedList" "first" "Ljava/util/LinkedList$Node;") ∈ lw_all := lw_g (lw_at lw_m7 231 rfl) rfl
theorem q1762 : (Jvm.Cond.soleField "java/util/LinkedList" "first") ∈ lw_all := lw_g (lw_at lw_m7 232 rfl) rfl
theorem q1763 : (Jvm.Cond.lays "java/util/LinkedList" "java/util/LinkedList" "last" "Ljava/util/LinkedList$Node;") ∈ lw_all := lw_g (lw_at lw_m7 233 rfl) rfl
theorem q1764 : (Jvm.Cond.soleField "java/util/LinkedList" "last") ∈ lw_all := lw_g (lw_at lw_m7 234 rfl) rfl
theorem q1765 : (Jvm.Cond.lays "java/util/LinkedList" "java/util/AbstractList" "modCount" "I") ∈ lw_all := lw_g (lw_at lw_m7 235 rfl) rfl
theorem q1766 : (Jvm.Cond.superclass "java/util/LinkedList" "java/util/AbstractSequentialList") ∈ lw_all := lw_g (lw_at lw_m7 236 rfl) rfl
theorem q1840 : (Jvm.Cond.sameMethod "java/util/LinkedList" "java/util/AbstractCollection" "isEmpty" "()Z") ∈ lw_all := lw_g (lw_at lw_m8 70 rfl) rfl
theorem q1842 : (Jvm.Cond.selects "java/util/LinkedList" ({ cls := "java/util/LinkedList", name := "isEmpty", desc := "()Z" } : Jvm.MethodName) ({ cls := "java/util/AbstractCollection", name := "isEmpty", desc := "()Z" } : Jvm.MethodName)) ∈ lw_all := lw_g (lw_at lw_m8 72 rfl) rfl
theorem q2005 : (Jvm.Cond.selects "java/util/LinkedList" ({ cls := "java/util/Collection", name := "isEmpty", desc := "()Z" } : Jvm.MethodName) ({ cls := "java/util/AbstractCollection", name := "isEmpty", desc := "()Z" } : Jvm.MethodName)) ∈ lw_all := lw_g (lw_at lw_m8 235 rfl) rfl
theorem q2006 : (Jvm.Cond.unhidden "java/util/LinkedList" "isEmpty" "()Z") ∈ lw_tbl := lw_at lw_m8 236 rfl
theorem q2024 : (Jvm.Cond.selects "java/util/LinkedList" ({ cls := "java/util/Deque", name := "removeLast", desc := "()Ljava/lang/Object;" } : Jvm.MethodName) ({ cls := "java/util/LinkedList", name := "removeLast", desc := "()Ljava/lang/Object;" } : Jvm.MethodName)) ∈ lw_all := lw_g (lw_at lw_m9 14 rfl) rfl
theorem q2025 : (Jvm.Cond.unhidden "java/util/LinkedList" "removeLast" "()Ljava/lang/Object;") ∈ lw_tbl := lw_at lw_m9 15 rfl
theorem q2026 : (Jvm.Cond.instanceMethod ({ cls := "java/util/LinkedList", name := "removeLast", desc := "()Ljava/lang/Object;" } : Jvm.MethodName)) ∈ lw_all := lw_g (lw_at lw_m9 16 rfl) rfl
theorem q2027 : (Jvm.Cond.publicMethod ({ cls := "java/util/LinkedList", name := "removeLast", desc := "()Ljava/lang/Object;" } : Jvm.MethodName)) ∈ lw_tbl := lw_at lw_m9 17 rfl
theorem q2028 : (Jvm.Cond.code ({ cls := "java/util/LinkedList", name := "removeLast", desc := "()Ljava/lang/Object;" } : Jvm.MethodName) prog_57_method_12_code (2 : Nat) (Option.some (Jvm.ClassFile.FieldType.object "java/lang/Object"))) ∈ lw_all := lw_g (lw_at lw_m9 18 rfl) rfl
theorem q2029 : (Jvm.Cond.methodLink "java/util/LinkedList" (50 : Nat) ({ cls := "java/util/LinkedList", name := "unlinkLast", desc := "(Ljava/util/LinkedList$Node;)Ljava/lang/Object;" } : Jvm.MethodName)) ∈ lw_all := lw_g (lw_at lw_m9 19 rfl) rfl
theorem q2030 : (Jvm.Cond.privateMethod ({ cls := "java/util/LinkedList", name := "unlinkLast", desc := "(Ljava/util/LinkedList$Node;)Ljava/lang/Object;" } : Jvm.MethodName)) ∈ lw_tbl := lw_at lw_m9 20 rfl
theorem q2031 : (Jvm.Cond.instanceMethod ({ cls := "java/util/LinkedList", name := "unlinkLast", desc := "(Ljava/util/LinkedList$Node;)Ljava/lang/Object;" } : Jvm.MethodName)) ∈ lw_all := lw_g (lw_at lw_m9 21 rfl) rfl
theorem q2032 : (Jvm.Cond.code ({ cls := "java/util/LinkedList", name := "unlinkLast", desc := "(Ljava/util/LinkedList$Node;)Ljava/lang/Object;" } : Jvm.MethodName) prog_57_method_7_code (4 : Nat) (Option.some (Jvm.ClassFile.FieldType.object "java/lang/Object"))) ∈ lw_all := lw_g (lw_at lw_m9 22 rfl) rfl
theorem q2051 : (Jvm.Cond.selects "java/util/LinkedList" ({ cls := "java/util/Collection", name := "clear", desc := "()V" } : Jvm.MethodName) ({ cls := "java/util/LinkedList", name := "clear", desc := "()V" } : Jvm.MethodName)) ∈ lw_all := lw_g (lw_at lw_m9 41 rfl) rfl
theorem q2052 : (Jvm.Cond.unhidden "java/util/LinkedList" "clear" "()V") ∈ lw_tbl := lw_at lw_m9 42 rfl
theorem q2053 : (Jvm.Cond.instanceMethod ({ cls := "java/util/LinkedList", name := "clear", desc := "()V" } : Jvm.MethodName)) ∈ lw_all := lw_g (lw_at lw_m9 43 rfl) rfl
theorem q2054 : (Jvm.Cond.publicMethod ({ cls := "java/util/LinkedList", name := "clear", desc := "()V" } : Jvm.MethodName)) ∈ lw_tbl := lw_at lw_m9 44 rfl
theorem q2055 : (Jvm.Cond.code ({ cls := "java/util/LinkedList", name := "clear", desc := "()V" } : Jvm.MethodName) prog_57_method_21_code (3 : Nat) (Option.none : Option Jvm.ClassFile.FieldType)) ∈ lw_all := lw_g (lw_at lw_m9 45 rfl) rfl
theorem q2531 : (Jvm.Cond.selects "java/util/LinkedList" ({ cls := "java/util/LinkedList", name := "addLast", desc := "(Ljava/lang/Object;)V" } : Jvm.MethodName) ({ cls := "java/util/LinkedList", name := "addLast", desc := "(Ljava/lang/Object;)V" } : Jvm.MethodName)) ∈ lw_all := lw_g (lw_at lw_m11 41 rfl) rfl
theorem q2537 : (Jvm.Cond.selects "java/util/LinkedList" ({ cls := "java/util/AbstractCollection", name := "size", desc := "()I" } : Jvm.MethodName) ({ cls := "java/util/LinkedList", name := "size", desc := "()I" } : Jvm.MethodName)) ∈ lw_all := lw_g (lw_at lw_m11 47 rfl) rfl
theorem q2538 : (Jvm.Cond.selects "java/util/LinkedList" ({ cls := "java/util/LinkedList", name := "removeFirst", desc := "()Ljava/lang/Object;" } : Jvm.MethodName) ({ cls := "java/util/LinkedList", name := "removeFirst", desc := "()Ljava/lang/Object;" } : Jvm.MethodName)) ∈ lw_all := lw_g (lw_at lw_m11 48 rfl) rfl
theorem q2563 : (Jvm.Cond.castable "java/util/LinkedList" "java/lang/Object") ∈ lw_tbl := lw_at lw_m11 73 rfl
theorem in_J30 : ∀ w ∈ wsJ300, w ∈ lw_all := lw_in wsJ300 [1765, 1759, 1761, 1763] (by decide +kernel) (by decide +kernel)
